/-! THE TABLES ARE RIGHT: each entry by the words of the tables (printed by tools/print_facts.py) -/
set_option maxRecDepth 100000
def ai_nw0 : List Cond := [.fieldLinkNest "BoardCrossing" 130 "BoardCrossing$Kept" "state" "LBoardCrossing$State;" "BoardCrossing",
  .fieldLinkNest "BoardCrossing" 152 "BoardCrossing$Rive\x72" "boards" "Ljava/util/ArrayList;" "BoardCrossing",
  .fieldLinkNest "BoardCrossing" 155 "BoardCrossing$Rive\x72" "loads" "Ljava/util/ArrayList;" "BoardCrossing",
  .fieldLinkNest "BoardCrossing" 185 "BoardCrossing$Wrong" "kind" "I" "BoardCrossing",
  .fieldLinkNest "BoardCrossing" 188 "BoardCrossing$Wrong" "place" "I" "BoardCrossing",
  .fieldLinkNest "BoardCrossing" 200 "BoardCrossing$State" "column" "[I" "BoardCrossing",
  .fieldLinkNest "BoardCrossing" 203 "BoardCrossing$State" "row" "[I" "BoardCrossing",
  .fieldLinkNest "BoardCrossing" 206 "BoardCrossing$State" "heat" "[I" "BoardCrossing",
  .fieldLinkNest "BoardCrossing" 209 "BoardCrossing$State" "scorches" "[I" "BoardCrossing",
  .fieldLinkNest "BoardCrossing" 212 "BoardCrossing$State" "strokes" "[I" "BoardCrossing",
  .fieldLinkNest "BoardCrossing" 218 "BoardCrossing$Board" "bears" "I" "BoardCrossing",
  .fieldLinkNest "BoardCrossing" 234 "BoardCrossing$State" "where" "[I" "BoardCrossing",
  .fieldLinkNest "BoardCrossing" 237 "BoardCrossing$Rive\x72" "columns" "I" "BoardCrossing",
  .fieldLinkNest "BoardCrossing" 240 "BoardCrossing$Rive\x72" "strokes" "I" "BoardCrossing",
  .fieldLinkNest "BoardCrossing" 242 "BoardCrossing$Rive\x72" "current" "[I" "BoardCrossing",
  .fieldLinkNest "BoardCrossing" 248 "BoardCrossing$Rive\x72" "isIron" "[Z" "BoardCrossing",
  .fieldLinkNest "BoardCrossing" 258 "BoardCrossing$State" "seed" "I" "BoardCrossing",
  .fieldLinkNest "BoardCrossing" 261 "BoardCrossing$Rive\x72" "flood" "I" "BoardCrossing",
  .fieldLinkNest "BoardCrossing" 314 "BoardCrossing$Wish" "best" "I" "BoardCrossing",
  .fieldLinkNest "BoardCrossing" 317 "BoardCrossing$Straightest" "to" "I" "BoardCrossing",
  .fieldLinkNest "BoardCrossing" 321 "BoardCrossing$Wish" "cost" "I" "BoardCrossing",
  .fieldLinkNest "BoardCrossing" 403 "BoardCrossing$Sight" "untold" "I" "BoardCrossing",
  .fieldLinkNest "BoardCrossing" 423 "BoardCrossing$Sight" "isHeat" "Z" "BoardCrossing",
  .fieldLinkNest "BoardCrossing" 427 "BoardCrossing$Sight" "stroke" "I" "BoardCrossing",
  .fieldLinkNest "BoardCrossing" 429 "BoardCrossing$Sight" "much" "I" "BoardCrossing",
  .fieldLinkNest "BoardCrossing" 432 "BoardCrossing$Sight" "is" "Z" "BoardCrossing",
  .fieldLinkNest "BoardCrossing" 447 "BoardCrossing$Rive\x72" "units" "I" "BoardCrossing",
  .fieldLinkNest "BoardCrossing$Coolest" 15 "BoardCrossing$State" "scorches" "[I" "BoardCrossing",
  .fieldLinkNest "BoardCrossing$Coolest" 21 "BoardCrossing" "now" "LBoardCrossing$State;" "BoardCrossing",
  .fieldLinkNest "BoardCrossing$Coolest" 25 "BoardCrossing$State" "heat" "[I" "BoardCrossing"]
theorem ai_nwt0 : ∀ w ∈ ai_nw0, w ∈ lw_tbl := List.forall_mem_cons.mpr ⟨q444, List.forall_mem_cons.mpr ⟨q209, List.forall_mem_cons.mpr ⟨q213, List.forall_mem_cons.mpr ⟨q373, List.forall_mem_cons.mpr ⟨q375, List.forall_mem_cons.mpr ⟨q294, List.forall_mem_cons.mpr ⟨q298, List.forall_mem_cons.mpr ⟨q302, List.forall_mem_cons.mpr ⟨q305, List.forall_mem_cons.mpr ⟨q308, List.forall_mem_cons.mpr ⟨q843, List.forall_mem_cons.mpr ⟨q310, List.forall_mem_cons.mpr ⟨q232, List.forall_mem_cons.mpr ⟨q237, List.forall_mem_cons.mpr ⟨q218, List.forall_mem_cons.mpr ⟨q224, List.forall_mem_cons.mpr ⟨q312, List.forall_mem_cons.mpr ⟨q243, List.forall_mem_cons.mpr ⟨q406, List.forall_mem_cons.mpr ⟨q426, List.forall_mem_cons.mpr ⟨q408, List.forall_mem_cons.mpr ⟨q1400, List.forall_mem_cons.mpr ⟨q1396, List.forall_mem_cons.mpr ⟨q1391, List.forall_mem_cons.mpr ⟨q1393, List.forall_mem_cons.mpr ⟨q1398, List.forall_mem_cons.mpr ⟨q242, List.forall_mem_cons.mpr ⟨q304, List.forall_mem_cons.mpr ⟨q481, List.forall_mem_cons.mpr ⟨q300, fun _ h => absurd h List.not_mem_nil⟩⟩⟩⟩⟩⟩⟩⟩⟩⟩⟩⟩⟩⟩⟩⟩⟩⟩⟩⟩⟩⟩⟩⟩⟩⟩⟩⟩⟩⟩
def ai_nw1 : List Cond := [.fieldLinkNest "BoardCrossing$Reade\x72" 126 "BoardCrossing$Rive\x72" "columns" "I" "BoardCrossing",
  .fieldLinkNest "BoardCrossing$Reade\x72" 133 "BoardCrossing$Rive\x72" "current" "[I" "BoardCrossing",
  .fieldLinkNest "BoardCrossing$Reade\x72" 137 "BoardCrossing$Rive\x72" "strokes" "I" "BoardCrossing",
  .fieldLinkNest "BoardCrossing$Reade\x72" 140 "BoardCrossing$Rive\x72" "hasCurrent" "[Z" "BoardCrossing",
  .fieldLinkNest "BoardCrossing$Reade\x72" 147 "BoardCrossing$Rive\x72" "currents" "I" "BoardCrossing",
  .fieldLinkNest "BoardCrossing$Reade\x72" 150 "BoardCrossing$Rive\x72" "isIron" "[Z" "BoardCrossing",
  .fieldLinkNest "BoardCrossing$Reade\x72" 153 "BoardCrossing$Rive\x72" "irons" "I" "BoardCrossing",
  .fieldLinkNest "BoardCrossing$Reade\x72" 158 "BoardCrossing$Rive\x72" "boards" "Ljava/util/ArrayList;" "BoardCrossing",
  .fieldLinkNest "BoardCrossing$Reade\x72" 177 "BoardCrossing$Board" "at" "I" "BoardCrossing",
  .fieldLinkNest "BoardCrossing$Reade\x72" 183 "BoardCrossing$Board" "bears" "I" "BoardCrossing",
  .fieldLinkNest "BoardCrossing$Reade\x72" 191 "BoardCrossing$Rive\x72" "loads" "Ljava/util/ArrayList;" "BoardCrossing",
  .fieldLinkNest "BoardCrossing$Reade\x72" 246 "BoardCrossing$Rive\x72" "units" "I" "BoardCrossing",
  .fieldLinkNest "BoardCrossing$Reade\x72" 259 "BoardCrossing$Rive\x72" "lines" "I" "BoardCrossing",
  .fieldLinkNest "BoardCrossing$Reade\x72" 273 "BoardCrossing$Rive\x72" "heat" "LBoardCrossing$Part;" "BoardCrossing",
  .fieldLinkNest "BoardCrossing$Reade\x72" 278 "BoardCrossing$Rive\x72" "hasFlood" "Z" "BoardCrossing",
  .fieldLinkNest "BoardCrossing$Reade\x72" 284 "BoardCrossing$Rive\x72" "hasDraw" "Z" "BoardCrossing",
  .fieldLinkNest "BoardCrossing$Reade\x72" 302 "BoardCrossing$Rive\x72" "flood" "I" "BoardCrossing",
  .fieldLinkNest "BoardCrossing$Reade\x72" 304 "BoardCrossing$Rive\x72" "draw" "I" "BoardCrossing",
  .fieldLinkNest "BoardCrossing$Rive\x72" 46 "BoardCrossing$State" "row" "[I" "BoardCrossing",
  .fieldLinkNest "BoardCrossing$Rive\x72" 51 "BoardCrossing$State" "column" "[I" "BoardCrossing",
  .fieldLinkNest "BoardCrossing$Rive\x72" 67 "BoardCrossing$State" "strokes" "[I" "BoardCrossing",
  .fieldLinkNest "BoardCrossing$Rive\x72" 69 "BoardCrossing$State" "heat" "[I" "BoardCrossing",
  .fieldLinkNest "BoardCrossing$State" 40 "BoardCrossing$Rive\x72" "boards" "Ljava/util/ArrayList;" "BoardCrossing",
  .fieldLinkNest "BoardCrossing$State" 58 "BoardCrossing$Board" "at" "I" "BoardCrossing",
  .fieldLinkNest "BoardCrossing$State" 61 "BoardCrossing$Rive\x72" "draw" "I" "BoardCrossing",
  .fieldLinkNest "BoardCrossing$State" 64 "BoardCrossing$Rive\x72" "loads" "Ljava/util/ArrayList;" "BoardCrossing",
  .fieldLinkNest "BoardCrossing$State" 75 "BoardCrossing$Rive\x72" "strokes" "I" "BoardCrossing",
  .fieldLinkNest "BoardCrossing$State" 81 "BoardCrossing$Rive\x72" "current" "[I" "BoardCrossing",
  .fieldLinkNest "BoardCrossing$State" 88 "BoardCrossing$Rive\x72" "columns" "I" "BoardCrossing",
  .fieldLinkNest "BoardCrossing$State" 94 "BoardCrossing$Rive\x72" "isIron" "[Z" "BoardCrossing"]
theorem ai_nwt1 : ∀ w ∈ ai_nw1, w ∈ lw_tbl := List.forall_mem_cons.mpr ⟨q231, List.forall_mem_cons.mpr ⟨q217, List.forall_mem_cons.mpr ⟨q236, List.forall_mem_cons.mpr ⟨q220, List.forall_mem_cons.mpr ⟨q239, List.forall_mem_cons.mpr ⟨q223, List.forall_mem_cons.mpr ⟨q240, List.forall_mem_cons.mpr ⟨q210, List.forall_mem_cons.mpr ⟨q840, List.forall_mem_cons.mpr ⟨q844, List.forall_mem_cons.mpr ⟨q214, List.forall_mem_cons.mpr ⟨q241, List.forall_mem_cons.mpr ⟨q238, List.forall_mem_cons.mpr ⟨q226, List.forall_mem_cons.mpr ⟨q227, List.forall_mem_cons.mpr ⟨q228, List.forall_mem_cons.mpr ⟨q244, List.forall_mem_cons.mpr ⟨q246, List.forall_mem_cons.mpr ⟨q296, List.forall_mem_cons.mpr ⟨q293, List.forall_mem_cons.mpr ⟨q307, List.forall_mem_cons.mpr ⟨q301, List.forall_mem_cons.mpr ⟨q208, List.forall_mem_cons.mpr ⟨q839, List.forall_mem_cons.mpr ⟨q245, List.forall_mem_cons.mpr ⟨q212, List.forall_mem_cons.mpr ⟨q235, List.forall_mem_cons.mpr ⟨q216, List.forall_mem_cons.mpr ⟨q230, List.forall_mem_cons.mpr ⟨q222, fun _ h => absurd h List.not_mem_nil⟩⟩⟩⟩⟩⟩⟩⟩⟩⟩⟩⟩⟩⟩⟩⟩⟩⟩⟩⟩⟩⟩⟩⟩⟩⟩⟩⟩⟩⟩
def ai_nw2 : List Cond := [.fieldLinkNest "BoardCrossing$State" 103 "BoardCrossing$Board" "bears" "I" "BoardCrossing",
  .fieldLinkNest "BoardCrossing$Straightest" 15 "BoardCrossing$State" "column" "[I" "BoardCrossing",
  .fieldLinkNest "BoardCrossing$Wish" 19 "BoardCrossing" "rive\x72" "LBoardCrossing$River;" "BoardCrossing",
  .fieldLinkNest "BoardCrossing$Wish" 23 "BoardCrossing$Rive\x72" "strokes" "I" "BoardCrossing",
  .fieldLinkNest "BoardCrossing$Wish" 28 "BoardCrossing" "now" "LBoardCrossing$State;" "BoardCrossing",
  .fieldLinkNest "BoardCrossing$Wish" 32 "BoardCrossing$State" "row" "[I" "BoardCrossing",
  .fieldLinkNest "BoardCrossing$Wish" 46 "BoardCrossing" "then" "LBoardCrossing$State;" "BoardCrossing",
  .fieldLinkNest "BoardCrossing$Wish" 56 "BoardCrossing" "laid" "I" "BoardCrossing",
  .fieldLinkNest "BoardCrossing$Wish" 59 "BoardCrossing" "laidRow" "[I" "BoardCrossing",
  .fieldLinkNest "java/util/ArrayList$It\x72" 28 "java/util/ArrayList" "size" "I" "java/util/ArrayList",
  .methodLinkNest "BoardCrossing" 18 ⟨"BoardCrossing$Rive\x72", "<init>", "()V"⟩ "BoardCrossing",
  .methodLinkNest "BoardCrossing" 27 ⟨"BoardCrossing$State", "<init>", "()V"⟩ "BoardCrossing",
  .methodLinkNest "BoardCrossing" 41 ⟨"BoardCrossing$Wrong", "<init>", "()V"⟩ "BoardCrossing",
  .methodLinkNest "BoardCrossing" 69 ⟨"BoardCrossing$Coolest", "<init>", "(LBoardCrossing;)V"⟩ "BoardCrossing",
  .methodLinkNest "BoardCrossing" 78 ⟨"BoardCrossing$Straightest", "<init>", "(LBoardCrossing;)V"⟩ "BoardCrossing",
  .methodLinkNest "BoardCrossing$Coolest" 9 ⟨"BoardCrossing$Wish", "<init>", "(LBoardCrossing;)V"⟩ "BoardCrossing",
  .methodLinkNest "BoardCrossing$Named" 1 ⟨"BoardCrossing$Part", "<init>", "()V"⟩ "BoardCrossing",
  .methodLinkNest "BoardCrossing$Not" 1 ⟨"BoardCrossing$Part", "<init>", "()V"⟩ "BoardCrossing",
  .methodLinkNest "BoardCrossing$Numeral" 1 ⟨"BoardCrossing$Part", "<init>", "()V"⟩ "BoardCrossing",
  .methodLinkNest "BoardCrossing$Reade\x72" 11 ⟨"BoardCrossing$Rive\x72", "<init>", "()V"⟩ "BoardCrossing",
  .methodLinkNest "BoardCrossing$Rive\x72" 77 ⟨"BoardCrossing", "within", "(II)I"⟩ "BoardCrossing",
  .methodLinkNest "BoardCrossing$State" 91 ⟨"BoardCrossing", "within", "(II)I"⟩ "BoardCrossing",
  .methodLinkNest "BoardCrossing$Straightest" 9 ⟨"BoardCrossing$Wish", "<init>", "(LBoardCrossing;)V"⟩ "BoardCrossing",
  .methodLinkNest "BoardCrossing$Two" 1 ⟨"BoardCrossing$Part", "<init>", "()V"⟩ "BoardCrossing",
  .methodLinkNest "BoardCrossing$Wish" 38 ⟨"BoardCrossing", "powe\x72", "(II)I"⟩ "BoardCrossing",
  .methodLinkNest "BoardCrossing$Wish" 42 ⟨"BoardCrossing", "goRow", "(III)I"⟩ "BoardCrossing",
  .methodLinkNest "BoardCrossing$Wish" 62 ⟨"BoardCrossing", "steerOf", "(III)I"⟩ "BoardCrossing",
  .castable "BoardCrossing" "java/lang/Object",
  .castable "BoardCrossing$Board" "BoardCrossing$Called",
  .castable "BoardCrossing$Board" "java/lang/Object"]
theorem ai_nwt2 : ∀ w ∈ ai_nw2, w ∈ lw_tbl := List.forall_mem_cons.mpr ⟨q842, List.forall_mem_cons.mpr ⟨q292, List.forall_mem_cons.mpr ⟨q479, List.forall_mem_cons.mpr ⟨q234, List.forall_mem_cons.mpr ⟨q482, List.forall_mem_cons.mpr ⟨q297, List.forall_mem_cons.mpr ⟨q484, List.forall_mem_cons.mpr ⟨q497, List.forall_mem_cons.mpr ⟨q494, List.forall_mem_cons.mpr ⟨q194, List.forall_mem_cons.mpr ⟨q174, List.forall_mem_cons.mpr ⟨q287, List.forall_mem_cons.mpr ⟨q365, List.forall_mem_cons.mpr ⟨q397, List.forall_mem_cons.mpr ⟨q421, List.forall_mem_cons.mpr ⟨q400, List.forall_mem_cons.mpr ⟨q1011, List.forall_mem_cons.mpr ⟨q970, List.forall_mem_cons.mpr ⟨q1001, List.forall_mem_cons.mpr ⟨q596, List.forall_mem_cons.mpr ⟨q1123, List.forall_mem_cons.mpr ⟨q1160, List.forall_mem_cons.mpr ⟨q424, List.forall_mem_cons.mpr ⟨q1021, List.forall_mem_cons.mpr ⟨q1249, List.forall_mem_cons.mpr ⟨q1250, List.forall_mem_cons.mpr ⟨q1260, List.forall_mem_cons.mpr ⟨q2241, List.forall_mem_cons.mpr ⟨q2237, List.forall_mem_cons.mpr ⟨q2250, fun _ h => absurd h List.not_mem_nil⟩⟩⟩⟩⟩⟩⟩⟩⟩⟩⟩⟩⟩⟩⟩⟩⟩⟩⟩⟩⟩⟩⟩⟩⟩⟩⟩⟩⟩⟩
def ai_nw3 : List Cond := [.castable "BoardCrossing$Coolest" "java/lang/Object",
  .castable "BoardCrossing$Kept" "java/lang/Object",
  .castable "BoardCrossing$Load" "BoardCrossing$Called",
  .castable "BoardCrossing$Load" "java/lang/Object",
  .castable "BoardCrossing$Named" "java/lang/Object",
  .castable "BoardCrossing$Not" "java/lang/Object",
  .castable "BoardCrossing$Numeral" "java/lang/Object",
  .castable "BoardCrossing$Reade\x72" "java/lang/Object",
  .castable "BoardCrossing$Rive\x72" "java/lang/Object",
  .castable "BoardCrossing$Sight" "java/lang/Object",
  .castable "BoardCrossing$State" "java/lang/Object",
  .castable "BoardCrossing$Straightest" "java/lang/Object",
  .castable "BoardCrossing$Two" "java/lang/Object",
  .castable "BoardCrossing$Wrong" "BoardCrossing$Wrong",
  .castable "BoardCrossing$Wrong" "java/lang/Object",
  .castable "BoardCrossingModel" "java/lang/Object",
  .castable "[B" "java/lang/Object",
  .castable "[I" "java/lang/Object",
  .castable "[J" "java/lang/Object",
  .castable "[LBoardCrossing$Kept;" "java/lang/Object",
  .castable "[Ljava/lang/Object;" "java/lang/Object",
  .castable "[Ljava/lang/String;" "java/lang/Object",
  .castable "[Z" "java/lang/Object",
  .castable "java/lang/String" "java/lang/Object",
  .castable "java/lang/Throwable" "java/lang/Object",
  .castable "java/util/ArrayList" "java/lang/Object",
  .castable "java/util/ArrayList$It\x72" "java/lang/Object",
  .castable "java/util/ArrayList$It\x72" "java/util/Iterato\x72",
  .declares ⟨"BoardCrossing$Part", "of", "([I)I"⟩,
  .declares ⟨"BoardCrossing$Wish", "costOf", "(LBoardCrossing$State;II)I"⟩]
theorem ai_nwt3 : ∀ w ∈ ai_nw3, w ∈ lw_tbl := List.forall_mem_cons.mpr ⟨q2246, List.forall_mem_cons.mpr ⟨q2239, List.forall_mem_cons.mpr ⟨q2238, List.forall_mem_cons.mpr ⟨q2252, List.forall_mem_cons.mpr ⟨q2255, List.forall_mem_cons.mpr ⟨q2253, List.forall_mem_cons.mpr ⟨q2254, List.forall_mem_cons.mpr ⟨q2249, List.forall_mem_cons.mpr ⟨q2242, List.forall_mem_cons.mpr ⟨q2257, List.forall_mem_cons.mpr ⟨q2244, List.forall_mem_cons.mpr ⟨q2247, List.forall_mem_cons.mpr ⟨q2256, List.forall_mem_cons.mpr ⟨q330, List.forall_mem_cons.mpr ⟨q2245, List.forall_mem_cons.mpr ⟨q2248, List.forall_mem_cons.mpr ⟨q2264, List.forall_mem_cons.mpr ⟨q2262, List.forall_mem_cons.mpr ⟨q2267, List.forall_mem_cons.mpr ⟨q2265, List.forall_mem_cons.mpr ⟨q2266, List.forall_mem_cons.mpr ⟨q2268, List.forall_mem_cons.mpr ⟨q2263, List.forall_mem_cons.mpr ⟨q2240, List.forall_mem_cons.mpr ⟨q2258, List.forall_mem_cons.mpr ⟨q2243, List.forall_mem_cons.mpr ⟨q2251, List.forall_mem_cons.mpr ⟨q812, List.forall_mem_cons.mpr ⟨q1104, List.forall_mem_cons.mpr ⟨q1252, fun _ h => absurd h List.not_mem_nil⟩⟩⟩⟩⟩⟩⟩⟩⟩⟩⟩⟩⟩⟩⟩⟩⟩⟩⟩⟩⟩⟩⟩⟩⟩⟩⟩⟩⟩⟩
def ai_nw4 : List Cond := [.declares ⟨"BoardCrossing$Wish", "seek", "(I)Z"⟩,
  .declares ⟨"java/lang/Exception", "<init>", "()V"⟩,
  .declares ⟨"java/lang/Exception", "<init>", "(Ljava/lang/String;)V"⟩,
  .declares ⟨"java/lang/Object", "getClass", "()Ljava/lang/Class;"⟩,
  .declares ⟨"java/lang/Throwable", "<init>", "()V"⟩,
  .declares ⟨"java/lang/Throwable", "<init>", "(Ljava/lang/String;)V"⟩,
  .declares ⟨"java/util/Iterato\x72", "hasNext", "()Z"⟩,
  .declares ⟨"java/util/Iterato\x72", "next", "()Ljava/lang/Object;"⟩]
theorem ai_nwt4 : ∀ w ∈ ai_nw4, w ∈ lw_tbl := List.forall_mem_cons.mpr ⟨q1267, List.forall_mem_cons.mpr ⟨q331, List.forall_mem_cons.mpr ⟨q332, List.forall_mem_cons.mpr ⟨q2261, List.forall_mem_cons.mpr ⟨q333, List.forall_mem_cons.mpr ⟨q334, List.forall_mem_cons.mpr ⟨q811, List.forall_mem_cons.mpr ⟨q821, fun _ h => absurd h List.not_mem_nil⟩⟩⟩⟩⟩⟩⟩⟩
def ai_nw : List Cond := ai_nw0 ++ ai_nw1 ++ ai_nw2 ++ ai_nw3 ++ ai_nw4
theorem ai_nwt : ∀ w ∈ ai_nw, w ∈ lw_tbl := by
  unfold ai_nw
  exact List.forall_mem_append.mpr ⟨List.forall_mem_append.mpr ⟨List.forall_mem_append.mpr ⟨List.forall_mem_append.mpr ⟨ai_nwt0, ai_nwt1⟩, ai_nwt2⟩, ai_nwt3⟩, ai_nwt4⟩
theorem ai_nwm {w : Cond} (h : w ∈ ai_nw) : w ∈ ai_nw := h
theorem nw444 : (Jvm.Cond.fieldLinkNest "BoardCrossing" 130 "BoardCrossing$Kept" "state" "LBoardCrossing$State;" "BoardCrossing" : Cond) ∈ ai_nw := by
  unfold ai_nw
  exact (List.mem_append_left _ (List.mem_append_left _ (List.mem_append_left _ (List.mem_append_left _ (List.mem_of_getElem? (i := 0) rfl)))))
theorem nw209 : (Jvm.Cond.fieldLinkNest "BoardCrossing" 152 "BoardCrossing$Rive\x72" "boards" "Ljava/util/ArrayList;" "BoardCrossing" : Cond) ∈ ai_nw := by
  unfold ai_nw
  exact (List.mem_append_left _ (List.mem_append_left _ (List.mem_append_left _ (List.mem_append_left _ (List.mem_of_getElem? (i := 1) rfl)))))
theorem nw213 : (Jvm.Cond.fieldLinkNest "BoardCrossing" 155 "BoardCrossing$Rive\x72" "loads" "Ljava/util/ArrayList;" "BoardCrossing" : Cond) ∈ ai_nw := by
  unfold ai_nw
  exact (List.mem_append_left _ (List.mem_append_left _ (List.mem_append_left _ (List.mem_append_left _ (List.mem_of_getElem? (i := 2) rfl)))))
theorem nw373 : (Jvm.Cond.fieldLinkNest "BoardCrossing" 185 "BoardCrossing$Wrong" "kind" "I" "BoardCrossing" : Cond) ∈ ai_nw := by
  unfold ai_nw
  exact (List.mem_append_left _ (List.mem_append_left _ (List.mem_append_left _ (List.mem_append_left _ (List.mem_of_getElem? (i := 3) rfl)))))
theorem nw375 : (Jvm.Cond.fieldLinkNest "BoardCrossing" 188 "BoardCrossing$Wrong" "place" "I" "BoardCrossing" : Cond) ∈ ai_nw := by
  unfold ai_nw
  exact (List.mem_append_left _ (List.mem_append_left _ (List.mem_append_left _ (List.mem_append_left _ (List.mem_of_getElem? (i := 4) rfl)))))
theorem nw294 : (Jvm.Cond.fieldLinkNest "BoardCrossing" 200 "BoardCrossing$State" "column" "[I" "BoardCrossing" : Cond) ∈ ai_nw := by
  unfold ai_nw
  exact (List.mem_append_left _ (List.mem_append_left _ (List.mem_append_left _ (List.mem_append_left _ (List.mem_of_getElem? (i := 5) rfl)))))
theorem nw298 : (Jvm.Cond.fieldLinkNest "BoardCrossing" 203 "BoardCrossing$State" "row" "[I" "BoardCrossing" : Cond) ∈ ai_nw := by
  unfold ai_nw
  exact (List.mem_append_left _ (List.mem_append_left _ (List.mem_append_left _ (List.mem_append_left _ (List.mem_of_getElem? (i := 6) rfl)))))
theorem nw302 : (Jvm.Cond.fieldLinkNest "BoardCrossing" 206 "BoardCrossing$State" "heat" "[I" "BoardCrossing" : Cond) ∈ ai_nw := by
  unfold ai_nw
  exact (List.mem_append_left _ (List.mem_append_left _ (List.mem_append_left _ (List.mem_append_left _ (List.mem_of_getElem? (i := 7) rfl)))))
theorem nw305 : (Jvm.Cond.fieldLinkNest "BoardCrossing" 209 "BoardCrossing$State" "scorches" "[I" "BoardCrossing" : Cond) ∈ ai_nw := by
  unfold ai_nw
  exact (List.mem_append_left _ (List.mem_append_left _ (List.mem_append_left _ (List.mem_append_left _ (List.mem_of_getElem? (i := 8) rfl)))))
theorem nw308 : (Jvm.Cond.fieldLinkNest "BoardCrossing" 212 "BoardCrossing$State" "strokes" "[I" "BoardCrossing" : Cond) ∈ ai_nw := by
  unfold ai_nw
  exact (List.mem_append_left _ (List.mem_append_left _ (List.mem_append_left _ (List.mem_append_left _ (List.mem_of_getElem? (i := 9) rfl)))))
theorem nw843 : (Jvm.Cond.fieldLinkNest "BoardCrossing" 218 "BoardCrossing$Board" "bears" "I" "BoardCrossing" : Cond) ∈ ai_nw := by
  unfold ai_nw
  exact (List.mem_append_left _ (List.mem_append_left _ (List.mem_append_left _ (List.mem_append_left _ (List.mem_of_getElem? (i := 10) rfl)))))
theorem nw310 : (Jvm.Cond.fieldLinkNest "BoardCrossing" 234 "BoardCrossing$State" "where" "[I" "BoardCrossing" : Cond) ∈ ai_nw := by
  unfold ai_nw
  exact (List.mem_append_left _ (List.mem_append_left _ (List.mem_append_left _ (List.mem_append_left _ (List.mem_of_getElem? (i := 11) rfl)))))
theorem nw232 : (Jvm.Cond.fieldLinkNest "BoardCrossing" 237 "BoardCrossing$Rive\x72" "columns" "I" "BoardCrossing" : Cond) ∈ ai_nw := by
  unfold ai_nw
  exact (List.mem_append_left _ (List.mem_append_left _ (List.mem_append_left _ (List.mem_append_left _ (List.mem_of_getElem? (i := 12) rfl)))))
theorem nw237 : (Jvm.Cond.fieldLinkNest "BoardCrossing" 240 "BoardCrossing$Rive\x72" "strokes" "I" "BoardCrossing" : Cond) ∈ ai_nw := by
  unfold ai_nw
  exact (List.mem_append_left _ (List.mem_append_left _ (List.mem_append_left _ (List.mem_append_left _ (List.mem_of_getElem? (i := 13) rfl)))))
theorem nw218 : (Jvm.Cond.fieldLinkNest "BoardCrossing" 242 "BoardCrossing$Rive\x72" "current" "[I" "BoardCrossing" : Cond) ∈ ai_nw := by
  unfold ai_nw
  exact (List.mem_append_left _ (List.mem_append_left _ (List.mem_append_left _ (List.mem_append_left _ (List.mem_of_getElem? (i := 14) rfl)))))
theorem nw224 : (Jvm.Cond.fieldLinkNest "BoardCrossing" 248 "BoardCrossing$Rive\x72" "isIron" "[Z" "BoardCrossing" : Cond) ∈ ai_nw := by
  unfold ai_nw
  exact (List.mem_append_left _ (List.mem_append_left _ (List.mem_append_left _ (List.mem_append_left _ (List.mem_of_getElem? (i := 15) rfl)))))
theorem nw312 : (Jvm.Cond.fieldLinkNest "BoardCrossing" 258 "BoardCrossing$State" "seed" "I" "BoardCrossing" : Cond) ∈ ai_nw := by
  unfold ai_nw
  exact (List.mem_append_left _ (List.mem_append_left _ (List.mem_append_left _ (List.mem_append_left _ (List.mem_of_getElem? (i := 16) rfl)))))
theorem nw243 : (Jvm.Cond.fieldLinkNest "BoardCrossing" 261 "BoardCrossing$Rive\x72" "flood" "I" "BoardCrossing" : Cond) ∈ ai_nw := by
  unfold ai_nw
  exact (List.mem_append_left _ (List.mem_append_left _ (List.mem_append_left _ (List.mem_append_left _ (List.mem_of_getElem? (i := 17) rfl)))))
theorem nw406 : (Jvm.Cond.fieldLinkNest "BoardCrossing" 314 "BoardCrossing$Wish" "best" "I" "BoardCrossing" : Cond) ∈ ai_nw := by
  unfold ai_nw
  exact (List.mem_append_left _ (List.mem_append_left _ (List.mem_append_left _ (List.mem_append_left _ (List.mem_of_getElem? (i := 18) rfl)))))
theorem nw426 : (Jvm.Cond.fieldLinkNest "BoardCrossing" 317 "BoardCrossing$Straightest" "to" "I" "BoardCrossing" : Cond) ∈ ai_nw := by
  unfold ai_nw
  exact (List.mem_append_left _ (List.mem_append_left _ (List.mem_append_left _ (List.mem_append_left _ (List.mem_of_getElem? (i := 19) rfl)))))
theorem nw408 : (Jvm.Cond.fieldLinkNest "BoardCrossing" 321 "BoardCrossing$Wish" "cost" "I" "BoardCrossing" : Cond) ∈ ai_nw := by
  unfold ai_nw
  exact (List.mem_append_left _ (List.mem_append_left _ (List.mem_append_left _ (List.mem_append_left _ (List.mem_of_getElem? (i := 20) rfl)))))
theorem nw1400 : (Jvm.Cond.fieldLinkNest "BoardCrossing" 403 "BoardCrossing$Sight" "untold" "I" "BoardCrossing" : Cond) ∈ ai_nw := by
  unfold ai_nw
  exact (List.mem_append_left _ (List.mem_append_left _ (List.mem_append_left _ (List.mem_append_left _ (List.mem_of_getElem? (i := 21) rfl)))))
theorem nw1396 : (Jvm.Cond.fieldLinkNest "BoardCrossing" 423 "BoardCrossing$Sight" "isHeat" "Z" "BoardCrossing" : Cond) ∈ ai_nw := by
  unfold ai_nw
  exact (List.mem_append_left _ (List.mem_append_left _ (List.mem_append_left _ (List.mem_append_left _ (List.mem_of_getElem? (i := 22) rfl)))))
theorem nw1391 : (Jvm.Cond.fieldLinkNest "BoardCrossing" 427 "BoardCrossing$Sight" "stroke" "I" "BoardCrossing" : Cond) ∈ ai_nw := by
  unfold ai_nw
  exact (List.mem_append_left _ (List.mem_append_left _ (List.mem_append_left _ (List.mem_append_left _ (List.mem_of_getElem? (i := 23) rfl)))))
theorem nw1393 : (Jvm.Cond.fieldLinkNest "BoardCrossing" 429 "BoardCrossing$Sight" "much" "I" "BoardCrossing" : Cond) ∈ ai_nw := by
  unfold ai_nw
  exact (List.mem_append_left _ (List.mem_append_left _ (List.mem_append_left _ (List.mem_append_left _ (List.mem_of_getElem? (i := 24) rfl)))))
theorem nw1398 : (Jvm.Cond.fieldLinkNest "BoardCrossing" 432 "BoardCrossing$Sight" "is" "Z" "BoardCrossing" : Cond) ∈ ai_nw := by
  unfold ai_nw
  exact (List.mem_append_left _ (List.mem_append_left _ (List.mem_append_left _ (List.mem_append_left _ (List.mem_of_getElem? (i := 25) rfl)))))
theorem nw242 : (Jvm.Cond.fieldLinkNest "BoardCrossing" 447 "BoardCrossing$Rive\x72" "units" "I" "BoardCrossing" : Cond) ∈ ai_nw := by
  unfold ai_nw
  exact (List.mem_append_left _ (List.mem_append_left _ (List.mem_append_left _ (List.mem_append_left _ (List.mem_of_getElem? (i := 26) rfl)))))
theorem nw304 : (Jvm.Cond.fieldLinkNest "BoardCrossing$Coolest" 15 "BoardCrossing$State" "scorches" "[I" "BoardCrossing" : Cond) ∈ ai_nw := by
  unfold ai_nw
  exact (List.mem_append_left _ (List.mem_append_left _ (List.mem_append_left _ (List.mem_append_left _ (List.mem_of_getElem? (i := 27) rfl)))))
theorem nw481 : (Jvm.Cond.fieldLinkNest "BoardCrossing$Coolest" 21 "BoardCrossing" "now" "LBoardCrossing$State;" "BoardCrossing" : Cond) ∈ ai_nw := by
  unfold ai_nw
  exact (List.mem_append_left _ (List.mem_append_left _ (List.mem_append_left _ (List.mem_append_left _ (List.mem_of_getElem? (i := 28) rfl)))))
theorem nw300 : (Jvm.Cond.fieldLinkNest "BoardCrossing$Coolest" 25 "BoardCrossing$State" "heat" "[I" "BoardCrossing" : Cond) ∈ ai_nw := by
  unfold ai_nw
  exact (List.mem_append_left _ (List.mem_append_left _ (List.mem_append_left _ (List.mem_append_left _ (List.mem_of_getElem? (i := 29) rfl)))))
theorem nw231 : (Jvm.Cond.fieldLinkNest "BoardCrossing$Reade\x72" 126 "BoardCrossing$Rive\x72" "columns" "I" "BoardCrossing" : Cond) ∈ ai_nw := by
  unfold ai_nw
  exact (List.mem_append_left _ (List.mem_append_left _ (List.mem_append_left _ (List.mem_append_right _ (List.mem_of_getElem? (i := 0) rfl)))))
theorem nw217 : (Jvm.Cond.fieldLinkNest "BoardCrossing$Reade\x72" 133 "BoardCrossing$Rive\x72" "current" "[I" "BoardCrossing" : Cond) ∈ ai_nw := by
  unfold ai_nw
  exact (List.mem_append_left _ (List.mem_append_left _ (List.mem_append_left _ (List.mem_append_right _ (List.mem_of_getElem? (i := 1) rfl)))))
theorem nw236 : (Jvm.Cond.fieldLinkNest "BoardCrossing$Reade\x72" 137 "BoardCrossing$Rive\x72" "strokes" "I" "BoardCrossing" : Cond) ∈ ai_nw := by
  unfold ai_nw
  exact (List.mem_append_left _ (List.mem_append_left _ (List.mem_append_left _ (List.mem_append_right _ (List.mem_of_getElem? (i := 2) rfl)))))
theorem nw220 : (Jvm.Cond.fieldLinkNest "BoardCrossing$Reade\x72" 140 "BoardCrossing$Rive\x72" "hasCurrent" "[Z" "BoardCrossing" : Cond) ∈ ai_nw := by
  unfold ai_nw
  exact (List.mem_append_left _ (List.mem_append_left _ (List.mem_append_left _ (List.mem_append_right _ (List.mem_of_getElem? (i := 3) rfl)))))
theorem nw239 : (Jvm.Cond.fieldLinkNest "BoardCrossing$Reade\x72" 147 "BoardCrossing$Rive\x72" "currents" "I" "BoardCrossing" : Cond) ∈ ai_nw := by
  unfold ai_nw
  exact (List.mem_append_left _ (List.mem_append_left _ (List.mem_append_left _ (List.mem_append_right _ (List.mem_of_getElem? (i := 4) rfl)))))
theorem nw223 : (Jvm.Cond.fieldLinkNest "BoardCrossing$Reade\x72" 150 "BoardCrossing$Rive\x72" "isIron" "[Z" "BoardCrossing" : Cond) ∈ ai_nw := by
  unfold ai_nw
  exact (List.mem_append_left _ (List.mem_append_left _ (List.mem_append_left _ (List.mem_append_right _ (List.mem_of_getElem? (i := 5) rfl)))))
theorem nw240 : (Jvm.Cond.fieldLinkNest "BoardCrossing$Reade\x72" 153 "BoardCrossing$Rive\x72" "irons" "I" "BoardCrossing" : Cond) ∈ ai_nw := by
  unfold ai_nw
  exact (List.mem_append_left _ (List.mem_append_left _ (List.mem_append_left _ (List.mem_append_right _ (List.mem_of_getElem? (i := 6) rfl)))))
theorem nw210 : (Jvm.Cond.fieldLinkNest "BoardCrossing$Reade\x72" 158 "BoardCrossing$Rive\x72" "boards" "Ljava/util/ArrayList;" "BoardCrossing" : Cond) ∈ ai_nw := by
  unfold ai_nw
  exact (List.mem_append_left _ (List.mem_append_left _ (List.mem_append_left _ (List.mem_append_right _ (List.mem_of_getElem? (i := 7) rfl)))))
theorem nw840 : (Jvm.Cond.fieldLinkNest "BoardCrossing$Reade\x72" 177 "BoardCrossing$Board" "at" "I" "BoardCrossing" : Cond) ∈ ai_nw := by
  unfold ai_nw
  exact (List.mem_append_left _ (List.mem_append_left _ (List.mem_append_left _ (List.mem_append_right _ (List.mem_of_getElem? (i := 8) rfl)))))
theorem nw844 : (Jvm.Cond.fieldLinkNest "BoardCrossing$Reade\x72" 183 "BoardCrossing$Board" "bears" "I" "BoardCrossing" : Cond) ∈ ai_nw := by
  unfold ai_nw
  exact (List.mem_append_left _ (List.mem_append_left _ (List.mem_append_left _ (List.mem_append_right _ (List.mem_of_getElem? (i := 9) rfl)))))
theorem nw214 : (Jvm.Cond.fieldLinkNest "BoardCrossing$Reade\x72" 191 "BoardCrossing$Rive\x72" "loads" "Ljava/util/ArrayList;" "BoardCrossing" : Cond) ∈ ai_nw := by
  unfold ai_nw
  exact (List.mem_append_left _ (List.mem_append_left _ (List.mem_append_left _ (List.mem_append_right _ (List.mem_of_getElem? (i := 10) rfl)))))
theorem nw241 : (Jvm.Cond.fieldLinkNest "BoardCrossing$Reade\x72" 246 "BoardCrossing$Rive\x72" "units" "I" "BoardCrossing" : Cond) ∈ ai_nw := by
  unfold ai_nw
  exact (List.mem_append_left _ (List.mem_append_left _ (List.mem_append_left _ (List.mem_append_right _ (List.mem_of_getElem? (i := 11) rfl)))))
theorem nw238 : (Jvm.Cond.fieldLinkNest "BoardCrossing$Reade\x72" 259 "BoardCrossing$Rive\x72" "lines" "I" "BoardCrossing" : Cond) ∈ ai_nw := by
  unfold ai_nw
  exact (List.mem_append_left _ (List.mem_append_left _ (List.mem_append_left _ (List.mem_append_right _ (List.mem_of_getElem? (i := 12) rfl)))))
theorem nw226 : (Jvm.Cond.fieldLinkNest "BoardCrossing$Reade\x72" 273 "BoardCrossing$Rive\x72" "heat" "LBoardCrossing$Part;" "BoardCrossing" : Cond) ∈ ai_nw := by
  unfold ai_nw
  exact (List.mem_append_left _ (List.mem_append_left _ (List.mem_append_left _ (List.mem_append_right _ (List.mem_of_getElem? (i := 13) rfl)))))
theorem nw227 : (Jvm.Cond.fieldLinkNest "BoardCrossing$Reade\x72" 278 "BoardCrossing$Rive\x72" "hasFlood" "Z" "BoardCrossing" : Cond) ∈ ai_nw := by
  unfold ai_nw
  exact (List.mem_append_left _ (List.mem_append_left _ (List.mem_append_left _ (List.mem_append_right _ (List.mem_of_getElem? (i := 14) rfl)))))
theorem nw228 : (Jvm.Cond.fieldLinkNest "BoardCrossing$Reade\x72" 284 "BoardCrossing$Rive\x72" "hasDraw" "Z" "BoardCrossing" : Cond) ∈ ai_nw := by
  unfold ai_nw
  exact (List.mem_append_left _ (List.mem_append_left _ (List.mem_append_left _ (List.mem_append_right _ (List.mem_of_getElem? (i := 15) rfl)))))
theorem nw244 : (Jvm.Cond.fieldLinkNest "BoardCrossing$Reade\x72" 302 "BoardCrossing$Rive\x72" "flood" "I" "BoardCrossing" : Cond) ∈ ai_nw := by
  unfold ai_nw
  exact (List.mem_append_left _ (List.mem_append_left _ (List.mem_append_left _ (List.mem_append_right _ (List.mem_of_getElem? (i := 16) rfl)))))
theorem nw246 : (Jvm.Cond.fieldLinkNest "BoardCrossing$Reade\x72" 304 "BoardCrossing$Rive\x72" "draw" "I" "BoardCrossing" : Cond) ∈ ai_nw := by
  unfold ai_nw
  exact (List.mem_append_left _ (List.mem_append_left _ (List.mem_append_left _ (List.mem_append_right _ (List.mem_of_getElem? (i := 17) rfl)))))
theorem nw296 : (Jvm.Cond.fieldLinkNest "BoardCrossing$Rive\x72" 46 "BoardCrossing$State" "row" "[I" "BoardCrossing" : Cond) ∈ ai_nw := by
  unfold ai_nw
  exact (List.mem_append_left _ (List.mem_append_left _ (List.mem_append_left _ (List.mem_append_right _ (List.mem_of_getElem? (i := 18) rfl)))))
theorem nw293 : (Jvm.Cond.fieldLinkNest "BoardCrossing$Rive\x72" 51 "BoardCrossing$State" "column" "[I" "BoardCrossing" : Cond) ∈ ai_nw := by
  unfold ai_nw
  exact (List.mem_append_left _ (List.mem_append_left _ (List.mem_append_left _ (List.mem_append_right _ (List.mem_of_getElem? (i := 19) rfl)))))
theorem nw307 : (Jvm.Cond.fieldLinkNest "BoardCrossing$Rive\x72" 67 "BoardCrossing$State" "strokes" "[I" "BoardCrossing" : Cond) ∈ ai_nw := by
  unfold ai_nw
  exact (List.mem_append_left _ (List.mem_append_left _ (List.mem_append_left _ (List.mem_append_right _ (List.mem_of_getElem? (i := 20) rfl)))))
theorem nw301 : (Jvm.Cond.fieldLinkNest "BoardCrossing$Rive\x72" 69 "BoardCrossing$State" "heat" "[I" "BoardCrossing" : Cond) ∈ ai_nw := by
  unfold ai_nw
  exact (List.mem_append_left _ (List.mem_append_left _ (List.mem_append_left _ (List.mem_append_right _ (List.mem_of_getElem? (i := 21) rfl)))))
theorem nw208 : (Jvm.Cond.fieldLinkNest "BoardCrossing$State" 40 "BoardCrossing$Rive\x72" "boards" "Ljava/util/ArrayList;" "BoardCrossing" : Cond) ∈ ai_nw := by
  unfold ai_nw
  exact (List.mem_append_left _ (List.mem_append_left _ (List.mem_append_left _ (List.mem_append_right _ (List.mem_of_getElem? (i := 22) rfl)))))
theorem nw839 : (Jvm.Cond.fieldLinkNest "BoardCrossing$State" 58 "BoardCrossing$Board" "at" "I" "BoardCrossing" : Cond) ∈ ai_nw := by
  unfold ai_nw
  exact (List.mem_append_left _ (List.mem_append_left _ (List.mem_append_left _ (List.mem_append_right _ (List.mem_of_getElem? (i := 23) rfl)))))
theorem nw245 : (Jvm.Cond.fieldLinkNest "BoardCrossing$State" 61 "BoardCrossing$Rive\x72" "draw" "I" "BoardCrossing" : Cond) ∈ ai_nw := by
  unfold ai_nw
  exact (List.mem_append_left _ (List.mem_append_left _ (List.mem_append_left _ (List.mem_append_right _ (List.mem_of_getElem? (i := 24) rfl)))))
theorem nw212 : (Jvm.Cond.fieldLinkNest "BoardCrossing$State" 64 "BoardCrossing$Rive\x72" "loads" "Ljava/util/ArrayList;" "BoardCrossing" : Cond) ∈ ai_nw := by
  unfold ai_nw
  exact (List.mem_append_left _ (List.mem_append_left _ (List.mem_append_left _ (List.mem_append_right _ (List.mem_of_getElem? (i := 25) rfl)))))
theorem nw235 : (Jvm.Cond.fieldLinkNest "BoardCrossing$State" 75 "BoardCrossing$Rive\x72" "strokes" "I" "BoardCrossing" : Cond) ∈ ai_nw := by
  unfold ai_nw
  exact (List.mem_append_left _ (List.mem_append_left _ (List.mem_append_left _ (List.mem_append_right _ (List.mem_of_getElem? (i := 26) rfl)))))
theorem nw216 : (Jvm.Cond.fieldLinkNest "BoardCrossing$State" 81 "BoardCrossing$Rive\x72" "current" "[I" "BoardCrossing" : Cond) ∈ ai_nw := by
  unfold ai_nw
  exact (List.mem_append_left _ (List.mem_append_left _ (List.mem_append_left _ (List.mem_append_right _ (List.mem_of_getElem? (i := 27) rfl)))))
theorem nw230 : (Jvm.Cond.fieldLinkNest "BoardCrossing$State" 88 "BoardCrossing$Rive\x72" "columns" "I" "BoardCrossing" : Cond) ∈ ai_nw := by
  unfold ai_nw
  exact (List.mem_append_left _ (List.mem_append_left _ (List.mem_append_left _ (List.mem_append_right _ (List.mem_of_getElem? (i := 28) rfl)))))
theorem nw222 : (Jvm.Cond.fieldLinkNest "BoardCrossing$State" 94 "BoardCrossing$Rive\x72" "isIron" "[Z" "BoardCrossing" : Cond) ∈ ai_nw := by
  unfold ai_nw
  exact (List.mem_append_left _ (List.mem_append_left _ (List.mem_append_left _ (List.mem_append_right _ (List.mem_of_getElem? (i := 29) rfl)))))
theorem nw842 : (Jvm.Cond.fieldLinkNest "BoardCrossing$State" 103 "BoardCrossing$Board" "bears" "I" "BoardCrossing" : Cond) ∈ ai_nw := by
  unfold ai_nw
  exact (List.mem_append_left _ (List.mem_append_left _ (List.mem_append_right _ (List.mem_of_getElem? (i := 0) rfl))))
theorem nw292 : (Jvm.Cond.fieldLinkNest "BoardCrossing$Straightest" 15 "BoardCrossing$State" "column" "[I" "BoardCrossing" : Cond) ∈ ai_nw := by
  unfold ai_nw
  exact (List.mem_append_left _ (List.mem_append_left _ (List.mem_append_right _ (List.mem_of_getElem? (i := 1) rfl))))
theorem nw479 : (Jvm.Cond.fieldLinkNest "BoardCrossing$Wish" 19 "BoardCrossing" "rive\x72" "LBoardCrossing$River;" "BoardCrossing" : Cond) ∈ ai_nw := by
  unfold ai_nw
  exact (List.mem_append_left _ (List.mem_append_left _ (List.mem_append_right _ (List.mem_of_getElem? (i := 2) rfl))))
theorem nw234 : (Jvm.Cond.fieldLinkNest "BoardCrossing$Wish" 23 "BoardCrossing$Rive\x72" "strokes" "I" "BoardCrossing" : Cond) ∈ ai_nw := by
  unfold ai_nw
  exact (List.mem_append_left _ (List.mem_append_left _ (List.mem_append_right _ (List.mem_of_getElem? (i := 3) rfl))))
theorem nw482 : (Jvm.Cond.fieldLinkNest "BoardCrossing$Wish" 28 "BoardCrossing" "now" "LBoardCrossing$State;" "BoardCrossing" : Cond) ∈ ai_nw := by
  unfold ai_nw
  exact (List.mem_append_left _ (List.mem_append_left _ (List.mem_append_right _ (List.mem_of_getElem? (i := 4) rfl))))
theorem nw297 : (Jvm.Cond.fieldLinkNest "BoardCrossing$Wish" 32 "BoardCrossing$State" "row" "[I" "BoardCrossing" : Cond) ∈ ai_nw := by
  unfold ai_nw
  exact (List.mem_append_left _ (List.mem_append_left _ (List.mem_append_right _ (List.mem_of_getElem? (i := 5) rfl))))
theorem nw484 : (Jvm.Cond.fieldLinkNest "BoardCrossing$Wish" 46 "BoardCrossing" "then" "LBoardCrossing$State;" "BoardCrossing" : Cond) ∈ ai_nw := by
  unfold ai_nw
  exact (List.mem_append_left _ (List.mem_append_left _ (List.mem_append_right _ (List.mem_of_getElem? (i := 6) rfl))))
theorem nw497 : (Jvm.Cond.fieldLinkNest "BoardCrossing$Wish" 56 "BoardCrossing" "laid" "I" "BoardCrossing" : Cond) ∈ ai_nw := by
  unfold ai_nw
  exact (List.mem_append_left _ (List.mem_append_left _ (List.mem_append_right _ (List.mem_of_getElem? (i := 7) rfl))))
theorem nw494 : (Jvm.Cond.fieldLinkNest "BoardCrossing$Wish" 59 "BoardCrossing" "laidRow" "[I" "BoardCrossing" : Cond) ∈ ai_nw := by
  unfold ai_nw
  exact (List.mem_append_left _ (List.mem_append_left _ (List.mem_append_right _ (List.mem_of_getElem? (i := 8) rfl))))
theorem nw194 : (Jvm.Cond.fieldLinkNest "java/util/ArrayList$It\x72" 28 "java/util/ArrayList" "size" "I" "java/util/ArrayList" : Cond) ∈ ai_nw := by
  unfold ai_nw
  exact (List.mem_append_left _ (List.mem_append_left _ (List.mem_append_right _ (List.mem_of_getElem? (i := 9) rfl))))
theorem nw174 : (Jvm.Cond.methodLinkNest "BoardCrossing" 18 ⟨"BoardCrossing$Rive\x72", "<init>", "()V"⟩ "BoardCrossing" : Cond) ∈ ai_nw := by
  unfold ai_nw
  exact (List.mem_append_left _ (List.mem_append_left _ (List.mem_append_right _ (List.mem_of_getElem? (i := 10) rfl))))
theorem nw287 : (Jvm.Cond.methodLinkNest "BoardCrossing" 27 ⟨"BoardCrossing$State", "<init>", "()V"⟩ "BoardCrossing" : Cond) ∈ ai_nw := by
  unfold ai_nw
  exact (List.mem_append_left _ (List.mem_append_left _ (List.mem_append_right _ (List.mem_of_getElem? (i := 11) rfl))))
theorem nw365 : (Jvm.Cond.methodLinkNest "BoardCrossing" 41 ⟨"BoardCrossing$Wrong", "<init>", "()V"⟩ "BoardCrossing" : Cond) ∈ ai_nw := by
  unfold ai_nw
  exact (List.mem_append_left _ (List.mem_append_left _ (List.mem_append_right _ (List.mem_of_getElem? (i := 12) rfl))))
theorem nw397 : (Jvm.Cond.methodLinkNest "BoardCrossing" 69 ⟨"BoardCrossing$Coolest", "<init>", "(LBoardCrossing;)V"⟩ "BoardCrossing" : Cond) ∈ ai_nw := by
  unfold ai_nw
  exact (List.mem_append_left _ (List.mem_append_left _ (List.mem_append_right _ (List.mem_of_getElem? (i := 13) rfl))))
theorem nw421 : (Jvm.Cond.methodLinkNest "BoardCrossing" 78 ⟨"BoardCrossing$Straightest", "<init>", "(LBoardCrossing;)V"⟩ "BoardCrossing" : Cond) ∈ ai_nw := by
  unfold ai_nw
  exact (List.mem_append_left _ (List.mem_append_left _ (List.mem_append_right _ (List.mem_of_getElem? (i := 14) rfl))))
theorem nw400 : (Jvm.Cond.methodLinkNest "BoardCrossing$Coolest" 9 ⟨"BoardCrossing$Wish", "<init>", "(LBoardCrossing;)V"⟩ "BoardCrossing" : Cond) ∈ ai_nw := by
  unfold ai_nw
  exact (List.mem_append_left _ (List.mem_append_left _ (List.mem_append_right _ (List.mem_of_getElem? (i := 15) rfl))))
theorem nw1011 : (Jvm.Cond.methodLinkNest "BoardCrossing$Named" 1 ⟨"BoardCrossing$Part", "<init>", "()V"⟩ "BoardCrossing" : Cond) ∈ ai_nw := by
  unfold ai_nw
  exact (List.mem_append_left _ (List.mem_append_left _ (List.mem_append_right _ (List.mem_of_getElem? (i := 16) rfl))))
theorem nw970 : (Jvm.Cond.methodLinkNest "BoardCrossing$Not" 1 ⟨"BoardCrossing$Part", "<init>", "()V"⟩ "BoardCrossing" : Cond) ∈ ai_nw := by
  unfold ai_nw
  exact (List.mem_append_left _ (List.mem_append_left _ (List.mem_append_right _ (List.mem_of_getElem? (i := 17) rfl))))
theorem nw1001 : (Jvm.Cond.methodLinkNest "BoardCrossing$Numeral" 1 ⟨"BoardCrossing$Part", "<init>", "()V"⟩ "BoardCrossing" : Cond) ∈ ai_nw := by
  unfold ai_nw
  exact (List.mem_append_left _ (List.mem_append_left _ (List.mem_append_right _ (List.mem_of_getElem? (i := 18) rfl))))
theorem nw596 : (Jvm.Cond.methodLinkNest "BoardCrossing$Reade\x72" 11 ⟨"BoardCrossing$Rive\x72", "<init>", "()V"⟩ "BoardCrossing" : Cond) ∈ ai_nw := by
  unfold ai_nw
  exact (List.mem_append_left _ (List.mem_append_left _ (List.mem_append_right _ (List.mem_of_getElem? (i := 19) rfl))))
theorem nw1123 : (Jvm.Cond.methodLinkNest "BoardCrossing$Rive\x72" 77 ⟨"BoardCrossing", "within", "(II)I"⟩ "BoardCrossing" : Cond) ∈ ai_nw := by
  unfold ai_nw
  exact (List.mem_append_left _ (List.mem_append_left _ (List.mem_append_right _ (List.mem_of_getElem? (i := 20) rfl))))
theorem nw1160 : (Jvm.Cond.methodLinkNest "BoardCrossing$State" 91 ⟨"BoardCrossing", "within", "(II)I"⟩ "BoardCrossing" : Cond) ∈ ai_nw := by
  unfold ai_nw
  exact (List.mem_append_left _ (List.mem_append_left _ (List.mem_append_right _ (List.mem_of_getElem? (i := 21) rfl))))
theorem nw424 : (Jvm.Cond.methodLinkNest "BoardCrossing$Straightest" 9 ⟨"BoardCrossing$Wish", "<init>", "(LBoardCrossing;)V"⟩ "BoardCrossing" : Cond) ∈ ai_nw := by
  unfold ai_nw
  exact (List.mem_append_left _ (List.mem_append_left _ (List.mem_append_right _ (List.mem_of_getElem? (i := 22) rfl))))
theorem nw1021 : (Jvm.Cond.methodLinkNest "BoardCrossing$Two" 1 ⟨"BoardCrossing$Part", "<init>", "()V"⟩ "BoardCrossing" : Cond) ∈ ai_nw := by
  unfold ai_nw
  exact (List.mem_append_left _ (List.mem_append_left _ (List.mem_append_right _ (List.mem_of_getElem? (i := 23) rfl))))
theorem nw1249 : (Jvm.Cond.methodLinkNest "BoardCrossing$Wish" 38 ⟨"BoardCrossing", "powe\x72", "(II)I"⟩ "BoardCrossing" : Cond) ∈ ai_nw := by
  unfold ai_nw
  exact (List.mem_append_left _ (List.mem_append_left _ (List.mem_append_right _ (List.mem_of_getElem? (i := 24) rfl))))
theorem nw1250 : (Jvm.Cond.methodLinkNest "BoardCrossing$Wish" 42 ⟨"BoardCrossing", "goRow", "(III)I"⟩ "BoardCrossing" : Cond) ∈ ai_nw := by
  unfold ai_nw
  exact (List.mem_append_left _ (List.mem_append_left _ (List.mem_append_right _ (List.mem_of_getElem? (i := 25) rfl))))
theorem nw1260 : (Jvm.Cond.methodLinkNest "BoardCrossing$Wish" 62 ⟨"BoardCrossing", "steerOf", "(III)I"⟩ "BoardCrossing" : Cond) ∈ ai_nw := by
  unfold ai_nw
  exact (List.mem_append_left _ (List.mem_append_left _ (List.mem_append_right _ (List.mem_of_getElem? (i := 26) rfl))))
theorem nw2241 : (Jvm.Cond.castable "BoardCrossing" "java/lang/Object" : Cond) ∈ ai_nw := by
  unfold ai_nw
  exact (List.mem_append_left _ (List.mem_append_left _ (List.mem_append_right _ (List.mem_of_getElem? (i := 27) rfl))))
theorem nw2237 : (Jvm.Cond.castable "BoardCrossing$Board" "BoardCrossing$Called" : Cond) ∈ ai_nw := by
  unfold ai_nw
  exact (List.mem_append_left _ (List.mem_append_left _ (List.mem_append_right _ (List.mem_of_getElem? (i := 28) rfl))))
theorem nw2250 : (Jvm.Cond.castable "BoardCrossing$Board" "java/lang/Object" : Cond) ∈ ai_nw := by
  unfold ai_nw
  exact (List.mem_append_left _ (List.mem_append_left _ (List.mem_append_right _ (List.mem_of_getElem? (i := 29) rfl))))
theorem nw2246 : (Jvm.Cond.castable "BoardCrossing$Coolest" "java/lang/Object" : Cond) ∈ ai_nw := by
  unfold ai_nw
  exact (List.mem_append_left _ (List.mem_append_right _ (List.mem_of_getElem? (i := 0) rfl)))
theorem nw2239 : (Jvm.Cond.castable "BoardCrossing$Kept" "java/lang/Object" : Cond) ∈ ai_nw := by
  unfold ai_nw
  exact (List.mem_append_left _ (List.mem_append_right _ (List.mem_of_getElem? (i := 1) rfl)))
theorem nw2238 : (Jvm.Cond.castable "BoardCrossing$Load" "BoardCrossing$Called" : Cond) ∈ ai_nw := by
  unfold ai_nw
  exact (List.mem_append_left _ (List.mem_append_right _ (List.mem_of_getElem? (i := 2) rfl)))
theorem nw2252 : (Jvm.Cond.castable "BoardCrossing$Load" "java/lang/Object" : Cond) ∈ ai_nw := by
  unfold ai_nw
  exact (List.mem_append_left _ (List.mem_append_right _ (List.mem_of_getElem? (i := 3) rfl)))
theorem nw2255 : (Jvm.Cond.castable "BoardCrossing$Named" "java/lang/Object" : Cond) ∈ ai_nw := by
  unfold ai_nw
  exact (List.mem_append_left _ (List.mem_append_right _ (List.mem_of_getElem? (i := 4) rfl)))
theorem nw2253 : (Jvm.Cond.castable "BoardCrossing$Not" "java/lang/Object" : Cond) ∈ ai_nw := by
  unfold ai_nw
  exact (List.mem_append_left _ (List.mem_append_right _ (List.mem_of_getElem? (i := 5) rfl)))
theorem nw2254 : (Jvm.Cond.castable "BoardCrossing$Numeral" "java/lang/Object" : Cond) ∈ ai_nw := by
  unfold ai_nw
  exact (List.mem_append_left _ (List.mem_append_right _ (List.mem_of_getElem? (i := 6) rfl)))
theorem nw2249 : (Jvm.Cond.castable "BoardCrossing$Reade\x72" "java/lang/Object" : Cond) ∈ ai_nw := by
  unfold ai_nw
  exact (List.mem_append_left _ (List.mem_append_right _ (List.mem_of_getElem? (i := 7) rfl)))
theorem nw2242 : (Jvm.Cond.castable "BoardCrossing$Rive\x72" "java/lang/Object" : Cond) ∈ ai_nw := by
  unfold ai_nw
  exact (List.mem_append_left _ (List.mem_append_right _ (List.mem_of_getElem? (i := 8) rfl)))
theorem nw2257 : (Jvm.Cond.castable "BoardCrossing$Sight" "java/lang/Object" : Cond) ∈ ai_nw := by
  unfold ai_nw
  exact (List.mem_append_left _ (List.mem_append_right _ (List.mem_of_getElem? (i := 9) rfl)))
theorem nw2244 : (Jvm.Cond.castable "BoardCrossing$State" "java/lang/Object" : Cond) ∈ ai_nw := by
  unfold ai_nw
  exact (List.mem_append_left _ (List.mem_append_right _ (List.mem_of_getElem? (i := 10) rfl)))
theorem nw2247 : (Jvm.Cond.castable "BoardCrossing$Straightest" "java/lang/Object" : Cond) ∈ ai_nw := by
  unfold ai_nw
  exact (List.mem_append_left _ (List.mem_append_right _ (List.mem_of_getElem? (i := 11) rfl)))
theorem nw2256 : (Jvm.Cond.castable "BoardCrossing$Two" "java/lang/Object" : Cond) ∈ ai_nw := by
  unfold ai_nw
  exact (List.mem_append_left _ (List.mem_append_right _ (List.mem_of_getElem? (i := 12) rfl)))
theorem nw330 : (Jvm.Cond.castable "BoardCrossing$Wrong" "BoardCrossing$Wrong" : Cond) ∈ ai_nw := by
  unfold ai_nw
  exact (List.mem_append_left _ (List.mem_append_right _ (List.mem_of_getElem? (i := 13) rfl)))
theorem nw2245 : (Jvm.Cond.castable "BoardCrossing$Wrong" "java/lang/Object" : Cond) ∈ ai_nw := by
  unfold ai_nw
  exact (List.mem_append_left _ (List.mem_append_right _ (List.mem_of_getElem? (i := 14) rfl)))
theorem nw2248 : (Jvm.Cond.castable "BoardCrossingModel" "java/lang/Object" : Cond) ∈ ai_nw := by
  unfold ai_nw
  exact (List.mem_append_left _ (List.mem_append_right _ (List.mem_of_getElem? (i := 15) rfl)))
theorem nw2264 : (Jvm.Cond.castable "[B" "java/lang/Object" : Cond) ∈ ai_nw := by
  unfold ai_nw
  exact (List.mem_append_left _ (List.mem_append_right _ (List.mem_of_getElem? (i := 16) rfl)))
theorem nw2262 : (Jvm.Cond.castable "[I" "java/lang/Object" : Cond) ∈ ai_nw := by
  unfold ai_nw
  exact (List.mem_append_left _ (List.mem_append_right _ (List.mem_of_getElem? (i := 17) rfl)))
theorem nw2267 : (Jvm.Cond.castable "[J" "java/lang/Object" : Cond) ∈ ai_nw := by
  unfold ai_nw
  exact (List.mem_append_left _ (List.mem_append_right _ (List.mem_of_getElem? (i := 18) rfl)))
theorem nw2265 : (Jvm.Cond.castable "[LBoardCrossing$Kept;" "java/lang/Object" : Cond) ∈ ai_nw := by
  unfold ai_nw
  exact (List.mem_append_left _ (List.mem_append_right _ (List.mem_of_getElem? (i := 19) rfl)))
theorem nw2266 : (Jvm.Cond.castable "[Ljava/lang/Object;" "java/lang/Object" : Cond) ∈ ai_nw := by
  unfold ai_nw
  exact (List.mem_append_left _ (List.mem_append_right _ (List.mem_of_getElem? (i := 20) rfl)))
theorem nw2268 : (Jvm.Cond.castable "[Ljava/lang/String;" "java/lang/Object" : Cond) ∈ ai_nw := by
  unfold ai_nw
  exact (List.mem_append_left _ (List.mem_append_right _ (List.mem_of_getElem? (i := 21) rfl)))
theorem nw2263 : (Jvm.Cond.castable "[Z" "java/lang/Object" : Cond) ∈ ai_nw := by
  unfold ai_nw
  exact (List.mem_append_left _ (List.mem_append_right _ (List.mem_of_getElem? (i := 22) rfl)))
theorem nw2240 : (Jvm.Cond.castable "java/lang/String" "java/lang/Object" : Cond) ∈ ai_nw := by
  unfold ai_nw
  exact (List.mem_append_left _ (List.mem_append_right _ (List.mem_of_getElem? (i := 23) rfl)))
theorem nw2258 : (Jvm.Cond.castable "java/lang/Throwable" "java/lang/Object" : Cond) ∈ ai_nw := by
  unfold ai_nw
  exact (List.mem_append_left _ (List.mem_append_right _ (List.mem_of_getElem? (i := 24) rfl)))
theorem nw2243 : (Jvm.Cond.castable "java/util/ArrayList" "java/lang/Object" : Cond) ∈ ai_nw := by
  unfold ai_nw
  exact (List.mem_append_left _ (List.mem_append_right _ (List.mem_of_getElem? (i := 25) rfl)))
theorem nw2251 : (Jvm.Cond.castable "java/util/ArrayList$It\x72" "java/lang/Object" : Cond) ∈ ai_nw := by
  unfold ai_nw
  exact (List.mem_append_left _ (List.mem_append_right _ (List.mem_of_getElem? (i := 26) rfl)))
theorem nw812 : (Jvm.Cond.castable "java/util/ArrayList$It\x72" "java/util/Iterato\x72" : Cond) ∈ ai_nw := by
  unfold ai_nw
  exact (List.mem_append_left _ (List.mem_append_right _ (List.mem_of_getElem? (i := 27) rfl)))
theorem nw1104 : (Jvm.Cond.declares ⟨"BoardCrossing$Part", "of", "([I)I"⟩ : Cond) ∈ ai_nw := by
  unfold ai_nw
  exact (List.mem_append_left _ (List.mem_append_right _ (List.mem_of_getElem? (i := 28) rfl)))
theorem nw1252 : (Jvm.Cond.declares ⟨"BoardCrossing$Wish", "costOf", "(LBoardCrossing$State;II)I"⟩ : Cond) ∈ ai_nw := by
  unfold ai_nw
  exact (List.mem_append_left _ (List.mem_append_right _ (List.mem_of_getElem? (i := 29) rfl)))
theorem nw1267 : (Jvm.Cond.declares ⟨"BoardCrossing$Wish", "seek", "(I)Z"⟩ : Cond) ∈ ai_nw := by
  unfold ai_nw
  exact (List.mem_append_right _ (List.mem_of_getElem? (i := 0) rfl))
theorem nw331 : (Jvm.Cond.declares ⟨"java/lang/Exception", "<init>", "()V"⟩ : Cond) ∈ ai_nw := by
  unfold ai_nw
  exact (List.mem_append_right _ (List.mem_of_getElem? (i := 1) rfl))
theorem nw332 : (Jvm.Cond.declares ⟨"java/lang/Exception", "<init>", "(Ljava/lang/String;)V"⟩ : Cond) ∈ ai_nw := by
  unfold ai_nw
  exact (List.mem_append_right _ (List.mem_of_getElem? (i := 2) rfl))
theorem nw2261 : (Jvm.Cond.declares ⟨"java/lang/Object", "getClass", "()Ljava/lang/Class;"⟩ : Cond) ∈ ai_nw := by
  unfold ai_nw
  exact (List.mem_append_right _ (List.mem_of_getElem? (i := 3) rfl))
theorem nw333 : (Jvm.Cond.declares ⟨"java/lang/Throwable", "<init>", "()V"⟩ : Cond) ∈ ai_nw := by
  unfold ai_nw
  exact (List.mem_append_right _ (List.mem_of_getElem? (i := 4) rfl))
theorem nw334 : (Jvm.Cond.declares ⟨"java/lang/Throwable", "<init>", "(Ljava/lang/String;)V"⟩ : Cond) ∈ ai_nw := by
  unfold ai_nw
  exact (List.mem_append_right _ (List.mem_of_getElem? (i := 5) rfl))
theorem nw811 : (Jvm.Cond.declares ⟨"java/util/Iterato\x72", "hasNext", "()Z"⟩ : Cond) ∈ ai_nw := by
  unfold ai_nw
  exact (List.mem_append_right _ (List.mem_of_getElem? (i := 6) rfl))
theorem nw821 : (Jvm.Cond.declares ⟨"java/util/Iterato\x72", "next", "()Ljava/lang/Object;"⟩ : Cond) ∈ ai_nw := by
  unfold ai_nw
  exact (List.mem_append_right _ (List.mem_of_getElem? (i := 7) rfl))
def ai_shape : Cond → Bool
  | .fieldLinkNest _ _ _ _ _ _ => true
  | .methodLinkNest _ _ _ _ => true
  | .castable _ _ => true
  | .declares _ => true
  | _ => false
theorem ai_nws0 : ∀ w ∈ ai_nw0, ai_shape w = true := by decide +kernel
theorem ai_nws1 : ∀ w ∈ ai_nw1, ai_shape w = true := by decide +kernel
theorem ai_nws2 : ∀ w ∈ ai_nw2, ai_shape w = true := by decide +kernel
theorem ai_nws3 : ∀ w ∈ ai_nw3, ai_shape w = true := by decide +kernel
theorem ai_nws4 : ∀ w ∈ ai_nw4, ai_shape w = true := by decide +kernel
theorem ai_nws : ∀ w ∈ ai_nw, ai_shape w = true := by
  unfold ai_nw
  exact List.forall_mem_append.mpr ⟨List.forall_mem_append.mpr ⟨List.forall_mem_append.mpr ⟨List.forall_mem_append.mpr ⟨ai_nws0, ai_nws1⟩, ai_nws2⟩, ai_nws3⟩, ai_nws4⟩
def ai_FOK (o i c k : Nat) : Prop := ∃ (q : vw_C) (ref : String), ai_cl[c]? = some q ∧ k < q.2.2 ∧ ((Cond.fieldLink (ai_cn o) i ref (q.2.1 k).2.1 (q.2.1 k).2.2.1 ∈ lw_all) ∨ (∃ host, Cond.fieldLinkNest (ai_cn o) i ref (q.2.1 k).2.1 (q.2.1 k).2.2.1 host ∈ ai_nw ∧ (q.2.1 k).1 ≠ ai_cn o)) ∧ (ref = (q.2.1 k).1 ∨ Cond.sameField ref (q.2.1 k).1 (q.2.1 k).2.1 (q.2.1 k).2.2.1 ∈ lw_all)
theorem ai_ft_ok0 : ∀ e ∈ ai_ftl 0, e.2.1 < ai_ncl → ai_FOK 0 e.1 e.2.1 e.2.2 := by
  unfold ai_ftl
  exact List.forall_mem_cons.mpr ⟨fun _ => ⟨(RX0, TX0, 29), "BoardCrossing", rfl, by decide, Or.inl q480, Or.inl rfl⟩,
    List.forall_mem_cons.mpr ⟨fun _ => ⟨(RX0, TX0, 29), "BoardCrossing", rfl, by decide, Or.inl q483, Or.inl rfl⟩,
    List.forall_mem_cons.mpr ⟨fun _ => ⟨(RX0, TX0, 29), "BoardCrossing", rfl, by decide, Or.inl q485, Or.inl rfl⟩,
    List.forall_mem_cons.mpr ⟨fun _ => ⟨(RX0, TX0, 29), "BoardCrossing", rfl, by decide, Or.inl q486, Or.inl rfl⟩,
    List.forall_mem_cons.mpr ⟨fun _ => ⟨(RX0, TX0, 29), "BoardCrossing", rfl, by decide, Or.inl q487, Or.inl rfl⟩,
    List.forall_mem_cons.mpr ⟨fun _ => ⟨(RX0, TX0, 29), "BoardCrossing", rfl, by decide, Or.inl q491, Or.inl rfl⟩,
    List.forall_mem_cons.mpr ⟨fun _ => ⟨(RX0, TX0, 29), "BoardCrossing", rfl, by decide, Or.inl q492, Or.inl rfl⟩,
    List.forall_mem_cons.mpr ⟨fun _ => ⟨(RX0, TX0, 29), "BoardCrossing", rfl, by decide, Or.inl q493, Or.inl rfl⟩,
    List.forall_mem_cons.mpr ⟨fun _ => ⟨(RX0, TX0, 29), "BoardCrossing", rfl, by decide, Or.inl q495, Or.inl rfl⟩,
    List.forall_mem_cons.mpr ⟨fun _ => ⟨(RX0, TX0, 29), "BoardCrossing", rfl, by decide, Or.inl q496, Or.inl rfl⟩,
    List.forall_mem_cons.mpr ⟨fun _ => ⟨(RX0, TX0, 29), "BoardCrossing", rfl, by decide, Or.inl q499, Or.inl rfl⟩,
    List.forall_mem_cons.mpr ⟨fun _ => ⟨(RX0, TX0, 29), "BoardCrossing", rfl, by decide, Or.inl q500, Or.inl rfl⟩,
    List.forall_mem_cons.mpr ⟨fun _ => ⟨(RX0, TX0, 29), "BoardCrossing", rfl, by decide, Or.inl q502, Or.inl rfl⟩,
    List.forall_mem_cons.mpr ⟨fun _ => ⟨(RX0, TX0, 29), "BoardCrossing", rfl, by decide, Or.inl q503, Or.inl rfl⟩,
    List.forall_mem_cons.mpr ⟨fun _ => ⟨(RX0, TX0, 29), "BoardCrossing", rfl, by decide, Or.inl q504, Or.inl rfl⟩,
    List.forall_mem_cons.mpr ⟨fun _ => ⟨(RX0, TX0, 29), "BoardCrossing", rfl, by decide, Or.inl q507, Or.inl rfl⟩,
    List.forall_mem_cons.mpr ⟨fun _ => ⟨(RX0, TX0, 29), "BoardCrossing", rfl, by decide, Or.inl q508, Or.inl rfl⟩,
    List.forall_mem_cons.mpr ⟨fun _ => ⟨(RX0, TX0, 29), "BoardCrossing", rfl, by decide, Or.inl q509, Or.inl rfl⟩,
    List.forall_mem_cons.mpr ⟨fun _ => ⟨(RX0, TX0, 29), "BoardCrossing", rfl, by decide, Or.inl q510, Or.inl rfl⟩,
    List.forall_mem_cons.mpr ⟨fun _ => ⟨(RX0, TX0, 29), "BoardCrossing", rfl, by decide, Or.inl q511, Or.inl rfl⟩,
    List.forall_mem_cons.mpr ⟨fun _ => ⟨(RX0, TX0, 29), "BoardCrossing", rfl, by decide, Or.inl q513, Or.inl rfl⟩,
    List.forall_mem_cons.mpr ⟨fun _ => ⟨(RX0, TX0, 29), "BoardCrossing", rfl, by decide, Or.inl q498, Or.inl rfl⟩,
    List.forall_mem_cons.mpr ⟨fun _ => ⟨(RX7, TX7, 1), "BoardCrossing$Kept", rfl, by decide, Or.inr ⟨"BoardCrossing", nw444, by decide +kernel⟩, Or.inl rfl⟩,
    List.forall_mem_cons.mpr ⟨fun _ => ⟨(RX1, TX1, 17), "BoardCrossing$Rive\x72", rfl, by decide, Or.inr ⟨"BoardCrossing", nw209, by decide +kernel⟩, Or.inl rfl⟩,
    List.forall_mem_cons.mpr ⟨fun _ => ⟨(RX1, TX1, 17), "BoardCrossing$Rive\x72", rfl, by decide, Or.inr ⟨"BoardCrossing", nw213, by decide +kernel⟩, Or.inl rfl⟩,
    List.forall_mem_cons.mpr ⟨fun _ => ⟨(RX0, TX0, 29), "BoardCrossing", rfl, by decide, Or.inl q488, Or.inl rfl⟩,
    List.forall_mem_cons.mpr ⟨fun _ => ⟨(RX0, TX0, 29), "BoardCrossing", rfl, by decide, Or.inl q490, Or.inl rfl⟩,
    List.forall_mem_cons.mpr ⟨fun _ => ⟨(RX3, ai_TW, 2), "BoardCrossing$Wrong", rfl, by decide, Or.inr ⟨"BoardCrossing", nw373, by decide +kernel⟩, Or.inl rfl⟩,
    List.forall_mem_cons.mpr ⟨fun _ => ⟨(RX3, ai_TW, 2), "BoardCrossing$Wrong", rfl, by decide, Or.inr ⟨"BoardCrossing", nw375, by decide +kernel⟩, Or.inl rfl⟩,
    List.forall_mem_cons.mpr ⟨fun _ => ⟨(RX2, TX2, 7), "BoardCrossing$State", rfl, by decide, Or.inr ⟨"BoardCrossing", nw294, by decide +kernel⟩, Or.inl rfl⟩,
    List.forall_mem_cons.mpr ⟨fun _ => ⟨(RX2, TX2, 7), "BoardCrossing$State", rfl, by decide, Or.inr ⟨"BoardCrossing", nw298, by decide +kernel⟩, Or.inl rfl⟩,
    List.forall_mem_cons.mpr ⟨fun _ => ⟨(RX2, TX2, 7), "BoardCrossing$State", rfl, by decide, Or.inr ⟨"BoardCrossing", nw302, by decide +kernel⟩, Or.inl rfl⟩,
    List.forall_mem_cons.mpr ⟨fun _ => ⟨(RX2, TX2, 7), "BoardCrossing$State", rfl, by decide, Or.inr ⟨"BoardCrossing", nw305, by decide +kernel⟩, Or.inl rfl⟩,
    List.forall_mem_cons.mpr ⟨fun _ => ⟨(RX2, TX2, 7), "BoardCrossing$State", rfl, by decide, Or.inr ⟨"BoardCrossing", nw308, by decide +kernel⟩, Or.inl rfl⟩,
    List.forall_mem_cons.mpr ⟨fun _ => ⟨(RX11, TX11, 4), "BoardCrossing$Board", rfl, by decide, Or.inl q851, Or.inr q848⟩,
    List.forall_mem_cons.mpr ⟨fun _ => ⟨(RX11, TX11, 4), "BoardCrossing$Board", rfl, by decide, Or.inr ⟨"BoardCrossing", nw843, by decide +kernel⟩, Or.inl rfl⟩,
    List.forall_mem_cons.mpr ⟨fun _ => ⟨(RX12, TX12, 2), "BoardCrossing$Load", rfl, by decide, Or.inl q852, Or.inr q850⟩,
    List.forall_mem_cons.mpr ⟨fun _ => ⟨(RX2, TX2, 7), "BoardCrossing$State", rfl, by decide, Or.inr ⟨"BoardCrossing", nw310, by decide +kernel⟩, Or.inl rfl⟩,
    List.forall_mem_cons.mpr ⟨fun _ => ⟨(RX1, TX1, 17), "BoardCrossing$Rive\x72", rfl, by decide, Or.inr ⟨"BoardCrossing", nw232, by decide +kernel⟩, Or.inl rfl⟩,
    List.forall_mem_cons.mpr ⟨fun _ => ⟨(RX1, TX1, 17), "BoardCrossing$Rive\x72", rfl, by decide, Or.inr ⟨"BoardCrossing", nw237, by decide +kernel⟩, Or.inl rfl⟩,
    List.forall_mem_cons.mpr ⟨fun _ => ⟨(RX1, TX1, 17), "BoardCrossing$Rive\x72", rfl, by decide, Or.inr ⟨"BoardCrossing", nw218, by decide +kernel⟩, Or.inl rfl⟩,
    List.forall_mem_cons.mpr ⟨fun _ => ⟨(RX1, TX1, 17), "BoardCrossing$Rive\x72", rfl, by decide, Or.inr ⟨"BoardCrossing", nw224, by decide +kernel⟩, Or.inl rfl⟩,
    List.forall_mem_cons.mpr ⟨fun _ => ⟨(RX2, TX2, 7), "BoardCrossing$State", rfl, by decide, Or.inr ⟨"BoardCrossing", nw312, by decide +kernel⟩, Or.inl rfl⟩,
    List.forall_mem_cons.mpr ⟨fun _ => ⟨(RX1, TX1, 17), "BoardCrossing$Rive\x72", rfl, by decide, Or.inr ⟨"BoardCrossing", nw243, by decide +kernel⟩, Or.inl rfl⟩,
    List.forall_mem_cons.mpr ⟨fun _ => ⟨(RX5, TX5, 4), "BoardCrossing$Wish", rfl, by decide, Or.inr ⟨"BoardCrossing", nw406, by decide +kernel⟩, Or.inl rfl⟩,
    List.forall_mem_cons.mpr ⟨fun _ => ⟨(RX6, TX6, 5), "BoardCrossing$Wish", rfl, by decide, Or.inr ⟨"BoardCrossing", nw406, by decide +kernel⟩, Or.inl rfl⟩,
    List.forall_mem_cons.mpr ⟨fun _ => ⟨(RX6, TX6, 5), "BoardCrossing$Straightest", rfl, by decide, Or.inr ⟨"BoardCrossing", nw426, by decide +kernel⟩, Or.inl rfl⟩,
    List.forall_mem_cons.mpr ⟨fun _ => ⟨(RX5, TX5, 4), "BoardCrossing$Wish", rfl, by decide, Or.inr ⟨"BoardCrossing", nw408, by decide +kernel⟩, Or.inl rfl⟩,
    List.forall_mem_cons.mpr ⟨fun _ => ⟨(RX6, TX6, 5), "BoardCrossing$Wish", rfl, by decide, Or.inr ⟨"BoardCrossing", nw408, by decide +kernel⟩, Or.inl rfl⟩,
    List.forall_mem_cons.mpr ⟨fun _ => ⟨(RX0, TX0, 29), "BoardCrossing", rfl, by decide, Or.inl q501, Or.inl rfl⟩,
    List.forall_mem_cons.mpr ⟨fun _ => ⟨(RX0, TX0, 29), "BoardCrossing", rfl, by decide, Or.inl q505, Or.inl rfl⟩,
    List.forall_mem_cons.mpr ⟨fun _ => ⟨(RX0, TX0, 29), "BoardCrossing", rfl, by decide, Or.inl q506, Or.inl rfl⟩,
    List.forall_mem_cons.mpr ⟨fun _ => ⟨(RX0, TX0, 29), "BoardCrossing", rfl, by decide, Or.inl q489, Or.inl rfl⟩,
    List.forall_mem_cons.mpr ⟨fun _ => ⟨(RX18, TX18, 6), "BoardCrossing$Sight", rfl, by decide, Or.inr ⟨"BoardCrossing", nw1400, by decide +kernel⟩, Or.inl rfl⟩,
    List.forall_mem_cons.mpr ⟨fun _ => ⟨(RX18, TX18, 6), "BoardCrossing$Sight", rfl, by decide, Or.inr ⟨"BoardCrossing", nw1396, by decide +kernel⟩, Or.inl rfl⟩,
    List.forall_mem_cons.mpr ⟨fun _ => ⟨(RX18, TX18, 6), "BoardCrossing$Sight", rfl, by decide, Or.inr ⟨"BoardCrossing", nw1391, by decide +kernel⟩, Or.inl rfl⟩,
    List.forall_mem_cons.mpr ⟨fun _ => ⟨(RX18, TX18, 6), "BoardCrossing$Sight", rfl, by decide, Or.inr ⟨"BoardCrossing", nw1393, by decide +kernel⟩, Or.inl rfl⟩,
    List.forall_mem_cons.mpr ⟨fun _ => ⟨(RX18, TX18, 6), "BoardCrossing$Sight", rfl, by decide, Or.inr ⟨"BoardCrossing", nw1398, by decide +kernel⟩, Or.inl rfl⟩,
    List.forall_mem_cons.mpr ⟨fun _ => ⟨(RX0, TX0, 29), "BoardCrossing", rfl, by decide, Or.inl q512, Or.inl rfl⟩,
    List.forall_mem_cons.mpr ⟨fun _ => ⟨(RX1, TX1, 17), "BoardCrossing$Rive\x72", rfl, by decide, Or.inr ⟨"BoardCrossing", nw242, by decide +kernel⟩, Or.inl rfl⟩,
    fun _ h => absurd h List.not_mem_nil⟩⟩⟩⟩⟩⟩⟩⟩⟩⟩⟩⟩⟩⟩⟩⟩⟩⟩⟩⟩⟩⟩⟩⟩⟩⟩⟩⟩⟩⟩⟩⟩⟩⟩⟩⟩⟩⟩⟩⟩⟩⟩⟩⟩⟩⟩⟩⟩⟩⟩⟩⟩⟩⟩⟩⟩⟩⟩⟩⟩
theorem ai_ft_ok1 : ∀ e ∈ ai_ftl 1, e.2.1 < ai_ncl → ai_FOK 1 e.1 e.2.1 e.2.2 := by
  unfold ai_ftl
  exact List.forall_mem_cons.mpr ⟨fun _ => ⟨(RX1, TX1, 17), "BoardCrossing$Rive\x72", rfl, by decide, Or.inl q207, Or.inl rfl⟩,
    List.forall_mem_cons.mpr ⟨fun _ => ⟨(RX1, TX1, 17), "BoardCrossing$Rive\x72", rfl, by decide, Or.inl q211, Or.inl rfl⟩,
    List.forall_mem_cons.mpr ⟨fun _ => ⟨(RX1, TX1, 17), "BoardCrossing$Rive\x72", rfl, by decide, Or.inl q215, Or.inl rfl⟩,
    List.forall_mem_cons.mpr ⟨fun _ => ⟨(RX1, TX1, 17), "BoardCrossing$Rive\x72", rfl, by decide, Or.inl q219, Or.inl rfl⟩,
    List.forall_mem_cons.mpr ⟨fun _ => ⟨(RX1, TX1, 17), "BoardCrossing$Rive\x72", rfl, by decide, Or.inl q221, Or.inl rfl⟩,
    List.forall_mem_cons.mpr ⟨fun _ => ⟨(RX1, TX1, 17), "BoardCrossing$Rive\x72", rfl, by decide, Or.inl q229, Or.inl rfl⟩,
    List.forall_mem_cons.mpr ⟨fun _ => ⟨(RX1, TX1, 17), "BoardCrossing$Rive\x72", rfl, by decide, Or.inl q233, Or.inl rfl⟩,
    List.forall_mem_cons.mpr ⟨fun _ => ⟨(RX1, TX1, 17), "BoardCrossing$Rive\x72", rfl, by decide, Or.inl q247, Or.inl rfl⟩,
    List.forall_mem_cons.mpr ⟨fun _ => ⟨(RX1, TX1, 17), "BoardCrossing$Rive\x72", rfl, by decide, Or.inl q225, Or.inl rfl⟩,
    List.forall_mem_cons.mpr ⟨fun _ => ⟨(RX2, TX2, 7), "BoardCrossing$State", rfl, by decide, Or.inr ⟨"BoardCrossing", nw296, by decide +kernel⟩, Or.inl rfl⟩,
    List.forall_mem_cons.mpr ⟨fun _ => ⟨(RX2, TX2, 7), "BoardCrossing$State", rfl, by decide, Or.inr ⟨"BoardCrossing", nw293, by decide +kernel⟩, Or.inl rfl⟩,
    List.forall_mem_cons.mpr ⟨fun _ => ⟨(RX11, TX11, 4), "BoardCrossing$Board", rfl, by decide, Or.inl q847, Or.inr q848⟩,
    List.forall_mem_cons.mpr ⟨fun _ => ⟨(RX2, TX2, 7), "BoardCrossing$State", rfl, by decide, Or.inr ⟨"BoardCrossing", nw307, by decide +kernel⟩, Or.inl rfl⟩,
    List.forall_mem_cons.mpr ⟨fun _ => ⟨(RX2, TX2, 7), "BoardCrossing$State", rfl, by decide, Or.inr ⟨"BoardCrossing", nw301, by decide +kernel⟩, Or.inl rfl⟩,
    List.forall_mem_cons.mpr ⟨fun _ => ⟨(RX12, TX12, 2), "BoardCrossing$Load", rfl, by decide, Or.inl q849, Or.inr q850⟩,
    fun _ h => absurd h List.not_mem_nil⟩⟩⟩⟩⟩⟩⟩⟩⟩⟩⟩⟩⟩⟩⟩
theorem ai_ft_ok2 : ∀ e ∈ ai_ftl 2, e.2.1 < ai_ncl → ai_FOK 2 e.1 e.2.1 e.2.2 := by
  unfold ai_ftl
  exact List.forall_mem_cons.mpr ⟨fun _ => ⟨(RX2, TX2, 7), "BoardCrossing$State", rfl, by decide, Or.inl q291, Or.inl rfl⟩,
    List.forall_mem_cons.mpr ⟨fun _ => ⟨(RX2, TX2, 7), "BoardCrossing$State", rfl, by decide, Or.inl q295, Or.inl rfl⟩,
    List.forall_mem_cons.mpr ⟨fun _ => ⟨(RX2, TX2, 7), "BoardCrossing$State", rfl, by decide, Or.inl q299, Or.inl rfl⟩,
    List.forall_mem_cons.mpr ⟨fun _ => ⟨(RX2, TX2, 7), "BoardCrossing$State", rfl, by decide, Or.inl q303, Or.inl rfl⟩,
    List.forall_mem_cons.mpr ⟨fun _ => ⟨(RX2, TX2, 7), "BoardCrossing$State", rfl, by decide, Or.inl q306, Or.inl rfl⟩,
    List.forall_mem_cons.mpr ⟨fun _ => ⟨(RX2, TX2, 7), "BoardCrossing$State", rfl, by decide, Or.inl q309, Or.inl rfl⟩,
    List.forall_mem_cons.mpr ⟨fun _ => ⟨(RX2, TX2, 7), "BoardCrossing$State", rfl, by decide, Or.inl q311, Or.inl rfl⟩,
    List.forall_mem_cons.mpr ⟨fun _ => ⟨(RX1, TX1, 17), "BoardCrossing$Rive\x72", rfl, by decide, Or.inr ⟨"BoardCrossing", nw208, by decide +kernel⟩, Or.inl rfl⟩,
    List.forall_mem_cons.mpr ⟨fun _ => ⟨(RX11, TX11, 4), "BoardCrossing$Board", rfl, by decide, Or.inr ⟨"BoardCrossing", nw839, by decide +kernel⟩, Or.inl rfl⟩,
    List.forall_mem_cons.mpr ⟨fun _ => ⟨(RX1, TX1, 17), "BoardCrossing$Rive\x72", rfl, by decide, Or.inr ⟨"BoardCrossing", nw245, by decide +kernel⟩, Or.inl rfl⟩,
    List.forall_mem_cons.mpr ⟨fun _ => ⟨(RX1, TX1, 17), "BoardCrossing$Rive\x72", rfl, by decide, Or.inr ⟨"BoardCrossing", nw212, by decide +kernel⟩, Or.inl rfl⟩,
    List.forall_mem_cons.mpr ⟨fun _ => ⟨(RX1, TX1, 17), "BoardCrossing$Rive\x72", rfl, by decide, Or.inr ⟨"BoardCrossing", nw235, by decide +kernel⟩, Or.inl rfl⟩,
    List.forall_mem_cons.mpr ⟨fun _ => ⟨(RX1, TX1, 17), "BoardCrossing$Rive\x72", rfl, by decide, Or.inr ⟨"BoardCrossing", nw216, by decide +kernel⟩, Or.inl rfl⟩,
    List.forall_mem_cons.mpr ⟨fun _ => ⟨(RX1, TX1, 17), "BoardCrossing$Rive\x72", rfl, by decide, Or.inr ⟨"BoardCrossing", nw230, by decide +kernel⟩, Or.inl rfl⟩,
    List.forall_mem_cons.mpr ⟨fun _ => ⟨(RX1, TX1, 17), "BoardCrossing$Rive\x72", rfl, by decide, Or.inr ⟨"BoardCrossing", nw222, by decide +kernel⟩, Or.inl rfl⟩,
    List.forall_mem_cons.mpr ⟨fun _ => ⟨(RX11, TX11, 4), "BoardCrossing$Board", rfl, by decide, Or.inr ⟨"BoardCrossing", nw842, by decide +kernel⟩, Or.inl rfl⟩,
    fun _ h => absurd h List.not_mem_nil⟩⟩⟩⟩⟩⟩⟩⟩⟩⟩⟩⟩⟩⟩⟩⟩
theorem ai_ft_ok3 : ∀ e ∈ ai_ftl 3, e.2.1 < ai_ncl → ai_FOK 3 e.1 e.2.1 e.2.2 := by
  unfold ai_ftl
  exact List.forall_mem_cons.mpr ⟨fun _ => ⟨(RX3, ai_TW, 2), "BoardCrossing$Wrong", rfl, by decide, Or.inl q372, Or.inl rfl⟩,
    List.forall_mem_cons.mpr ⟨fun _ => ⟨(RX3, ai_TW, 2), "BoardCrossing$Wrong", rfl, by decide, Or.inl q374, Or.inl rfl⟩,
    fun _ h => absurd h List.not_mem_nil⟩⟩
theorem ai_ft_ok4 : ∀ e ∈ ai_ftl 4, e.2.1 < ai_ncl → ai_FOK 4 e.1 e.2.1 e.2.2 := by
  unfold ai_ftl
  exact List.forall_mem_cons.mpr ⟨fun _ => ⟨(RX5, TX5, 4), "BoardCrossing$Coolest", rfl, by decide, Or.inl q404, Or.inl rfl⟩,
    List.forall_mem_cons.mpr ⟨fun _ => ⟨(RX2, TX2, 7), "BoardCrossing$State", rfl, by decide, Or.inr ⟨"BoardCrossing", nw304, by decide +kernel⟩, Or.inl rfl⟩,
    List.forall_mem_cons.mpr ⟨fun _ => ⟨(RX0, TX0, 29), "BoardCrossing", rfl, by decide, Or.inr ⟨"BoardCrossing", nw481, by decide +kernel⟩, Or.inl rfl⟩,
    List.forall_mem_cons.mpr ⟨fun _ => ⟨(RX2, TX2, 7), "BoardCrossing$State", rfl, by decide, Or.inr ⟨"BoardCrossing", nw300, by decide +kernel⟩, Or.inl rfl⟩,
    fun _ h => absurd h List.not_mem_nil⟩⟩⟩⟩
theorem ai_ft_ok5 : ∀ e ∈ ai_ftl 5, e.2.1 < ai_ncl → ai_FOK 5 e.1 e.2.1 e.2.2 := by
  unfold ai_ftl
  exact List.forall_mem_cons.mpr ⟨fun _ => ⟨(RX6, TX6, 5), "BoardCrossing$Straightest", rfl, by decide, Or.inl q427, Or.inl rfl⟩,
    List.forall_mem_cons.mpr ⟨fun _ => ⟨(RX2, TX2, 7), "BoardCrossing$State", rfl, by decide, Or.inr ⟨"BoardCrossing", nw292, by decide +kernel⟩, Or.inl rfl⟩,
    List.forall_mem_cons.mpr ⟨fun _ => ⟨(RX6, TX6, 5), "BoardCrossing$Straightest", rfl, by decide, Or.inl q425, Or.inl rfl⟩,
    fun _ h => absurd h List.not_mem_nil⟩⟩⟩
theorem ai_ft_ok6 : ∀ e ∈ ai_ftl 6, e.2.1 < ai_ncl → ai_FOK 6 e.1 e.2.1 e.2.2 := by
  unfold ai_ftl
  exact List.forall_mem_cons.mpr ⟨fun _ => ⟨(RX7, TX7, 1), "BoardCrossing$Kept", rfl, by decide, Or.inl q443, Or.inl rfl⟩,
    fun _ h => absurd h List.not_mem_nil⟩
theorem ai_ft_ok7 : ∀ e ∈ ai_ftl 7, e.2.1 < ai_ncl → ai_FOK 7 e.1 e.2.1 e.2.2 := by
  unfold ai_ftl
  exact List.forall_mem_cons.mpr ⟨fun _ => ⟨(RX8, TX8, 82), "BoardCrossingModel", rfl, by decide, Or.inl q1478, Or.inl rfl⟩,
    List.forall_mem_cons.mpr ⟨fun _ => ⟨(RX8, TX8, 82), "BoardCrossingModel", rfl, by decide, Or.inl q1481, Or.inl rfl⟩,
    List.forall_mem_cons.mpr ⟨fun _ => ⟨(RX8, TX8, 82), "BoardCrossingModel", rfl, by decide, Or.inl q1488, Or.inl rfl⟩,
    List.forall_mem_cons.mpr ⟨fun _ => ⟨(RX8, TX8, 82), "BoardCrossingModel", rfl, by decide, Or.inl q1489, Or.inl rfl⟩,
    List.forall_mem_cons.mpr ⟨fun _ => ⟨(RX8, TX8, 82), "BoardCrossingModel", rfl, by decide, Or.inl q1490, Or.inl rfl⟩,
    List.forall_mem_cons.mpr ⟨fun _ => ⟨(RX8, TX8, 82), "BoardCrossingModel", rfl, by decide, Or.inl q1491, Or.inl rfl⟩,
    List.forall_mem_cons.mpr ⟨fun _ => ⟨(RX8, TX8, 82), "BoardCrossingModel", rfl, by decide, Or.inl q1492, Or.inl rfl⟩,
    List.forall_mem_cons.mpr ⟨fun _ => ⟨(RX8, TX8, 82), "BoardCrossingModel", rfl, by decide, Or.inl q1493, Or.inl rfl⟩,
    List.forall_mem_cons.mpr ⟨fun _ => ⟨(RX8, TX8, 82), "BoardCrossingModel", rfl, by decide, Or.inl q1494, Or.inl rfl⟩,
    List.forall_mem_cons.mpr ⟨fun _ => ⟨(RX8, TX8, 82), "BoardCrossingModel", rfl, by decide, Or.inl q1503, Or.inl rfl⟩,
    List.forall_mem_cons.mpr ⟨fun _ => ⟨(RX8, TX8, 82), "BoardCrossingModel", rfl, by decide, Or.inl q1504, Or.inl rfl⟩,
    List.forall_mem_cons.mpr ⟨fun _ => ⟨(RX8, TX8, 82), "BoardCrossingModel", rfl, by decide, Or.inl q1505, Or.inl rfl⟩,
    List.forall_mem_cons.mpr ⟨fun _ => ⟨(RX8, TX8, 82), "BoardCrossingModel", rfl, by decide, Or.inl q1506, Or.inl rfl⟩,
    List.forall_mem_cons.mpr ⟨fun _ => ⟨(RX8, TX8, 82), "BoardCrossingModel", rfl, by decide, Or.inl q1507, Or.inl rfl⟩,
    List.forall_mem_cons.mpr ⟨fun _ => ⟨(RX8, TX8, 82), "BoardCrossingModel", rfl, by decide, Or.inl q1508, Or.inl rfl⟩,
    List.forall_mem_cons.mpr ⟨fun _ => ⟨(RX8, TX8, 82), "BoardCrossingModel", rfl, by decide, Or.inl q1509, Or.inl rfl⟩,
    List.forall_mem_cons.mpr ⟨fun _ => ⟨(RX8, TX8, 82), "BoardCrossingModel", rfl, by decide, Or.inl q1510, Or.inl rfl⟩,
    List.forall_mem_cons.mpr ⟨fun _ => ⟨(RX8, TX8, 82), "BoardCrossingModel", rfl, by decide, Or.inl q1511, Or.inl rfl⟩,
    List.forall_mem_cons.mpr ⟨fun _ => ⟨(RX8, TX8, 82), "BoardCrossingModel", rfl, by decide, Or.inl q1512, Or.inl rfl⟩,
    List.forall_mem_cons.mpr ⟨fun _ => ⟨(RX8, TX8, 82), "BoardCrossingModel", rfl, by decide, Or.inl q1513, Or.inl rfl⟩,
    List.forall_mem_cons.mpr ⟨fun _ => ⟨(RX8, TX8, 82), "BoardCrossingModel", rfl, by decide, Or.inl q1514, Or.inl rfl⟩,
    List.forall_mem_cons.mpr ⟨fun _ => ⟨(RX8, TX8, 82), "BoardCrossingModel", rfl, by decide, Or.inl q1515, Or.inl rfl⟩,
    List.forall_mem_cons.mpr ⟨fun _ => ⟨(RX8, TX8, 82), "BoardCrossingModel", rfl, by decide, Or.inl q1524, Or.inl rfl⟩,
    List.forall_mem_cons.mpr ⟨fun _ => ⟨(RX8, TX8, 82), "BoardCrossingModel", rfl, by decide, Or.inl q1525, Or.inl rfl⟩,
    List.forall_mem_cons.mpr ⟨fun _ => ⟨(RX8, TX8, 82), "BoardCrossingModel", rfl, by decide, Or.inl q1532, Or.inl rfl⟩,
    List.forall_mem_cons.mpr ⟨fun _ => ⟨(RX8, TX8, 82), "BoardCrossingModel", rfl, by decide, Or.inl q1533, Or.inl rfl⟩,
    List.forall_mem_cons.mpr ⟨fun _ => ⟨(RX8, TX8, 82), "BoardCrossingModel", rfl, by decide, Or.inl q1534, Or.inl rfl⟩,
    List.forall_mem_cons.mpr ⟨fun _ => ⟨(RX8, TX8, 82), "BoardCrossingModel", rfl, by decide, Or.inl q1537, Or.inl rfl⟩,
    List.forall_mem_cons.mpr ⟨fun _ => ⟨(RX8, TX8, 82), "BoardCrossingModel", rfl, by decide, Or.inl q1538, Or.inl rfl⟩,
    List.forall_mem_cons.mpr ⟨fun _ => ⟨(RX8, TX8, 82), "BoardCrossingModel", rfl, by decide, Or.inl q1540, Or.inl rfl⟩,
    List.forall_mem_cons.mpr ⟨fun _ => ⟨(RX8, TX8, 82), "BoardCrossingModel", rfl, by decide, Or.inl q1541, Or.inl rfl⟩,
    List.forall_mem_cons.mpr ⟨fun _ => ⟨(RX8, TX8, 82), "BoardCrossingModel", rfl, by decide, Or.inl q1542, Or.inl rfl⟩,
    List.forall_mem_cons.mpr ⟨fun _ => ⟨(RX8, TX8, 82), "BoardCrossingModel", rfl, by decide, Or.inl q1543, Or.inl rfl⟩,
    List.forall_mem_cons.mpr ⟨fun _ => ⟨(RX8, TX8, 82), "BoardCrossingModel", rfl, by decide, Or.inl q1544, Or.inl rfl⟩,
    List.forall_mem_cons.mpr ⟨fun _ => ⟨(RX8, TX8, 82), "BoardCrossingModel", rfl, by decide, Or.inl q1545, Or.inl rfl⟩,
    List.forall_mem_cons.mpr ⟨fun _ => ⟨(RX8, TX8, 82), "BoardCrossingModel", rfl, by decide, Or.inl q1546, Or.inl rfl⟩,
    List.forall_mem_cons.mpr ⟨fun _ => ⟨(RX8, TX8, 82), "BoardCrossingModel", rfl, by decide, Or.inl q1547, Or.inl rfl⟩,
    List.forall_mem_cons.mpr ⟨fun _ => ⟨(RX8, TX8, 82), "BoardCrossingModel", rfl, by decide, Or.inl q1548, Or.inl rfl⟩,
    List.forall_mem_cons.mpr ⟨fun _ => ⟨(RX8, TX8, 82), "BoardCrossingModel", rfl, by decide, Or.inl q1549, Or.inl rfl⟩,
    List.forall_mem_cons.mpr ⟨fun _ => ⟨(RX8, TX8, 82), "BoardCrossingModel", rfl, by decide, Or.inl q1550, Or.inl rfl⟩,
    List.forall_mem_cons.mpr ⟨fun _ => ⟨(RX8, TX8, 82), "BoardCrossingModel", rfl, by decide, Or.inl q1551, Or.inl rfl⟩,
    List.forall_mem_cons.mpr ⟨fun _ => ⟨(RX8, TX8, 82), "BoardCrossingModel", rfl, by decide, Or.inl q1552, Or.inl rfl⟩,
    List.forall_mem_cons.mpr ⟨fun _ => ⟨(RX8, TX8, 82), "BoardCrossingModel", rfl, by decide, Or.inl q1555, Or.inl rfl⟩,
    List.forall_mem_cons.mpr ⟨fun _ => ⟨(RX8, TX8, 82), "BoardCrossingModel", rfl, by decide, Or.inl q1556, Or.inl rfl⟩,
    List.forall_mem_cons.mpr ⟨fun _ => ⟨(RX8, TX8, 82), "BoardCrossingModel", rfl, by decide, Or.inl q1557, Or.inl rfl⟩,
    List.forall_mem_cons.mpr ⟨fun _ => ⟨(RX8, TX8, 82), "BoardCrossingModel", rfl, by decide, Or.inl q1558, Or.inl rfl⟩,
    List.forall_mem_cons.mpr ⟨fun _ => ⟨(RX8, TX8, 82), "BoardCrossingModel", rfl, by decide, Or.inl q1559, Or.inl rfl⟩,
    List.forall_mem_cons.mpr ⟨fun _ => ⟨(RX8, TX8, 82), "BoardCrossingModel", rfl, by decide, Or.inl q1479, Or.inl rfl⟩,
    List.forall_mem_cons.mpr ⟨fun _ => ⟨(RX8, TX8, 82), "BoardCrossingModel", rfl, by decide, Or.inl q1482, Or.inl rfl⟩,
    List.forall_mem_cons.mpr ⟨fun _ => ⟨(RX8, TX8, 82), "BoardCrossingModel", rfl, by decide, Or.inl q1483, Or.inl rfl⟩,
    List.forall_mem_cons.mpr ⟨fun _ => ⟨(RX8, TX8, 82), "BoardCrossingModel", rfl, by decide, Or.inl q1485, Or.inl rfl⟩,
    List.forall_mem_cons.mpr ⟨fun _ => ⟨(RX8, TX8, 82), "BoardCrossingModel", rfl, by decide, Or.inl q1487, Or.inl rfl⟩,
    List.forall_mem_cons.mpr ⟨fun _ => ⟨(RX8, TX8, 82), "BoardCrossingModel", rfl, by decide, Or.inl q1486, Or.inl rfl⟩,
    List.forall_mem_cons.mpr ⟨fun _ => ⟨(RX8, TX8, 82), "BoardCrossingModel", rfl, by decide, Or.inl q1484, Or.inl rfl⟩,
    List.forall_mem_cons.mpr ⟨fun _ => ⟨(RX8, TX8, 82), "BoardCrossingModel", rfl, by decide, Or.inl q1480, Or.inl rfl⟩,
    List.forall_mem_cons.mpr ⟨fun _ => ⟨(RX8, TX8, 82), "BoardCrossingModel", rfl, by decide, Or.inl q1495, Or.inl rfl⟩,
    List.forall_mem_cons.mpr ⟨fun _ => ⟨(RX8, TX8, 82), "BoardCrossingModel", rfl, by decide, Or.inl q1497, Or.inl rfl⟩,
    List.forall_mem_cons.mpr ⟨fun _ => ⟨(RX8, TX8, 82), "BoardCrossingModel", rfl, by decide, Or.inl q1501, Or.inl rfl⟩,
    List.forall_mem_cons.mpr ⟨fun _ => ⟨(RX8, TX8, 82), "BoardCrossingModel", rfl, by decide, Or.inl q1498, Or.inl rfl⟩,
    List.forall_mem_cons.mpr ⟨fun _ => ⟨(RX8, TX8, 82), "BoardCrossingModel", rfl, by decide, Or.inl q1500, Or.inl rfl⟩,
    List.forall_mem_cons.mpr ⟨fun _ => ⟨(RX8, TX8, 82), "BoardCrossingModel", rfl, by decide, Or.inl q1502, Or.inl rfl⟩,
    List.forall_mem_cons.mpr ⟨fun _ => ⟨(RX8, TX8, 82), "BoardCrossingModel", rfl, by decide, Or.inl q1527, Or.inl rfl⟩,
    List.forall_mem_cons.mpr ⟨fun _ => ⟨(RX8, TX8, 82), "BoardCrossingModel", rfl, by decide, Or.inl q1496, Or.inl rfl⟩,
    List.forall_mem_cons.mpr ⟨fun _ => ⟨(RX8, TX8, 82), "BoardCrossingModel", rfl, by decide, Or.inl q1516, Or.inl rfl⟩,
    List.forall_mem_cons.mpr ⟨fun _ => ⟨(RX8, TX8, 82), "BoardCrossingModel", rfl, by decide, Or.inl q1517, Or.inl rfl⟩,
    List.forall_mem_cons.mpr ⟨fun _ => ⟨(RX8, TX8, 82), "BoardCrossingModel", rfl, by decide, Or.inl q1518, Or.inl rfl⟩,
    List.forall_mem_cons.mpr ⟨fun _ => ⟨(RX8, TX8, 82), "BoardCrossingModel", rfl, by decide, Or.inl q1519, Or.inl rfl⟩,
    List.forall_mem_cons.mpr ⟨fun _ => ⟨(RX8, TX8, 82), "BoardCrossingModel", rfl, by decide, Or.inl q1520, Or.inl rfl⟩,
    List.forall_mem_cons.mpr ⟨fun _ => ⟨(RX8, TX8, 82), "BoardCrossingModel", rfl, by decide, Or.inl q1521, Or.inl rfl⟩,
    List.forall_mem_cons.mpr ⟨fun _ => ⟨(RX8, TX8, 82), "BoardCrossingModel", rfl, by decide, Or.inl q1529, Or.inl rfl⟩,
    List.forall_mem_cons.mpr ⟨fun _ => ⟨(RX8, TX8, 82), "BoardCrossingModel", rfl, by decide, Or.inl q1530, Or.inl rfl⟩,
    List.forall_mem_cons.mpr ⟨fun _ => ⟨(RX8, TX8, 82), "BoardCrossingModel", rfl, by decide, Or.inl q1522, Or.inl rfl⟩,
    List.forall_mem_cons.mpr ⟨fun _ => ⟨(RX8, TX8, 82), "BoardCrossingModel", rfl, by decide, Or.inl q1531, Or.inl rfl⟩,
    List.forall_mem_cons.mpr ⟨fun _ => ⟨(RX8, TX8, 82), "BoardCrossingModel", rfl, by decide, Or.inl q1523, Or.inl rfl⟩,
    List.forall_mem_cons.mpr ⟨fun _ => ⟨(RX8, TX8, 82), "BoardCrossingModel", rfl, by decide, Or.inl q1526, Or.inl rfl⟩,
    List.forall_mem_cons.mpr ⟨fun _ => ⟨(RX8, TX8, 82), "BoardCrossingModel", rfl, by decide, Or.inl q1528, Or.inl rfl⟩,
    List.forall_mem_cons.mpr ⟨fun _ => ⟨(RX8, TX8, 82), "BoardCrossingModel", rfl, by decide, Or.inl q1499, Or.inl rfl⟩,
    List.forall_mem_cons.mpr ⟨fun _ => ⟨(RX8, TX8, 82), "BoardCrossingModel", rfl, by decide, Or.inl q1535, Or.inl rfl⟩,
    List.forall_mem_cons.mpr ⟨fun _ => ⟨(RX8, TX8, 82), "BoardCrossingModel", rfl, by decide, Or.inl q1536, Or.inl rfl⟩,
    List.forall_mem_cons.mpr ⟨fun _ => ⟨(RX8, TX8, 82), "BoardCrossingModel", rfl, by decide, Or.inl q1553, Or.inl rfl⟩,
    List.forall_mem_cons.mpr ⟨fun _ => ⟨(RX8, TX8, 82), "BoardCrossingModel", rfl, by decide, Or.inl q1539, Or.inl rfl⟩,
    List.forall_mem_cons.mpr ⟨fun _ => ⟨(RX8, TX8, 82), "BoardCrossingModel", rfl, by decide, Or.inl q1554, Or.inl rfl⟩,
    fun _ h => absurd h List.not_mem_nil⟩⟩⟩⟩⟩⟩⟩⟩⟩⟩⟩⟩⟩⟩⟩⟩⟩⟩⟩⟩⟩⟩⟩⟩⟩⟩⟩⟩⟩⟩⟩⟩⟩⟩⟩⟩⟩⟩⟩⟩⟩⟩⟩⟩⟩⟩⟩⟩⟩⟩⟩⟩⟩⟩⟩⟩⟩⟩⟩⟩⟩⟩⟩⟩⟩⟩⟩⟩⟩⟩⟩⟩⟩⟩⟩⟩⟩⟩⟩⟩⟩⟩
theorem ai_ft_ok8 : ∀ e ∈ ai_ftl 8, e.2.1 < ai_ncl → ai_FOK 8 e.1 e.2.1 e.2.2 := by
  unfold ai_ftl
  exact List.forall_mem_cons.mpr ⟨fun _ => ⟨(RX9, TX9, 11), "BoardCrossing$Reade\x72", rfl, by decide, Or.inl q600, Or.inl rfl⟩,
    List.forall_mem_cons.mpr ⟨fun _ => ⟨(RX9, TX9, 11), "BoardCrossing$Reade\x72", rfl, by decide, Or.inl q597, Or.inl rfl⟩,
    List.forall_mem_cons.mpr ⟨fun _ => ⟨(RX9, TX9, 11), "BoardCrossing$Reade\x72", rfl, by decide, Or.inl q598, Or.inl rfl⟩,
    List.forall_mem_cons.mpr ⟨fun _ => ⟨(RX9, TX9, 11), "BoardCrossing$Reade\x72", rfl, by decide, Or.inl q599, Or.inl rfl⟩,
    List.forall_mem_cons.mpr ⟨fun _ => ⟨(RX9, TX9, 11), "BoardCrossing$Reade\x72", rfl, by decide, Or.inl q602, Or.inl rfl⟩,
    List.forall_mem_cons.mpr ⟨fun _ => ⟨(RX9, TX9, 11), "BoardCrossing$Reade\x72", rfl, by decide, Or.inl q601, Or.inl rfl⟩,
    List.forall_mem_cons.mpr ⟨fun _ => ⟨(RX9, TX9, 11), "BoardCrossing$Reade\x72", rfl, by decide, Or.inl q603, Or.inl rfl⟩,
    List.forall_mem_cons.mpr ⟨fun _ => ⟨(RX9, TX9, 11), "BoardCrossing$Reade\x72", rfl, by decide, Or.inl q605, Or.inl rfl⟩,
    List.forall_mem_cons.mpr ⟨fun _ => ⟨(RX9, TX9, 11), "BoardCrossing$Reade\x72", rfl, by decide, Or.inl q604, Or.inl rfl⟩,
    List.forall_mem_cons.mpr ⟨fun _ => ⟨(RX11, TX11, 4), "BoardCrossing$Called", rfl, by decide, Or.inl q846, Or.inl rfl⟩,
    List.forall_mem_cons.mpr ⟨fun _ => ⟨(RX12, TX12, 2), "BoardCrossing$Called", rfl, by decide, Or.inl q846, Or.inl rfl⟩,
    List.forall_mem_cons.mpr ⟨fun _ => ⟨(RX1, TX1, 17), "BoardCrossing$Rive\x72", rfl, by decide, Or.inr ⟨"BoardCrossing", nw231, by decide +kernel⟩, Or.inl rfl⟩,
    List.forall_mem_cons.mpr ⟨fun _ => ⟨(RX1, TX1, 17), "BoardCrossing$Rive\x72", rfl, by decide, Or.inr ⟨"BoardCrossing", nw217, by decide +kernel⟩, Or.inl rfl⟩,
    List.forall_mem_cons.mpr ⟨fun _ => ⟨(RX1, TX1, 17), "BoardCrossing$Rive\x72", rfl, by decide, Or.inr ⟨"BoardCrossing", nw236, by decide +kernel⟩, Or.inl rfl⟩,
    List.forall_mem_cons.mpr ⟨fun _ => ⟨(RX1, TX1, 17), "BoardCrossing$Rive\x72", rfl, by decide, Or.inr ⟨"BoardCrossing", nw220, by decide +kernel⟩, Or.inl rfl⟩,
    List.forall_mem_cons.mpr ⟨fun _ => ⟨(RX1, TX1, 17), "BoardCrossing$Rive\x72", rfl, by decide, Or.inr ⟨"BoardCrossing", nw239, by decide +kernel⟩, Or.inl rfl⟩,
    List.forall_mem_cons.mpr ⟨fun _ => ⟨(RX1, TX1, 17), "BoardCrossing$Rive\x72", rfl, by decide, Or.inr ⟨"BoardCrossing", nw223, by decide +kernel⟩, Or.inl rfl⟩,
    List.forall_mem_cons.mpr ⟨fun _ => ⟨(RX1, TX1, 17), "BoardCrossing$Rive\x72", rfl, by decide, Or.inr ⟨"BoardCrossing", nw240, by decide +kernel⟩, Or.inl rfl⟩,
    List.forall_mem_cons.mpr ⟨fun _ => ⟨(RX1, TX1, 17), "BoardCrossing$Rive\x72", rfl, by decide, Or.inr ⟨"BoardCrossing", nw210, by decide +kernel⟩, Or.inl rfl⟩,
    List.forall_mem_cons.mpr ⟨fun _ => ⟨(RX11, TX11, 4), "BoardCrossing$Board", rfl, by decide, Or.inl q853, Or.inr q848⟩,
    List.forall_mem_cons.mpr ⟨fun _ => ⟨(RX11, TX11, 4), "BoardCrossing$Board", rfl, by decide, Or.inr ⟨"BoardCrossing", nw840, by decide +kernel⟩, Or.inl rfl⟩,
    List.forall_mem_cons.mpr ⟨fun _ => ⟨(RX11, TX11, 4), "BoardCrossing$Board", rfl, by decide, Or.inr ⟨"BoardCrossing", nw844, by decide +kernel⟩, Or.inl rfl⟩,
    List.forall_mem_cons.mpr ⟨fun _ => ⟨(RX1, TX1, 17), "BoardCrossing$Rive\x72", rfl, by decide, Or.inr ⟨"BoardCrossing", nw214, by decide +kernel⟩, Or.inl rfl⟩,
    List.forall_mem_cons.mpr ⟨fun _ => ⟨(RX12, TX12, 2), "BoardCrossing$Load", rfl, by decide, Or.inl q854, Or.inr q850⟩,
    List.forall_mem_cons.mpr ⟨fun _ => ⟨(RX9, TX9, 11), "BoardCrossing$Reade\x72", rfl, by decide, Or.inl q607, Or.inl rfl⟩,
    List.forall_mem_cons.mpr ⟨fun _ => ⟨(RX9, TX9, 11), "BoardCrossing$Reade\x72", rfl, by decide, Or.inl q606, Or.inl rfl⟩,
    List.forall_mem_cons.mpr ⟨fun _ => ⟨(RX1, TX1, 17), "BoardCrossing$Rive\x72", rfl, by decide, Or.inr ⟨"BoardCrossing", nw241, by decide +kernel⟩, Or.inl rfl⟩,
    List.forall_mem_cons.mpr ⟨fun _ => ⟨(RX1, TX1, 17), "BoardCrossing$Rive\x72", rfl, by decide, Or.inr ⟨"BoardCrossing", nw238, by decide +kernel⟩, Or.inl rfl⟩,
    List.forall_mem_cons.mpr ⟨fun _ => ⟨(RX1, TX1, 17), "BoardCrossing$Rive\x72", rfl, by decide, Or.inr ⟨"BoardCrossing", nw226, by decide +kernel⟩, Or.inl rfl⟩,
    List.forall_mem_cons.mpr ⟨fun _ => ⟨(RX1, TX1, 17), "BoardCrossing$Rive\x72", rfl, by decide, Or.inr ⟨"BoardCrossing", nw227, by decide +kernel⟩, Or.inl rfl⟩,
    List.forall_mem_cons.mpr ⟨fun _ => ⟨(RX1, TX1, 17), "BoardCrossing$Rive\x72", rfl, by decide, Or.inr ⟨"BoardCrossing", nw228, by decide +kernel⟩, Or.inl rfl⟩,
    List.forall_mem_cons.mpr ⟨fun _ => ⟨(RX1, TX1, 17), "BoardCrossing$Rive\x72", rfl, by decide, Or.inr ⟨"BoardCrossing", nw244, by decide +kernel⟩, Or.inl rfl⟩,
    List.forall_mem_cons.mpr ⟨fun _ => ⟨(RX1, TX1, 17), "BoardCrossing$Rive\x72", rfl, by decide, Or.inr ⟨"BoardCrossing", nw246, by decide +kernel⟩, Or.inl rfl⟩,
    fun _ h => absurd h List.not_mem_nil⟩⟩⟩⟩⟩⟩⟩⟩⟩⟩⟩⟩⟩⟩⟩⟩⟩⟩⟩⟩⟩⟩⟩⟩⟩⟩⟩⟩⟩⟩⟩⟩⟩
theorem ai_ft_ok9 : ∀ e ∈ ai_ftl 9, e.2.1 < ai_ncl → ai_FOK 9 e.1 e.2.1 e.2.2 := by
  unfold ai_ftl
  exact List.forall_mem_cons.mpr ⟨fun _ => ⟨(RX11, TX11, 4), "BoardCrossing$Board", rfl, by decide, Or.inl q841, Or.inl rfl⟩,
    fun _ h => absurd h List.not_mem_nil⟩
theorem ai_ft_ok11 : ∀ e ∈ ai_ftl 11, e.2.1 < ai_ncl → ai_FOK 11 e.1 e.2.1 e.2.2 := by
  unfold ai_ftl
  exact List.forall_mem_cons.mpr ⟨fun _ => ⟨(RX14, TX14, 1), "BoardCrossing$Not", rfl, by decide, Or.inl q974, Or.inl rfl⟩,
    fun _ h => absurd h List.not_mem_nil⟩
theorem ai_ft_ok12 : ∀ e ∈ ai_ftl 12, e.2.1 < ai_ncl → ai_FOK 12 e.1 e.2.1 e.2.2 := by
  unfold ai_ftl
  exact List.forall_mem_cons.mpr ⟨fun _ => ⟨(RX15, TX15, 1), "BoardCrossing$Numeral", rfl, by decide, Or.inl q1002, Or.inl rfl⟩,
    fun _ h => absurd h List.not_mem_nil⟩
theorem ai_ft_ok13 : ∀ e ∈ ai_ftl 13, e.2.1 < ai_ncl → ai_FOK 13 e.1 e.2.1 e.2.2 := by
  unfold ai_ftl
  exact List.forall_mem_cons.mpr ⟨fun _ => ⟨(RX16, TX16, 1), "BoardCrossing$Named", rfl, by decide, Or.inl q1012, Or.inl rfl⟩,
    fun _ h => absurd h List.not_mem_nil⟩
theorem ai_ft_ok14 : ∀ e ∈ ai_ftl 14, e.2.1 < ai_ncl → ai_FOK 14 e.1 e.2.1 e.2.2 := by
  unfold ai_ftl
  exact List.forall_mem_cons.mpr ⟨fun _ => ⟨(RX17, TX17, 3), "BoardCrossing$Two", rfl, by decide, Or.inl q1022, Or.inl rfl⟩,
    List.forall_mem_cons.mpr ⟨fun _ => ⟨(RX17, TX17, 3), "BoardCrossing$Two", rfl, by decide, Or.inl q1023, Or.inl rfl⟩,
    List.forall_mem_cons.mpr ⟨fun _ => ⟨(RX17, TX17, 3), "BoardCrossing$Two", rfl, by decide, Or.inl q1024, Or.inl rfl⟩,
    fun _ h => absurd h List.not_mem_nil⟩⟩⟩
theorem ai_ft_ok15 : ∀ e ∈ ai_ftl 15, e.2.1 < ai_ncl → ai_FOK 15 e.1 e.2.1 e.2.2 := by
  unfold ai_ftl
  exact List.forall_mem_cons.mpr ⟨fun _ => ⟨(RX18, TX18, 6), "BoardCrossing$Sight", rfl, by decide, Or.inl q1399, Or.inl rfl⟩,
    List.forall_mem_cons.mpr ⟨fun _ => ⟨(RX18, TX18, 6), "BoardCrossing$Sight", rfl, by decide, Or.inl q1390, Or.inl rfl⟩,
    List.forall_mem_cons.mpr ⟨fun _ => ⟨(RX18, TX18, 6), "BoardCrossing$Sight", rfl, by decide, Or.inl q1392, Or.inl rfl⟩,
    List.forall_mem_cons.mpr ⟨fun _ => ⟨(RX18, TX18, 6), "BoardCrossing$Sight", rfl, by decide, Or.inl q1395, Or.inl rfl⟩,
    List.forall_mem_cons.mpr ⟨fun _ => ⟨(RX18, TX18, 6), "BoardCrossing$Sight", rfl, by decide, Or.inl q1397, Or.inl rfl⟩,
    List.forall_mem_cons.mpr ⟨fun _ => ⟨(RX18, TX18, 6), "BoardCrossing$Sight", rfl, by decide, Or.inl q1394, Or.inl rfl⟩,
    fun _ h => absurd h List.not_mem_nil⟩⟩⟩⟩⟩⟩
theorem ai_ft_ok16 : ∀ e ∈ ai_ftl 16, e.2.1 < ai_ncl → ai_FOK 16 e.1 e.2.1 e.2.2 := by
  unfold ai_ftl
  exact List.forall_mem_cons.mpr ⟨fun _ => ⟨(RJ2, TJ2, 3), "java/util/ArrayList", rfl, by decide, Or.inl q192, Or.inl rfl⟩,
    List.forall_mem_cons.mpr ⟨fun _ => ⟨(RJ2, TJ2, 3), "java/util/ArrayList", rfl, by decide, Or.inl q195, Or.inl rfl⟩,
    List.forall_mem_cons.mpr ⟨fun _ => ⟨(RJ2, TJ2, 3), "java/util/ArrayList", rfl, by decide, Or.inl q199, Or.inr q198⟩,
    fun _ h => absurd h List.not_mem_nil⟩⟩⟩
theorem ai_ft_ok17 : ∀ e ∈ ai_ftl 17, e.2.1 < ai_ncl → ai_FOK 17 e.1 e.2.1 e.2.2 := by
  unfold ai_ftl
  exact List.forall_mem_cons.mpr ⟨fun _ => ⟨(RJ10, TJ10, 4), "java/util/ArrayList$It\x72", rfl, by decide, Or.inl q798, Or.inl rfl⟩,
    List.forall_mem_cons.mpr ⟨fun _ => ⟨(RJ10, TJ10, 4), "java/util/ArrayList$It\x72", rfl, by decide, Or.inl q796, Or.inl rfl⟩,
    List.forall_mem_cons.mpr ⟨fun _ => ⟨(RJ2, TJ2, 3), "java/util/ArrayList", rfl, by decide, Or.inl q197, Or.inr q198⟩,
    List.forall_mem_cons.mpr ⟨fun _ => ⟨(RJ10, TJ10, 4), "java/util/ArrayList$It\x72", rfl, by decide, Or.inl q797, Or.inl rfl⟩,
    List.forall_mem_cons.mpr ⟨fun _ => ⟨(RJ10, TJ10, 4), "java/util/ArrayList$It\x72", rfl, by decide, Or.inl q795, Or.inl rfl⟩,
    List.forall_mem_cons.mpr ⟨fun _ => ⟨(RJ2, TJ2, 3), "java/util/ArrayList", rfl, by decide, Or.inr ⟨"java/util/ArrayList", nw194, by decide +kernel⟩, Or.inl rfl⟩,
    List.forall_mem_cons.mpr ⟨fun _ => ⟨(RJ2, TJ2, 3), "java/util/ArrayList", rfl, by decide, Or.inl q193, Or.inl rfl⟩,
    fun _ h => absurd h List.not_mem_nil⟩⟩⟩⟩⟩⟩⟩
theorem ai_ft_ok18 : ∀ e ∈ ai_ftl 18, e.2.1 < ai_ncl → ai_FOK 18 e.1 e.2.1 e.2.2 := by
  unfold ai_ftl
  exact List.forall_mem_cons.mpr ⟨fun h => absurd h (by decide),
    List.forall_mem_cons.mpr ⟨fun h => absurd h (by decide),
    fun _ h => absurd h List.not_mem_nil⟩⟩
theorem ai_ft_ok19 : ∀ e ∈ ai_ftl 19, e.2.1 < ai_ncl → ai_FOK 19 e.1 e.2.1 e.2.2 := by
  unfold ai_ftl
  exact List.forall_mem_cons.mpr ⟨fun _ => ⟨(RX5, TX5, 4), "BoardCrossing$Wish", rfl, by decide, Or.inl q409, Or.inl rfl⟩,
    List.forall_mem_cons.mpr ⟨fun _ => ⟨(RX6, TX6, 5), "BoardCrossing$Wish", rfl, by decide, Or.inl q409, Or.inl rfl⟩,
    List.forall_mem_cons.mpr ⟨fun _ => ⟨(RX5, TX5, 4), "BoardCrossing$Wish", rfl, by decide, Or.inl q405, Or.inl rfl⟩,
    List.forall_mem_cons.mpr ⟨fun _ => ⟨(RX6, TX6, 5), "BoardCrossing$Wish", rfl, by decide, Or.inl q405, Or.inl rfl⟩,
    List.forall_mem_cons.mpr ⟨fun _ => ⟨(RX0, TX0, 29), "BoardCrossing", rfl, by decide, Or.inr ⟨"BoardCrossing", nw479, by decide +kernel⟩, Or.inl rfl⟩,
    List.forall_mem_cons.mpr ⟨fun _ => ⟨(RX1, TX1, 17), "BoardCrossing$Rive\x72", rfl, by decide, Or.inr ⟨"BoardCrossing", nw234, by decide +kernel⟩, Or.inl rfl⟩,
    List.forall_mem_cons.mpr ⟨fun _ => ⟨(RX0, TX0, 29), "BoardCrossing", rfl, by decide, Or.inr ⟨"BoardCrossing", nw482, by decide +kernel⟩, Or.inl rfl⟩,
    List.forall_mem_cons.mpr ⟨fun _ => ⟨(RX2, TX2, 7), "BoardCrossing$State", rfl, by decide, Or.inr ⟨"BoardCrossing", nw297, by decide +kernel⟩, Or.inl rfl⟩,
    List.forall_mem_cons.mpr ⟨fun _ => ⟨(RX0, TX0, 29), "BoardCrossing", rfl, by decide, Or.inr ⟨"BoardCrossing", nw484, by decide +kernel⟩, Or.inl rfl⟩,
    List.forall_mem_cons.mpr ⟨fun _ => ⟨(RX5, TX5, 4), "BoardCrossing$Wish", rfl, by decide, Or.inl q407, Or.inl rfl⟩,
    List.forall_mem_cons.mpr ⟨fun _ => ⟨(RX6, TX6, 5), "BoardCrossing$Wish", rfl, by decide, Or.inl q407, Or.inl rfl⟩,
    List.forall_mem_cons.mpr ⟨fun _ => ⟨(RX0, TX0, 29), "BoardCrossing", rfl, by decide, Or.inr ⟨"BoardCrossing", nw497, by decide +kernel⟩, Or.inl rfl⟩,
    List.forall_mem_cons.mpr ⟨fun _ => ⟨(RX0, TX0, 29), "BoardCrossing", rfl, by decide, Or.inr ⟨"BoardCrossing", nw494, by decide +kernel⟩, Or.inl rfl⟩,
    fun _ h => absurd h List.not_mem_nil⟩⟩⟩⟩⟩⟩⟩⟩⟩⟩⟩⟩⟩
theorem ai_ft_ok20 : ∀ e ∈ ai_ftl 20, e.2.1 < ai_ncl → ai_FOK 20 e.1 e.2.1 e.2.2 := by
  unfold ai_ftl
  exact List.forall_mem_cons.mpr ⟨fun _ => ⟨(RX11, TX11, 4), "BoardCrossing$Called", rfl, by decide, Or.inl q845, Or.inl rfl⟩,
    List.forall_mem_cons.mpr ⟨fun _ => ⟨(RX12, TX12, 2), "BoardCrossing$Called", rfl, by decide, Or.inl q845, Or.inl rfl⟩,
    fun _ h => absurd h List.not_mem_nil⟩⟩
theorem ai_ft_ok23 : ∀ e ∈ ai_ftl 23, e.2.1 < ai_ncl → ai_FOK 23 e.1 e.2.1 e.2.2 := by
  unfold ai_ftl
  exact List.forall_mem_cons.mpr ⟨fun _ => ⟨(RJ2, TJ2, 3), "java/util/AbstractList", rfl, by decide, Or.inl q196, Or.inl rfl⟩,
    fun _ h => absurd h List.not_mem_nil⟩
theorem ai_ft_ok : ∀ o, ∀ e ∈ ai_ftl o, e.2.1 < ai_ncl → ai_FOK o e.1 e.2.1 e.2.2 := by
  intro o
  match o with
  | 0 => exact ai_ft_ok0
  | 1 => exact ai_ft_ok1
  | 2 => exact ai_ft_ok2
  | 3 => exact ai_ft_ok3
  | 4 => exact ai_ft_ok4
  | 5 => exact ai_ft_ok5
  | 6 => exact ai_ft_ok6
  | 7 => exact ai_ft_ok7
  | 8 => exact ai_ft_ok8
  | 9 => exact ai_ft_ok9
  | 10 => exact fun e h => absurd h List.not_mem_nil
  | 11 => exact ai_ft_ok11
  | 12 => exact ai_ft_ok12
  | 13 => exact ai_ft_ok13
  | 14 => exact ai_ft_ok14
  | 15 => exact ai_ft_ok15
  | 16 => exact ai_ft_ok16
  | 17 => exact ai_ft_ok17
  | 18 => exact ai_ft_ok18
  | 19 => exact ai_ft_ok19
  | 20 => exact ai_ft_ok20
  | 21 => exact fun e h => absurd h List.not_mem_nil
  | 22 => exact fun e h => absurd h List.not_mem_nil
  | 23 => exact ai_ft_ok23
  | o + 24 => exact fun e h => absurd h (by unfold ai_ftl; exact List.not_mem_nil)
def ai_MOK (M : ai_M) : Prop := plainName M.1.cls = true ∧ ai_cn M.2.2.2.2.1 = M.1.cls ∧ ((M.2.2.2.2.2 = [] ∧ Cond.code M.1 M.2.1 M.2.2.1 M.2.2.2.1 ∈ lw_all) ∨ (M.2.2.2.2.2 ≠ [] ∧ Cond.codeWith M.1 M.2.1 M.2.2.1 M.2.2.2.1 M.2.2.2.2.2 ∈ lw_all))
theorem ai_mt_ok0 : ∀ M ∈ ai_mt0, M.1 ≠ x → ai_MOK M := by
  unfold ai_mt0
  exact List.forall_mem_cons.mpr ⟨fun h => absurd rfl h,
    List.forall_mem_cons.mpr ⟨fun _ => ⟨by decide +kernel, rfl, Or.inl ⟨rfl, q188⟩⟩,
    List.forall_mem_cons.mpr ⟨fun _ => ⟨by decide +kernel, rfl, Or.inl ⟨rfl, q185⟩⟩,
    List.forall_mem_cons.mpr ⟨fun _ => ⟨by decide +kernel, rfl, Or.inl ⟨rfl, q182⟩⟩,
    List.forall_mem_cons.mpr ⟨fun _ => ⟨by decide +kernel, rfl, Or.inl ⟨rfl, q176⟩⟩,
    List.forall_mem_cons.mpr ⟨fun _ => ⟨by decide +kernel, rfl, Or.inl ⟨rfl, q289⟩⟩,
    List.forall_mem_cons.mpr ⟨fun _ => ⟨by decide +kernel, rfl, Or.inl ⟨rfl, q402⟩⟩,
    List.forall_mem_cons.mpr ⟨fun _ => ⟨by decide +kernel, rfl, Or.inl ⟨rfl, q399⟩⟩,
    List.forall_mem_cons.mpr ⟨fun _ => ⟨by decide +kernel, rfl, Or.inl ⟨rfl, q423⟩⟩,
    List.forall_mem_cons.mpr ⟨fun _ => ⟨by decide +kernel, rfl, Or.inl ⟨rfl, q441⟩⟩,
    List.forall_mem_cons.mpr ⟨fun _ => ⟨by decide +kernel, rfl, Or.inl ⟨rfl, q459⟩⟩,
    List.forall_mem_cons.mpr ⟨fun _ => ⟨by decide +kernel, rfl, Or.inl ⟨rfl, q469⟩⟩,
    List.forall_mem_cons.mpr ⟨fun _ => ⟨by decide +kernel, rfl, Or.inl ⟨rfl, q466⟩⟩,
    List.forall_mem_cons.mpr ⟨fun _ => ⟨by decide +kernel, rfl, Or.inl ⟨rfl, q473⟩⟩,
    List.forall_mem_cons.mpr ⟨fun _ => ⟨by decide +kernel, rfl, Or.inl ⟨rfl, q463⟩⟩,
    List.forall_mem_cons.mpr ⟨fun _ => ⟨by decide +kernel, rfl, Or.inl ⟨rfl, q455⟩⟩,
    List.forall_mem_cons.mpr ⟨fun _ => ⟨by decide +kernel, rfl, Or.inl ⟨rfl, q478⟩⟩,
    List.forall_mem_cons.mpr ⟨fun _ => ⟨by decide +kernel, rfl, Or.inl ⟨rfl, q451⟩⟩,
    List.forall_mem_cons.mpr ⟨fun _ => ⟨by decide +kernel, rfl, Or.inl ⟨rfl, q168⟩⟩,
    List.forall_mem_cons.mpr ⟨fun _ => ⟨by decide +kernel, rfl, Or.inl ⟨rfl, q1476⟩⟩,
    List.forall_mem_cons.mpr ⟨fun _ => ⟨by decide +kernel, rfl, Or.inl ⟨rfl, q580⟩⟩,
    List.forall_mem_cons.mpr ⟨fun _ => ⟨by decide +kernel, rfl, Or.inl ⟨rfl, q576⟩⟩,
    List.forall_mem_cons.mpr ⟨fun _ => ⟨by decide +kernel, rfl, Or.inl ⟨rfl, q1733⟩⟩,
    List.forall_mem_cons.mpr ⟨fun _ => ⟨by decide +kernel, rfl, Or.inl ⟨rfl, q1729⟩⟩,
    List.forall_mem_cons.mpr ⟨fun _ => ⟨by decide +kernel, rfl, Or.inl ⟨rfl, q584⟩⟩,
    List.forall_mem_cons.mpr ⟨fun _ => ⟨by decide +kernel, rfl, Or.inl ⟨rfl, q1737⟩⟩,
    List.forall_mem_cons.mpr ⟨fun _ => ⟨by decide +kernel, rfl, Or.inl ⟨rfl, q593⟩⟩,
    List.forall_mem_cons.mpr ⟨fun _ => ⟨by decide +kernel, rfl, Or.inl ⟨rfl, q642⟩⟩,
    List.forall_mem_cons.mpr ⟨fun _ => ⟨by decide +kernel, rfl, Or.inl ⟨rfl, q645⟩⟩,
    List.forall_mem_cons.mpr ⟨fun _ => ⟨by decide +kernel, rfl, Or.inl ⟨rfl, q649⟩⟩,
    List.forall_mem_cons.mpr ⟨fun _ => ⟨by decide +kernel, rfl, Or.inl ⟨rfl, q652⟩⟩,
    List.forall_mem_cons.mpr ⟨fun _ => ⟨by decide +kernel, rfl, Or.inl ⟨rfl, q656⟩⟩,
    List.forall_mem_cons.mpr ⟨fun _ => ⟨by decide +kernel, rfl, Or.inl ⟨rfl, q659⟩⟩,
    List.forall_mem_cons.mpr ⟨fun _ => ⟨by decide +kernel, rfl, Or.inl ⟨rfl, q638⟩⟩,
    List.forall_mem_cons.mpr ⟨fun _ => ⟨by decide +kernel, rfl, Or.inl ⟨rfl, q680⟩⟩,
    List.forall_mem_cons.mpr ⟨fun _ => ⟨by decide +kernel, rfl, Or.inl ⟨rfl, q676⟩⟩,
    List.forall_mem_cons.mpr ⟨fun _ => ⟨by decide +kernel, rfl, Or.inl ⟨rfl, q690⟩⟩,
    List.forall_mem_cons.mpr ⟨fun _ => ⟨by decide +kernel, rfl, Or.inl ⟨rfl, q696⟩⟩,
    List.forall_mem_cons.mpr ⟨fun _ => ⟨by decide +kernel, rfl, Or.inl ⟨rfl, q693⟩⟩,
    List.forall_mem_cons.mpr ⟨fun _ => ⟨by decide +kernel, rfl, Or.inl ⟨rfl, q686⟩⟩,
    fun _ h => absurd h List.not_mem_nil⟩⟩⟩⟩⟩⟩⟩⟩⟩⟩⟩⟩⟩⟩⟩⟩⟩⟩⟩⟩⟩⟩⟩⟩⟩⟩⟩⟩⟩⟩⟩⟩⟩⟩⟩⟩⟩⟩⟩⟩
theorem ai_mt_ok1 : ∀ M ∈ ai_mt1, M.1 ≠ x → ai_MOK M := by
  unfold ai_mt1
  exact List.forall_mem_cons.mpr ⟨fun _ => ⟨by decide +kernel, rfl, Or.inl ⟨rfl, q672⟩⟩,
    List.forall_mem_cons.mpr ⟨fun _ => ⟨by decide +kernel, rfl, Or.inl ⟨rfl, q667⟩⟩,
    List.forall_mem_cons.mpr ⟨fun _ => ⟨by decide +kernel, rfl, Or.inl ⟨rfl, q734⟩⟩,
    List.forall_mem_cons.mpr ⟨fun _ => ⟨by decide +kernel, rfl, Or.inl ⟨rfl, q730⟩⟩,
    List.forall_mem_cons.mpr ⟨fun _ => ⟨by decide +kernel, rfl, Or.inl ⟨rfl, q738⟩⟩,
    List.forall_mem_cons.mpr ⟨fun _ => ⟨by decide +kernel, rfl, Or.inl ⟨rfl, q742⟩⟩,
    List.forall_mem_cons.mpr ⟨fun _ => ⟨by decide +kernel, rfl, Or.inl ⟨rfl, q751⟩⟩,
    List.forall_mem_cons.mpr ⟨fun _ => ⟨by decide +kernel, rfl, Or.inl ⟨rfl, q747⟩⟩,
    List.forall_mem_cons.mpr ⟨fun _ => ⟨by decide +kernel, rfl, Or.inl ⟨rfl, q764⟩⟩,
    List.forall_mem_cons.mpr ⟨fun _ => ⟨by decide +kernel, rfl, Or.inl ⟨rfl, q760⟩⟩,
    List.forall_mem_cons.mpr ⟨fun _ => ⟨by decide +kernel, rfl, Or.inl ⟨rfl, q755⟩⟩,
    List.forall_mem_cons.mpr ⟨fun _ => ⟨by decide +kernel, rfl, Or.inl ⟨rfl, q768⟩⟩,
    List.forall_mem_cons.mpr ⟨fun _ => ⟨by decide +kernel, rfl, Or.inl ⟨rfl, q784⟩⟩,
    List.forall_mem_cons.mpr ⟨fun _ => ⟨by decide +kernel, rfl, Or.inl ⟨rfl, q793⟩⟩,
    List.forall_mem_cons.mpr ⟨fun _ => ⟨by decide +kernel, rfl, Or.inl ⟨rfl, q788⟩⟩,
    List.forall_mem_cons.mpr ⟨fun _ => ⟨by decide +kernel, rfl, Or.inl ⟨rfl, q817⟩⟩,
    List.forall_mem_cons.mpr ⟨fun _ => ⟨by decide +kernel, rfl, Or.inl ⟨rfl, q830⟩⟩,
    List.forall_mem_cons.mpr ⟨fun _ => ⟨by decide +kernel, rfl, Or.inl ⟨rfl, q826⟩⟩,
    List.forall_mem_cons.mpr ⟨fun _ => ⟨by decide +kernel, rfl, Or.inl ⟨rfl, q778⟩⟩,
    List.forall_mem_cons.mpr ⟨fun _ => ⟨by decide +kernel, rfl, Or.inl ⟨rfl, q837⟩⟩,
    List.forall_mem_cons.mpr ⟨fun _ => ⟨by decide +kernel, rfl, Or.inl ⟨rfl, q834⟩⟩,
    List.forall_mem_cons.mpr ⟨fun _ => ⟨by decide +kernel, rfl, Or.inl ⟨rfl, q891⟩⟩,
    List.forall_mem_cons.mpr ⟨fun _ => ⟨by decide +kernel, rfl, Or.inl ⟨rfl, q884⟩⟩,
    List.forall_mem_cons.mpr ⟨fun _ => ⟨by decide +kernel, rfl, Or.inl ⟨rfl, q919⟩⟩,
    List.forall_mem_cons.mpr ⟨fun _ => ⟨by decide +kernel, rfl, Or.inl ⟨rfl, q894⟩⟩,
    List.forall_mem_cons.mpr ⟨fun _ => ⟨by decide +kernel, rfl, Or.inl ⟨rfl, q881⟩⟩,
    List.forall_mem_cons.mpr ⟨fun _ => ⟨by decide +kernel, rfl, Or.inl ⟨rfl, q877⟩⟩,
    List.forall_mem_cons.mpr ⟨fun _ => ⟨by decide +kernel, rfl, Or.inl ⟨rfl, q873⟩⟩,
    List.forall_mem_cons.mpr ⟨fun _ => ⟨by decide +kernel, rfl, Or.inl ⟨rfl, q869⟩⟩,
    List.forall_mem_cons.mpr ⟨fun _ => ⟨by decide +kernel, rfl, Or.inl ⟨rfl, q772⟩⟩,
    List.forall_mem_cons.mpr ⟨fun _ => ⟨by decide +kernel, rfl, Or.inl ⟨rfl, q939⟩⟩,
    List.forall_mem_cons.mpr ⟨fun _ => ⟨by decide +kernel, rfl, Or.inl ⟨rfl, q934⟩⟩,
    List.forall_mem_cons.mpr ⟨fun _ => ⟨by decide +kernel, rfl, Or.inl ⟨rfl, q964⟩⟩,
    List.forall_mem_cons.mpr ⟨fun _ => ⟨by decide +kernel, rfl, Or.inl ⟨rfl, q972⟩⟩,
    List.forall_mem_cons.mpr ⟨fun _ => ⟨by decide +kernel, rfl, Or.inl ⟨rfl, q969⟩⟩,
    List.forall_mem_cons.mpr ⟨fun _ => ⟨by decide +kernel, rfl, Or.inl ⟨rfl, q993⟩⟩,
    List.forall_mem_cons.mpr ⟨fun _ => ⟨by decide +kernel, rfl, Or.inl ⟨rfl, q1000⟩⟩,
    List.forall_mem_cons.mpr ⟨fun _ => ⟨by decide +kernel, rfl, Or.inl ⟨rfl, q1010⟩⟩,
    List.forall_mem_cons.mpr ⟨fun _ => ⟨by decide +kernel, rfl, Or.inl ⟨rfl, q989⟩⟩,
    List.forall_mem_cons.mpr ⟨fun _ => ⟨by decide +kernel, rfl, Or.inl ⟨rfl, q1020⟩⟩,
    fun _ h => absurd h List.not_mem_nil⟩⟩⟩⟩⟩⟩⟩⟩⟩⟩⟩⟩⟩⟩⟩⟩⟩⟩⟩⟩⟩⟩⟩⟩⟩⟩⟩⟩⟩⟩⟩⟩⟩⟩⟩⟩⟩⟩⟩⟩
theorem ai_mt_ok2 : ∀ M ∈ ai_mt2, M.1 ≠ x → ai_MOK M := by
  unfold ai_mt2
  exact List.forall_mem_cons.mpr ⟨fun _ => ⟨by decide +kernel, rfl, Or.inl ⟨rfl, q985⟩⟩,
    List.forall_mem_cons.mpr ⟨fun _ => ⟨by decide +kernel, rfl, Or.inl ⟨rfl, q981⟩⟩,
    List.forall_mem_cons.mpr ⟨fun _ => ⟨by decide +kernel, rfl, Or.inl ⟨rfl, q959⟩⟩,
    List.forall_mem_cons.mpr ⟨fun _ => ⟨by decide +kernel, rfl, Or.inl ⟨rfl, q955⟩⟩,
    List.forall_mem_cons.mpr ⟨fun _ => ⟨by decide +kernel, rfl, Or.inl ⟨rfl, q951⟩⟩,
    List.forall_mem_cons.mpr ⟨fun _ => ⟨by decide +kernel, rfl, Or.inl ⟨rfl, q947⟩⟩,
    List.forall_mem_cons.mpr ⟨fun _ => ⟨by decide +kernel, rfl, Or.inl ⟨rfl, q663⟩⟩,
    List.forall_mem_cons.mpr ⟨fun _ => ⟨by decide +kernel, rfl, Or.inl ⟨rfl, q634⟩⟩,
    List.forall_mem_cons.mpr ⟨fun _ => ⟨by decide +kernel, rfl, Or.inl ⟨rfl, q1037⟩⟩,
    List.forall_mem_cons.mpr ⟨fun _ => ⟨by decide +kernel, rfl, Or.inr ⟨by decide, q588⟩⟩,
    List.forall_mem_cons.mpr ⟨fun _ => ⟨by decide +kernel, rfl, Or.inl ⟨rfl, q1753⟩⟩,
    List.forall_mem_cons.mpr ⟨fun _ => ⟨by decide +kernel, rfl, Or.inl ⟨rfl, q1756⟩⟩,
    List.forall_mem_cons.mpr ⟨fun _ => ⟨by decide +kernel, rfl, Or.inl ⟨rfl, q1759⟩⟩,
    List.forall_mem_cons.mpr ⟨fun _ => ⟨by decide +kernel, rfl, Or.inl ⟨rfl, q1762⟩⟩,
    List.forall_mem_cons.mpr ⟨fun _ => ⟨by decide +kernel, rfl, Or.inl ⟨rfl, q1749⟩⟩,
    List.forall_mem_cons.mpr ⟨fun _ => ⟨by decide +kernel, rfl, Or.inl ⟨rfl, q1771⟩⟩,
    List.forall_mem_cons.mpr ⟨fun _ => ⟨by decide +kernel, rfl, Or.inl ⟨rfl, q1783⟩⟩,
    List.forall_mem_cons.mpr ⟨fun _ => ⟨by decide +kernel, rfl, Or.inl ⟨rfl, q1779⟩⟩,
    List.forall_mem_cons.mpr ⟨fun _ => ⟨by decide +kernel, rfl, Or.inl ⟨rfl, q1792⟩⟩,
    List.forall_mem_cons.mpr ⟨fun _ => ⟨by decide +kernel, rfl, Or.inl ⟨rfl, q1788⟩⟩,
    List.forall_mem_cons.mpr ⟨fun _ => ⟨by decide +kernel, rfl, Or.inl ⟨rfl, q1775⟩⟩,
    List.forall_mem_cons.mpr ⟨fun _ => ⟨by decide +kernel, rfl, Or.inl ⟨rfl, q1802⟩⟩,
    List.forall_mem_cons.mpr ⟨fun _ => ⟨by decide +kernel, rfl, Or.inl ⟨rfl, q1797⟩⟩,
    List.forall_mem_cons.mpr ⟨fun _ => ⟨by decide +kernel, rfl, Or.inl ⟨rfl, q1807⟩⟩,
    List.forall_mem_cons.mpr ⟨fun _ => ⟨by decide +kernel, rfl, Or.inl ⟨rfl, q1824⟩⟩,
    List.forall_mem_cons.mpr ⟨fun _ => ⟨by decide +kernel, rfl, Or.inl ⟨rfl, q1820⟩⟩,
    List.forall_mem_cons.mpr ⟨fun _ => ⟨by decide +kernel, rfl, Or.inl ⟨rfl, q1816⟩⟩,
    List.forall_mem_cons.mpr ⟨fun _ => ⟨by decide +kernel, rfl, Or.inl ⟨rfl, q1812⟩⟩,
    List.forall_mem_cons.mpr ⟨fun _ => ⟨by decide +kernel, rfl, Or.inl ⟨rfl, q1841⟩⟩,
    List.forall_mem_cons.mpr ⟨fun _ => ⟨by decide +kernel, rfl, Or.inl ⟨rfl, q1856⟩⟩,
    List.forall_mem_cons.mpr ⟨fun _ => ⟨by decide +kernel, rfl, Or.inl ⟨rfl, q1853⟩⟩,
    List.forall_mem_cons.mpr ⟨fun _ => ⟨by decide +kernel, rfl, Or.inl ⟨rfl, q1860⟩⟩,
    List.forall_mem_cons.mpr ⟨fun _ => ⟨by decide +kernel, rfl, Or.inl ⟨rfl, q1864⟩⟩,
    List.forall_mem_cons.mpr ⟨fun _ => ⟨by decide +kernel, rfl, Or.inl ⟨rfl, q1868⟩⟩,
    List.forall_mem_cons.mpr ⟨fun _ => ⟨by decide +kernel, rfl, Or.inl ⟨rfl, q1872⟩⟩,
    List.forall_mem_cons.mpr ⟨fun _ => ⟨by decide +kernel, rfl, Or.inl ⟨rfl, q1876⟩⟩,
    List.forall_mem_cons.mpr ⟨fun _ => ⟨by decide +kernel, rfl, Or.inl ⟨rfl, q1849⟩⟩,
    List.forall_mem_cons.mpr ⟨fun _ => ⟨by decide +kernel, rfl, Or.inl ⟨rfl, q1880⟩⟩,
    List.forall_mem_cons.mpr ⟨fun _ => ⟨by decide +kernel, rfl, Or.inl ⟨rfl, q1884⟩⟩,
    List.forall_mem_cons.mpr ⟨fun _ => ⟨by decide +kernel, rfl, Or.inl ⟨rfl, q1888⟩⟩,
    fun _ h => absurd h List.not_mem_nil⟩⟩⟩⟩⟩⟩⟩⟩⟩⟩⟩⟩⟩⟩⟩⟩⟩⟩⟩⟩⟩⟩⟩⟩⟩⟩⟩⟩⟩⟩⟩⟩⟩⟩⟩⟩⟩⟩⟩⟩
theorem ai_mt_ok3 : ∀ M ∈ ai_mt3, M.1 ≠ x → ai_MOK M := by
  unfold ai_mt3
  exact List.forall_mem_cons.mpr ⟨fun _ => ⟨by decide +kernel, rfl, Or.inl ⟨rfl, q1892⟩⟩,
    List.forall_mem_cons.mpr ⟨fun _ => ⟨by decide +kernel, rfl, Or.inl ⟨rfl, q1845⟩⟩,
    List.forall_mem_cons.mpr ⟨fun _ => ⟨by decide +kernel, rfl, Or.inl ⟨rfl, q1766⟩⟩,
    List.forall_mem_cons.mpr ⟨fun _ => ⟨by decide +kernel, rfl, Or.inl ⟨rfl, q1745⟩⟩,
    List.forall_mem_cons.mpr ⟨fun _ => ⟨by decide +kernel, rfl, Or.inl ⟨rfl, q1741⟩⟩,
    List.forall_mem_cons.mpr ⟨fun _ => ⟨by decide +kernel, rfl, Or.inl ⟨rfl, q1042⟩⟩,
    List.forall_mem_cons.mpr ⟨fun _ => ⟨by decide +kernel, rfl, Or.inl ⟨rfl, q1896⟩⟩,
    List.forall_mem_cons.mpr ⟨fun _ => ⟨by decide +kernel, rfl, Or.inl ⟨rfl, q1053⟩⟩,
    List.forall_mem_cons.mpr ⟨fun _ => ⟨by decide +kernel, rfl, Or.inl ⟨rfl, q1050⟩⟩,
    List.forall_mem_cons.mpr ⟨fun _ => ⟨by decide +kernel, rfl, Or.inl ⟨rfl, q1063⟩⟩,
    List.forall_mem_cons.mpr ⟨fun _ => ⟨by decide +kernel, rfl, Or.inl ⟨rfl, q1071⟩⟩,
    List.forall_mem_cons.mpr ⟨fun _ => ⟨by decide +kernel, rfl, Or.inl ⟨rfl, q1067⟩⟩,
    List.forall_mem_cons.mpr ⟨fun _ => ⟨by decide +kernel, rfl, Or.inl ⟨rfl, q1059⟩⟩,
    List.forall_mem_cons.mpr ⟨fun _ => ⟨by decide +kernel, rfl, Or.inl ⟨rfl, q1046⟩⟩,
    List.forall_mem_cons.mpr ⟨fun _ => ⟨by decide +kernel, rfl, Or.inl ⟨rfl, q1907⟩⟩,
    List.forall_mem_cons.mpr ⟨fun _ => ⟨by decide +kernel, rfl, Or.inl ⟨rfl, q1904⟩⟩,
    List.forall_mem_cons.mpr ⟨fun _ => ⟨by decide +kernel, rfl, Or.inl ⟨rfl, q1911⟩⟩,
    List.forall_mem_cons.mpr ⟨fun _ => ⟨by decide +kernel, rfl, Or.inl ⟨rfl, q1915⟩⟩,
    List.forall_mem_cons.mpr ⟨fun _ => ⟨by decide +kernel, rfl, Or.inl ⟨rfl, q1922⟩⟩,
    List.forall_mem_cons.mpr ⟨fun _ => ⟨by decide +kernel, rfl, Or.inl ⟨rfl, q1919⟩⟩,
    List.forall_mem_cons.mpr ⟨fun _ => ⟨by decide +kernel, rfl, Or.inl ⟨rfl, q1900⟩⟩,
    List.forall_mem_cons.mpr ⟨fun _ => ⟨by decide +kernel, rfl, Or.inl ⟨rfl, q1086⟩⟩,
    List.forall_mem_cons.mpr ⟨fun _ => ⟨by decide +kernel, rfl, Or.inl ⟨rfl, q1082⟩⟩,
    List.forall_mem_cons.mpr ⟨fun _ => ⟨by decide +kernel, rfl, Or.inl ⟨rfl, q1078⟩⟩,
    List.forall_mem_cons.mpr ⟨fun _ => ⟨by decide +kernel, rfl, Or.inl ⟨rfl, q1930⟩⟩,
    List.forall_mem_cons.mpr ⟨fun _ => ⟨by decide +kernel, rfl, Or.inl ⟨rfl, q1926⟩⟩,
    List.forall_mem_cons.mpr ⟨fun _ => ⟨by decide +kernel, rfl, Or.inl ⟨rfl, q1091⟩⟩,
    List.forall_mem_cons.mpr ⟨fun _ => ⟨by decide +kernel, rfl, Or.inl ⟨rfl, q1938⟩⟩,
    List.forall_mem_cons.mpr ⟨fun _ => ⟨by decide +kernel, rfl, Or.inl ⟨rfl, q1942⟩⟩,
    List.forall_mem_cons.mpr ⟨fun _ => ⟨by decide +kernel, rfl, Or.inl ⟨rfl, q1934⟩⟩,
    List.forall_mem_cons.mpr ⟨fun _ => ⟨by decide +kernel, rfl, Or.inl ⟨rfl, q1114⟩⟩,
    List.forall_mem_cons.mpr ⟨fun _ => ⟨by decide +kernel, rfl, Or.inl ⟨rfl, q1108⟩⟩,
    List.forall_mem_cons.mpr ⟨fun _ => ⟨by decide +kernel, rfl, Or.inl ⟨rfl, q1120⟩⟩,
    List.forall_mem_cons.mpr ⟨fun _ => ⟨by decide +kernel, rfl, Or.inl ⟨rfl, q1116⟩⟩,
    List.forall_mem_cons.mpr ⟨fun _ => ⟨by decide +kernel, rfl, Or.inl ⟨rfl, q1111⟩⟩,
    List.forall_mem_cons.mpr ⟨fun _ => ⟨by decide +kernel, rfl, Or.inl ⟨rfl, q1125⟩⟩,
    List.forall_mem_cons.mpr ⟨fun _ => ⟨by decide +kernel, rfl, Or.inl ⟨rfl, q1100⟩⟩,
    List.forall_mem_cons.mpr ⟨fun _ => ⟨by decide +kernel, rfl, Or.inl ⟨rfl, q1096⟩⟩,
    List.forall_mem_cons.mpr ⟨fun _ => ⟨by decide +kernel, rfl, Or.inl ⟨rfl, q1953⟩⟩,
    List.forall_mem_cons.mpr ⟨fun _ => ⟨by decide +kernel, rfl, Or.inl ⟨rfl, q1956⟩⟩,
    fun _ h => absurd h List.not_mem_nil⟩⟩⟩⟩⟩⟩⟩⟩⟩⟩⟩⟩⟩⟩⟩⟩⟩⟩⟩⟩⟩⟩⟩⟩⟩⟩⟩⟩⟩⟩⟩⟩⟩⟩⟩⟩⟩⟩⟩⟩
theorem ai_mt_ok4 : ∀ M ∈ ai_mt4, M.1 ≠ x → ai_MOK M := by
  unfold ai_mt4
  exact List.forall_mem_cons.mpr ⟨fun _ => ⟨by decide +kernel, rfl, Or.inl ⟨rfl, q1950⟩⟩,
    List.forall_mem_cons.mpr ⟨fun _ => ⟨by decide +kernel, rfl, Or.inl ⟨rfl, q1946⟩⟩,
    List.forall_mem_cons.mpr ⟨fun _ => ⟨by decide +kernel, rfl, Or.inl ⟨rfl, q1143⟩⟩,
    List.forall_mem_cons.mpr ⟨fun _ => ⟨by decide +kernel, rfl, Or.inl ⟨rfl, q1139⟩⟩,
    List.forall_mem_cons.mpr ⟨fun _ => ⟨by decide +kernel, rfl, Or.inl ⟨rfl, q1151⟩⟩,
    List.forall_mem_cons.mpr ⟨fun _ => ⟨by decide +kernel, rfl, Or.inl ⟨rfl, q1147⟩⟩,
    List.forall_mem_cons.mpr ⟨fun _ => ⟨by decide +kernel, rfl, Or.inl ⟨rfl, q1135⟩⟩,
    List.forall_mem_cons.mpr ⟨fun _ => ⟨by decide +kernel, rfl, Or.inl ⟨rfl, q1157⟩⟩,
    List.forall_mem_cons.mpr ⟨fun _ => ⟨by decide +kernel, rfl, Or.inl ⟨rfl, q1131⟩⟩,
    List.forall_mem_cons.mpr ⟨fun _ => ⟨by decide +kernel, rfl, Or.inl ⟨rfl, q1964⟩⟩,
    List.forall_mem_cons.mpr ⟨fun _ => ⟨by decide +kernel, rfl, Or.inl ⟨rfl, q1972⟩⟩,
    List.forall_mem_cons.mpr ⟨fun _ => ⟨by decide +kernel, rfl, Or.inl ⟨rfl, q1968⟩⟩,
    List.forall_mem_cons.mpr ⟨fun _ => ⟨by decide +kernel, rfl, Or.inl ⟨rfl, q1976⟩⟩,
    List.forall_mem_cons.mpr ⟨fun _ => ⟨by decide +kernel, rfl, Or.inl ⟨rfl, q1960⟩⟩,
    List.forall_mem_cons.mpr ⟨fun _ => ⟨by decide +kernel, rfl, Or.inl ⟨rfl, q1169⟩⟩,
    List.forall_mem_cons.mpr ⟨fun _ => ⟨by decide +kernel, rfl, Or.inl ⟨rfl, q1173⟩⟩,
    List.forall_mem_cons.mpr ⟨fun _ => ⟨by decide +kernel, rfl, Or.inl ⟨rfl, q1165⟩⟩,
    List.forall_mem_cons.mpr ⟨fun _ => ⟨by decide +kernel, rfl, Or.inl ⟨rfl, q1984⟩⟩,
    List.forall_mem_cons.mpr ⟨fun _ => ⟨by decide +kernel, rfl, Or.inl ⟨rfl, q1988⟩⟩,
    List.forall_mem_cons.mpr ⟨fun _ => ⟨by decide +kernel, rfl, Or.inl ⟨rfl, q1980⟩⟩,
    List.forall_mem_cons.mpr ⟨fun _ => ⟨by decide +kernel, rfl, Or.inl ⟨rfl, q1177⟩⟩,
    List.forall_mem_cons.mpr ⟨fun _ => ⟨by decide +kernel, rfl, Or.inl ⟨rfl, q1992⟩⟩,
    List.forall_mem_cons.mpr ⟨fun _ => ⟨by decide +kernel, rfl, Or.inl ⟨rfl, q1181⟩⟩,
    List.forall_mem_cons.mpr ⟨fun _ => ⟨by decide +kernel, rfl, Or.inl ⟨rfl, q1996⟩⟩,
    List.forall_mem_cons.mpr ⟨fun _ => ⟨by decide +kernel, rfl, Or.inl ⟨rfl, q1190⟩⟩,
    List.forall_mem_cons.mpr ⟨fun _ => ⟨by decide +kernel, rfl, Or.inl ⟨rfl, q1194⟩⟩,
    List.forall_mem_cons.mpr ⟨fun _ => ⟨by decide +kernel, rfl, Or.inl ⟨rfl, q1186⟩⟩,
    List.forall_mem_cons.mpr ⟨fun _ => ⟨by decide +kernel, rfl, Or.inl ⟨rfl, q2004⟩⟩,
    List.forall_mem_cons.mpr ⟨fun _ => ⟨by decide +kernel, rfl, Or.inl ⟨rfl, q2000⟩⟩,
    List.forall_mem_cons.mpr ⟨fun _ => ⟨by decide +kernel, rfl, Or.inl ⟨rfl, q1198⟩⟩,
    List.forall_mem_cons.mpr ⟨fun _ => ⟨by decide +kernel, rfl, Or.inl ⟨rfl, q2008⟩⟩,
    List.forall_mem_cons.mpr ⟨fun _ => ⟨by decide +kernel, rfl, Or.inl ⟨rfl, q1214⟩⟩,
    List.forall_mem_cons.mpr ⟨fun _ => ⟨by decide +kernel, rfl, Or.inl ⟨rfl, q1217⟩⟩,
    List.forall_mem_cons.mpr ⟨fun _ => ⟨by decide +kernel, rfl, Or.inl ⟨rfl, q1224⟩⟩,
    List.forall_mem_cons.mpr ⟨fun _ => ⟨by decide +kernel, rfl, Or.inl ⟨rfl, q1221⟩⟩,
    List.forall_mem_cons.mpr ⟨fun _ => ⟨by decide +kernel, rfl, Or.inl ⟨rfl, q1210⟩⟩,
    List.forall_mem_cons.mpr ⟨fun _ => ⟨by decide +kernel, rfl, Or.inl ⟨rfl, q1206⟩⟩,
    List.forall_mem_cons.mpr ⟨fun _ => ⟨by decide +kernel, rfl, Or.inl ⟨rfl, q2020⟩⟩,
    List.forall_mem_cons.mpr ⟨fun _ => ⟨by decide +kernel, rfl, Or.inl ⟨rfl, q2023⟩⟩,
    List.forall_mem_cons.mpr ⟨fun _ => ⟨by decide +kernel, rfl, Or.inl ⟨rfl, q2027⟩⟩,
    fun _ h => absurd h List.not_mem_nil⟩⟩⟩⟩⟩⟩⟩⟩⟩⟩⟩⟩⟩⟩⟩⟩⟩⟩⟩⟩⟩⟩⟩⟩⟩⟩⟩⟩⟩⟩⟩⟩⟩⟩⟩⟩⟩⟩⟩⟩
theorem ai_mt_ok5 : ∀ M ∈ ai_mt5, M.1 ≠ x → ai_MOK M := by
  unfold ai_mt5
  exact List.forall_mem_cons.mpr ⟨fun _ => ⟨by decide +kernel, rfl, Or.inl ⟨rfl, q2016⟩⟩,
    List.forall_mem_cons.mpr ⟨fun _ => ⟨by decide +kernel, rfl, Or.inl ⟨rfl, q2012⟩⟩,
    List.forall_mem_cons.mpr ⟨fun _ => ⟨by decide +kernel, rfl, Or.inl ⟨rfl, q1238⟩⟩,
    List.forall_mem_cons.mpr ⟨fun _ => ⟨by decide +kernel, rfl, Or.inl ⟨rfl, q1235⟩⟩,
    List.forall_mem_cons.mpr ⟨fun _ => ⟨by decide +kernel, rfl, Or.inl ⟨rfl, q2039⟩⟩,
    List.forall_mem_cons.mpr ⟨fun _ => ⟨by decide +kernel, rfl, Or.inl ⟨rfl, q2035⟩⟩,
    List.forall_mem_cons.mpr ⟨fun _ => ⟨by decide +kernel, rfl, Or.inl ⟨rfl, q1231⟩⟩,
    List.forall_mem_cons.mpr ⟨fun _ => ⟨by decide +kernel, rfl, Or.inl ⟨rfl, q2031⟩⟩,
    List.forall_mem_cons.mpr ⟨fun _ => ⟨by decide +kernel, rfl, Or.inl ⟨rfl, q1256⟩⟩,
    List.forall_mem_cons.mpr ⟨fun _ => ⟨by decide +kernel, rfl, Or.inl ⟨rfl, q1259⟩⟩,
    List.forall_mem_cons.mpr ⟨fun _ => ⟨by decide +kernel, rfl, Or.inl ⟨rfl, q1248⟩⟩,
    List.forall_mem_cons.mpr ⟨fun _ => ⟨by decide +kernel, rfl, Or.inl ⟨rfl, q1242⟩⟩,
    List.forall_mem_cons.mpr ⟨fun _ => ⟨by decide +kernel, rfl, Or.inl ⟨rfl, q2048⟩⟩,
    List.forall_mem_cons.mpr ⟨fun _ => ⟨by decide +kernel, rfl, Or.inl ⟨rfl, q2043⟩⟩,
    List.forall_mem_cons.mpr ⟨fun _ => ⟨by decide +kernel, rfl, Or.inl ⟨rfl, q1264⟩⟩,
    List.forall_mem_cons.mpr ⟨fun _ => ⟨by decide +kernel, rfl, Or.inl ⟨rfl, q2056⟩⟩,
    List.forall_mem_cons.mpr ⟨fun _ => ⟨by decide +kernel, rfl, Or.inl ⟨rfl, q2052⟩⟩,
    List.forall_mem_cons.mpr ⟨fun _ => ⟨by decide +kernel, rfl, Or.inl ⟨rfl, q1276⟩⟩,
    List.forall_mem_cons.mpr ⟨fun _ => ⟨by decide +kernel, rfl, Or.inl ⟨rfl, q2064⟩⟩,
    List.forall_mem_cons.mpr ⟨fun _ => ⟨by decide +kernel, rfl, Or.inl ⟨rfl, q2060⟩⟩,
    List.forall_mem_cons.mpr ⟨fun _ => ⟨by decide +kernel, rfl, Or.inl ⟨rfl, q1285⟩⟩,
    List.forall_mem_cons.mpr ⟨fun _ => ⟨by decide +kernel, rfl, Or.inl ⟨rfl, q1281⟩⟩,
    List.forall_mem_cons.mpr ⟨fun _ => ⟨by decide +kernel, rfl, Or.inl ⟨rfl, q2072⟩⟩,
    List.forall_mem_cons.mpr ⟨fun _ => ⟨by decide +kernel, rfl, Or.inl ⟨rfl, q2076⟩⟩,
    List.forall_mem_cons.mpr ⟨fun _ => ⟨by decide +kernel, rfl, Or.inl ⟨rfl, q2080⟩⟩,
    List.forall_mem_cons.mpr ⟨fun _ => ⟨by decide +kernel, rfl, Or.inl ⟨rfl, q2084⟩⟩,
    List.forall_mem_cons.mpr ⟨fun _ => ⟨by decide +kernel, rfl, Or.inl ⟨rfl, q2068⟩⟩,
    List.forall_mem_cons.mpr ⟨fun _ => ⟨by decide +kernel, rfl, Or.inl ⟨rfl, q1297⟩⟩,
    List.forall_mem_cons.mpr ⟨fun _ => ⟨by decide +kernel, rfl, Or.inl ⟨rfl, q1294⟩⟩,
    List.forall_mem_cons.mpr ⟨fun _ => ⟨by decide +kernel, rfl, Or.inl ⟨rfl, q1290⟩⟩,
    List.forall_mem_cons.mpr ⟨fun _ => ⟨by decide +kernel, rfl, Or.inl ⟨rfl, q2092⟩⟩,
    List.forall_mem_cons.mpr ⟨fun _ => ⟨by decide +kernel, rfl, Or.inl ⟨rfl, q2095⟩⟩,
    List.forall_mem_cons.mpr ⟨fun _ => ⟨by decide +kernel, rfl, Or.inl ⟨rfl, q2088⟩⟩,
    List.forall_mem_cons.mpr ⟨fun _ => ⟨by decide +kernel, rfl, Or.inl ⟨rfl, q1308⟩⟩,
    List.forall_mem_cons.mpr ⟨fun _ => ⟨by decide +kernel, rfl, Or.inl ⟨rfl, q1316⟩⟩,
    List.forall_mem_cons.mpr ⟨fun _ => ⟨by decide +kernel, rfl, Or.inl ⟨rfl, q1312⟩⟩,
    List.forall_mem_cons.mpr ⟨fun _ => ⟨by decide +kernel, rfl, Or.inl ⟨rfl, q1304⟩⟩,
    List.forall_mem_cons.mpr ⟨fun _ => ⟨by decide +kernel, rfl, Or.inl ⟨rfl, q2106⟩⟩,
    List.forall_mem_cons.mpr ⟨fun _ => ⟨by decide +kernel, rfl, Or.inl ⟨rfl, q2103⟩⟩,
    List.forall_mem_cons.mpr ⟨fun _ => ⟨by decide +kernel, rfl, Or.inl ⟨rfl, q2110⟩⟩,
    fun _ h => absurd h List.not_mem_nil⟩⟩⟩⟩⟩⟩⟩⟩⟩⟩⟩⟩⟩⟩⟩⟩⟩⟩⟩⟩⟩⟩⟩⟩⟩⟩⟩⟩⟩⟩⟩⟩⟩⟩⟩⟩⟩⟩⟩⟩
theorem ai_mt_ok6 : ∀ M ∈ ai_mt6, M.1 ≠ x → ai_MOK M := by
  unfold ai_mt6
  exact List.forall_mem_cons.mpr ⟨fun _ => ⟨by decide +kernel, rfl, Or.inl ⟨rfl, q2099⟩⟩,
    List.forall_mem_cons.mpr ⟨fun _ => ⟨by decide +kernel, rfl, Or.inl ⟨rfl, q1327⟩⟩,
    List.forall_mem_cons.mpr ⟨fun _ => ⟨by decide +kernel, rfl, Or.inl ⟨rfl, q1324⟩⟩,
    List.forall_mem_cons.mpr ⟨fun _ => ⟨by decide +kernel, rfl, Or.inl ⟨rfl, q1320⟩⟩,
    List.forall_mem_cons.mpr ⟨fun _ => ⟨by decide +kernel, rfl, Or.inl ⟨rfl, q2118⟩⟩,
    List.forall_mem_cons.mpr ⟨fun _ => ⟨by decide +kernel, rfl, Or.inl ⟨rfl, q2122⟩⟩,
    List.forall_mem_cons.mpr ⟨fun _ => ⟨by decide +kernel, rfl, Or.inl ⟨rfl, q2114⟩⟩,
    List.forall_mem_cons.mpr ⟨fun _ => ⟨by decide +kernel, rfl, Or.inl ⟨rfl, q1339⟩⟩,
    List.forall_mem_cons.mpr ⟨fun _ => ⟨by decide +kernel, rfl, Or.inl ⟨rfl, q1335⟩⟩,
    List.forall_mem_cons.mpr ⟨fun _ => ⟨by decide +kernel, rfl, Or.inl ⟨rfl, q1331⟩⟩,
    List.forall_mem_cons.mpr ⟨fun _ => ⟨by decide +kernel, rfl, Or.inl ⟨rfl, q2134⟩⟩,
    List.forall_mem_cons.mpr ⟨fun _ => ⟨by decide +kernel, rfl, Or.inl ⟨rfl, q2130⟩⟩,
    List.forall_mem_cons.mpr ⟨fun _ => ⟨by decide +kernel, rfl, Or.inl ⟨rfl, q2126⟩⟩,
    List.forall_mem_cons.mpr ⟨fun _ => ⟨by decide +kernel, rfl, Or.inl ⟨rfl, q1272⟩⟩,
    List.forall_mem_cons.mpr ⟨fun _ => ⟨by decide +kernel, rfl, Or.inl ⟨rfl, q2138⟩⟩,
    List.forall_mem_cons.mpr ⟨fun _ => ⟨by decide +kernel, rfl, Or.inl ⟨rfl, q1347⟩⟩,
    List.forall_mem_cons.mpr ⟨fun _ => ⟨by decide +kernel, rfl, Or.inl ⟨rfl, q1350⟩⟩,
    List.forall_mem_cons.mpr ⟨fun _ => ⟨by decide +kernel, rfl, Or.inl ⟨rfl, q1343⟩⟩,
    List.forall_mem_cons.mpr ⟨fun _ => ⟨by decide +kernel, rfl, Or.inl ⟨rfl, q2146⟩⟩,
    List.forall_mem_cons.mpr ⟨fun _ => ⟨by decide +kernel, rfl, Or.inl ⟨rfl, q2149⟩⟩,
    List.forall_mem_cons.mpr ⟨fun _ => ⟨by decide +kernel, rfl, Or.inl ⟨rfl, q2142⟩⟩,
    List.forall_mem_cons.mpr ⟨fun _ => ⟨by decide +kernel, rfl, Or.inl ⟨rfl, q1354⟩⟩,
    List.forall_mem_cons.mpr ⟨fun _ => ⟨by decide +kernel, rfl, Or.inl ⟨rfl, q2153⟩⟩,
    List.forall_mem_cons.mpr ⟨fun _ => ⟨by decide +kernel, rfl, Or.inl ⟨rfl, q1358⟩⟩,
    List.forall_mem_cons.mpr ⟨fun _ => ⟨by decide +kernel, rfl, Or.inl ⟨rfl, q2157⟩⟩,
    List.forall_mem_cons.mpr ⟨fun _ => ⟨by decide +kernel, rfl, Or.inl ⟨rfl, q1363⟩⟩,
    List.forall_mem_cons.mpr ⟨fun _ => ⟨by decide +kernel, rfl, Or.inl ⟨rfl, q2161⟩⟩,
    List.forall_mem_cons.mpr ⟨fun _ => ⟨by decide +kernel, rfl, Or.inl ⟨rfl, q1371⟩⟩,
    List.forall_mem_cons.mpr ⟨fun _ => ⟨by decide +kernel, rfl, Or.inl ⟨rfl, q1367⟩⟩,
    List.forall_mem_cons.mpr ⟨fun _ => ⟨by decide +kernel, rfl, Or.inl ⟨rfl, q2165⟩⟩,
    List.forall_mem_cons.mpr ⟨fun _ => ⟨by decide +kernel, rfl, Or.inl ⟨rfl, q1375⟩⟩,
    List.forall_mem_cons.mpr ⟨fun _ => ⟨by decide +kernel, rfl, Or.inl ⟨rfl, q2169⟩⟩,
    List.forall_mem_cons.mpr ⟨fun _ => ⟨by decide +kernel, rfl, Or.inl ⟨rfl, q1202⟩⟩,
    List.forall_mem_cons.mpr ⟨fun _ => ⟨by decide +kernel, rfl, Or.inl ⟨rfl, q2173⟩⟩,
    List.forall_mem_cons.mpr ⟨fun _ => ⟨by decide +kernel, rfl, Or.inl ⟨rfl, q1388⟩⟩,
    List.forall_mem_cons.mpr ⟨fun _ => ⟨by decide +kernel, rfl, Or.inl ⟨rfl, q1383⟩⟩,
    List.forall_mem_cons.mpr ⟨fun _ => ⟨by decide +kernel, rfl, Or.inl ⟨rfl, q1379⟩⟩,
    List.forall_mem_cons.mpr ⟨fun _ => ⟨by decide +kernel, rfl, Or.inl ⟨rfl, q2181⟩⟩,
    List.forall_mem_cons.mpr ⟨fun _ => ⟨by decide +kernel, rfl, Or.inl ⟨rfl, q2177⟩⟩,
    List.forall_mem_cons.mpr ⟨fun _ => ⟨by decide +kernel, rfl, Or.inl ⟨rfl, q1417⟩⟩,
    fun _ h => absurd h List.not_mem_nil⟩⟩⟩⟩⟩⟩⟩⟩⟩⟩⟩⟩⟩⟩⟩⟩⟩⟩⟩⟩⟩⟩⟩⟩⟩⟩⟩⟩⟩⟩⟩⟩⟩⟩⟩⟩⟩⟩⟩⟩
theorem ai_mt_ok7 : ∀ M ∈ ai_mt7, M.1 ≠ x → ai_MOK M := by
  unfold ai_mt7
  exact List.forall_mem_cons.mpr ⟨fun _ => ⟨by decide +kernel, rfl, Or.inl ⟨rfl, q2185⟩⟩,
    List.forall_mem_cons.mpr ⟨fun _ => ⟨by decide +kernel, rfl, Or.inl ⟨rfl, q1421⟩⟩,
    List.forall_mem_cons.mpr ⟨fun _ => ⟨by decide +kernel, rfl, Or.inl ⟨rfl, q2189⟩⟩,
    List.forall_mem_cons.mpr ⟨fun _ => ⟨by decide +kernel, rfl, Or.inl ⟨rfl, q1425⟩⟩,
    List.forall_mem_cons.mpr ⟨fun _ => ⟨by decide +kernel, rfl, Or.inl ⟨rfl, q2193⟩⟩,
    List.forall_mem_cons.mpr ⟨fun _ => ⟨by decide +kernel, rfl, Or.inl ⟨rfl, q1447⟩⟩,
    List.forall_mem_cons.mpr ⟨fun _ => ⟨by decide +kernel, rfl, Or.inl ⟨rfl, q1438⟩⟩,
    List.forall_mem_cons.mpr ⟨fun _ => ⟨by decide +kernel, rfl, Or.inl ⟨rfl, q1434⟩⟩,
    List.forall_mem_cons.mpr ⟨fun _ => ⟨by decide +kernel, rfl, Or.inl ⟨rfl, q1430⟩⟩,
    List.forall_mem_cons.mpr ⟨fun _ => ⟨by decide +kernel, rfl, Or.inl ⟨rfl, q2206⟩⟩,
    List.forall_mem_cons.mpr ⟨fun _ => ⟨by decide +kernel, rfl, Or.inl ⟨rfl, q2202⟩⟩,
    List.forall_mem_cons.mpr ⟨fun _ => ⟨by decide +kernel, rfl, Or.inl ⟨rfl, q2198⟩⟩,
    List.forall_mem_cons.mpr ⟨fun _ => ⟨by decide +kernel, rfl, Or.inl ⟨rfl, q1451⟩⟩,
    List.forall_mem_cons.mpr ⟨fun _ => ⟨by decide +kernel, rfl, Or.inl ⟨rfl, q2210⟩⟩,
    List.forall_mem_cons.mpr ⟨fun _ => ⟨by decide +kernel, rfl, Or.inl ⟨rfl, q1459⟩⟩,
    List.forall_mem_cons.mpr ⟨fun _ => ⟨by decide +kernel, rfl, Or.inl ⟨rfl, q1455⟩⟩,
    List.forall_mem_cons.mpr ⟨fun _ => ⟨by decide +kernel, rfl, Or.inl ⟨rfl, q2218⟩⟩,
    List.forall_mem_cons.mpr ⟨fun _ => ⟨by decide +kernel, rfl, Or.inl ⟨rfl, q2214⟩⟩,
    List.forall_mem_cons.mpr ⟨fun _ => ⟨by decide +kernel, rfl, Or.inl ⟨rfl, q1463⟩⟩,
    List.forall_mem_cons.mpr ⟨fun _ => ⟨by decide +kernel, rfl, Or.inl ⟨rfl, q2225⟩⟩,
    List.forall_mem_cons.mpr ⟨fun _ => ⟨by decide +kernel, rfl, Or.inl ⟨rfl, q2222⟩⟩,
    List.forall_mem_cons.mpr ⟨fun _ => ⟨by decide +kernel, rfl, Or.inl ⟨rfl, q1467⟩⟩,
    List.forall_mem_cons.mpr ⟨fun _ => ⟨by decide +kernel, rfl, Or.inl ⟨rfl, q2230⟩⟩,
    List.forall_mem_cons.mpr ⟨fun _ => ⟨by decide +kernel, rfl, Or.inl ⟨rfl, q1471⟩⟩,
    List.forall_mem_cons.mpr ⟨fun _ => ⟨by decide +kernel, rfl, Or.inl ⟨rfl, q2234⟩⟩,
    fun _ h => absurd h List.not_mem_nil⟩⟩⟩⟩⟩⟩⟩⟩⟩⟩⟩⟩⟩⟩⟩⟩⟩⟩⟩⟩⟩⟩⟩⟩⟩
