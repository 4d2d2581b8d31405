/-! the calls (printed by tools/print_facts.py) -/
set_option maxRecDepth 100000
def ai_nm : Nat := 305
abbrev ai_MH (y : MethodName) : Prop := y.cls ≠ "java/lang/invoke/MethodHandle" ∧ y.cls ≠ "java/lang/invoke/VarHandle"
abbrev ai_pn (y : MethodName) (n : Nat) : Prop := (parseMethodDescriptor y.desc).map (fun d => d.parameters.length) = some n
def ai_kV (o i c id : Nat) : Prop := (ai_mY id).cls = ai_cn c ∧ Cond.methodLink (ai_cn o) i (ai_mY id) ∈ lw_all ∧ Cond.instanceMethod (ai_mY id) ∈ lw_all ∧ Cond.selects (ai_cn c) (ai_mY id) (ai_mY id) ∈ lw_all ∧ Cond.initialized (ai_cn c) ∈ lw_all
def ai_kVN (o i c id : Nat) : Prop := ∃ host, Cond.methodLinkNest (ai_cn o) i (ai_mY id) host ∈ ai_nw ∧ Cond.instanceMethod (ai_mY id) ∈ lw_all ∧ Cond.selects (ai_cn c) (ai_mY id) (ai_mY id) ∈ lw_all ∧ Cond.initialized (ai_mY id).cls ∈ lw_all
def ai_kU (o i c id n : Nat) : Prop := ∃ (owner : String) (x : MethodName), Cond.methodLink (ai_cn o) i x ∈ lw_all ∧ Cond.sameMethod x.cls owner x.name x.desc ∈ lw_all ∧ Cond.selects (ai_cn c) x (ai_mY id) ∈ lw_all ∧ Cond.instanceMethod (ai_mY id) ∈ lw_all ∧ Cond.initialized (ai_mY id).cls ∈ lw_all ∧ (ai_mY id = ⟨owner, x.name, x.desc⟩ ∨ Cond.declares ⟨owner, x.name, x.desc⟩ ∈ ai_nw) ∧ (owner ≠ "java/lang/invoke/MethodHandle" ∧ owner ≠ "java/lang/invoke/VarHandle") ∧ ai_pn x n
def ai_kF (o i c id n : Nat) : Prop := c = 17 ∧ ∃ x : MethodName, ((x = ⟨"java/util/Iterato\x72", "hasNext", "()Z"⟩ ∧ ai_mY id = yJ10_hasNext) ∨ (x = ⟨"java/util/Iterato\x72", "next", "()Ljava/lang/Object;"⟩ ∧ ai_mY id = yJ10_next)) ∧ Cond.methodLink (ai_cn o) i x ∈ lw_all ∧ Cond.selects (ai_cn c) x (ai_mY id) ∈ lw_all ∧ Cond.instanceMethod (ai_mY id) ∈ lw_all ∧ Cond.initialized (ai_mY id).cls ∈ lw_all ∧ ai_MH x ∧ ai_pn x n
def ai_kS (o i id : Nat) : Prop := Cond.static (ai_mY id) ∈ lw_all ∧ Cond.initialized (ai_mY id).cls ∈ lw_all ∧ (Cond.methodLink (ai_cn o) i (ai_mY id) ∈ lw_all ∨ ∃ host, Cond.methodLinkNest (ai_cn o) i (ai_mY id) host ∈ ai_nw)
def ai_kI (o i id : Nat) : Prop := (ai_mY id).name = "<init>" ∧ Cond.instanceMethod (ai_mY id) ∈ lw_all ∧ Cond.initialized (ai_mY id).cls ∈ lw_all ∧ (Cond.methodLink (ai_cn o) i (ai_mY id) ∈ lw_all ∨ ∃ host, Cond.methodLinkNest (ai_cn o) i (ai_mY id) host ∈ ai_nw)
/-- a call site: method o, entry i, receiver of class c, goes to id -/
def ai_CK (o i c id kd : Nat) : Prop := (0 < id ∧ id < ai_nm) ∧ ai_MH (ai_mY id) ∧ ∃ n, ai_pn (ai_mY id) n ∧ ((kd = 0 ∧ ai_aN o i = some n ∧ ai_thr id = false ∧ ai_mH id = [] ∧ ai_kS o i id) ∨ (kd = 1 ∧ ai_aN o i = some (n + 1) ∧ ai_mR id = none ∧ ai_thr id = false ∧ ai_mH id = [] ∧ ai_kI o i id) ∨ (kd = 2 ∧ ai_aN o i = some (n + 1) ∧ (ai_kV o i c id ∨ (ai_thr id = false ∧ ai_mH id = [] ∧ (ai_kVN o i c id ∨ ai_kU o i c id n)))) ∨ (kd = 3 ∧ ai_aN o i = some (n + 1) ∧ ai_thr id = false ∧ ai_mH id = [] ∧ ai_kF o i c id n))
theorem ai_ct_ok0 : ∀ e ∈ ai_ctl 0, ai_CK 0 e.1 e.2.1 e.2.2.1 e.2.2.2 := by
  unfold ai_ctl
  exact List.forall_mem_cons.mpr ⟨⟨⟨by decide, by decide⟩, ⟨by decide +kernel, by decide +kernel⟩, 0, by decide +kernel, Or.inr (Or.inl ⟨rfl, rfl, rfl, by decide +kernel, rfl, rfl, q175, q130, Or.inr ⟨"BoardCrossing", nw174⟩⟩)⟩,
    List.forall_mem_cons.mpr ⟨⟨⟨by decide, by decide⟩, ⟨by decide +kernel, by decide +kernel⟩, 0, by decide +kernel, Or.inr (Or.inl ⟨rfl, rfl, rfl, by decide +kernel, rfl, rfl, q288, q134, Or.inr ⟨"BoardCrossing", nw287⟩⟩)⟩,
    List.forall_mem_cons.mpr ⟨⟨⟨by decide, by decide⟩, ⟨by decide +kernel, by decide +kernel⟩, 0, by decide +kernel, Or.inr (Or.inl ⟨rfl, rfl, rfl, by decide +kernel, rfl, rfl, q181, q133, Or.inl q394⟩)⟩,
    List.forall_mem_cons.mpr ⟨⟨⟨by decide, by decide⟩, ⟨by decide +kernel, by decide +kernel⟩, 1, by decide +kernel, Or.inr (Or.inl ⟨rfl, rfl, rfl, by decide +kernel, rfl, rfl, q398, q139, Or.inr ⟨"BoardCrossing", nw397⟩⟩)⟩,
    List.forall_mem_cons.mpr ⟨⟨⟨by decide, by decide⟩, ⟨by decide +kernel, by decide +kernel⟩, 1, by decide +kernel, Or.inr (Or.inl ⟨rfl, rfl, rfl, by decide +kernel, rfl, rfl, q422, q140, Or.inr ⟨"BoardCrossing", nw421⟩⟩)⟩,
    List.forall_mem_cons.mpr ⟨⟨⟨by decide, by decide⟩, ⟨by decide +kernel, by decide +kernel⟩, 1, by decide +kernel, Or.inr (Or.inl ⟨rfl, rfl, rfl, by decide +kernel, rfl, rfl, q440, q141, Or.inl q439⟩)⟩,
    List.forall_mem_cons.mpr ⟨⟨⟨by decide, by decide⟩, ⟨by decide +kernel, by decide +kernel⟩, 0, by decide +kernel, Or.inr (Or.inr (Or.inl ⟨rfl, rfl, Or.inl ⟨rfl, q448, q450, qs1, q129⟩⟩))⟩,
    List.forall_mem_cons.mpr ⟨⟨⟨by decide, by decide⟩, ⟨by decide +kernel, by decide +kernel⟩, 1, by decide +kernel, Or.inr (Or.inr (Or.inl ⟨rfl, rfl, Or.inl ⟨rfl, q452, q453, q454, q134⟩⟩))⟩,
    List.forall_mem_cons.mpr ⟨⟨⟨by decide, by decide⟩, ⟨by decide +kernel, by decide +kernel⟩, 0, by decide +kernel, Or.inr (Or.inr (Or.inl ⟨rfl, rfl, Or.inl ⟨rfl, q475, q476, q477, q133⟩⟩))⟩,
    List.forall_mem_cons.mpr ⟨⟨⟨by decide, by decide⟩, ⟨by decide +kernel, by decide +kernel⟩, 1, by decide +kernel, Or.inr (Or.inr (Or.inl ⟨rfl, rfl, Or.inl ⟨rfl, q1148, q1149, q1150, q134⟩⟩))⟩,
    List.forall_mem_cons.mpr ⟨⟨⟨by decide, by decide⟩, ⟨by decide +kernel, by decide +kernel⟩, 0, by decide +kernel, Or.inr (Or.inr (Or.inl ⟨rfl, rfl, Or.inl ⟨rfl, q1038, q457, q458, q133⟩⟩))⟩,
    List.forall_mem_cons.mpr ⟨⟨⟨by decide, by decide⟩, ⟨by decide +kernel, by decide +kernel⟩, 1, by decide +kernel, Or.inr (Or.inr (Or.inl ⟨rfl, rfl, Or.inl ⟨rfl, q1136, q1137, q1138, q133⟩⟩))⟩,
    List.forall_mem_cons.mpr ⟨⟨⟨by decide, by decide⟩, ⟨by decide +kernel, by decide +kernel⟩, 1, by decide +kernel, Or.inl ⟨rfl, rfl, by decide +kernel, rfl, q1146, q129, Or.inl q1145⟩⟩,
    List.forall_mem_cons.mpr ⟨⟨⟨by decide, by decide⟩, ⟨by decide +kernel, by decide +kernel⟩, 1, by decide +kernel, Or.inr (Or.inr (Or.inl ⟨rfl, rfl, Or.inl ⟨rfl, q1153, q867, q868, q133⟩⟩))⟩,
    List.forall_mem_cons.mpr ⟨⟨⟨by decide, by decide⟩, ⟨by decide +kernel, by decide +kernel⟩, 0, by decide +kernel, Or.inr (Or.inr (Or.inl ⟨rfl, rfl, Or.inl ⟨rfl, q1034, q1036, qs34, q129⟩⟩))⟩,
    List.forall_mem_cons.mpr ⟨⟨⟨by decide, by decide⟩, ⟨by decide +kernel, by decide +kernel⟩, 3, by decide +kernel, Or.inl ⟨rfl, rfl, by decide +kernel, rfl, q1052, q129, Or.inl q1051⟩⟩,
    List.forall_mem_cons.mpr ⟨⟨⟨by decide, by decide⟩, ⟨by decide +kernel, by decide +kernel⟩, 0, by decide +kernel, Or.inr (Or.inr (Or.inl ⟨rfl, rfl, Or.inl ⟨rfl, q1083, q1085, qs37, q129⟩⟩))⟩,
    List.forall_mem_cons.mpr ⟨⟨⟨by decide, by decide⟩, ⟨by decide +kernel, by decide +kernel⟩, 1, by decide +kernel, Or.inr (Or.inr (Or.inl ⟨rfl, rfl, Or.inl ⟨rfl, q577, q579, qs2, q129⟩⟩))⟩,
    List.forall_mem_cons.mpr ⟨⟨⟨by decide, by decide⟩, ⟨by decide +kernel, by decide +kernel⟩, 3, by decide +kernel, Or.inr (Or.inl ⟨rfl, rfl, rfl, by decide +kernel, rfl, rfl, q592, q145, Or.inl q591⟩)⟩,
    List.forall_mem_cons.mpr ⟨⟨⟨by decide, by decide⟩, ⟨by decide +kernel, by decide +kernel⟩, 0, by decide +kernel, Or.inr (Or.inr (Or.inl ⟨rfl, rfl, Or.inl ⟨rfl, q631, q632, q633, q145⟩⟩))⟩,
    List.forall_mem_cons.mpr ⟨⟨⟨by decide, by decide⟩, ⟨by decide +kernel, by decide +kernel⟩, 1, by decide +kernel, Or.inr (Or.inr (Or.inl ⟨rfl, rfl, Or.inl ⟨rfl, q1047, q1049, qs35, q129⟩⟩))⟩,
    List.forall_mem_cons.mpr ⟨⟨⟨by decide, by decide⟩, ⟨by decide +kernel, by decide +kernel⟩, 1, by decide +kernel, Or.inr (Or.inr (Or.inl ⟨rfl, rfl, Or.inl ⟨rfl, q1054, q461, q462, q133⟩⟩))⟩,
    List.forall_mem_cons.mpr ⟨⟨⟨by decide, by decide⟩, ⟨by decide +kernel, by decide +kernel⟩, 2, by decide +kernel, Or.inr (Or.inr (Or.inl ⟨rfl, rfl, Or.inl ⟨rfl, q1056, q1057, q1058, q134⟩⟩))⟩,
    List.forall_mem_cons.mpr ⟨⟨⟨by decide, by decide⟩, ⟨by decide +kernel, by decide +kernel⟩, 2, by decide +kernel, Or.inr (Or.inr (Or.inl ⟨rfl, rfl, Or.inl ⟨rfl, q1074, q1061, q1062, q134⟩⟩))⟩,
    List.forall_mem_cons.mpr ⟨⟨⟨by decide, by decide⟩, ⟨by decide +kernel, by decide +kernel⟩, 1, by decide +kernel, Or.inr (Or.inr (Or.inl ⟨rfl, rfl, Or.inl ⟨rfl, q1079, q1081, qs36, q129⟩⟩))⟩,
    List.forall_mem_cons.mpr ⟨⟨⟨by decide, by decide⟩, ⟨by decide +kernel, by decide +kernel⟩, 2, by decide +kernel, Or.inr (Or.inr (Or.inl ⟨rfl, rfl, Or.inl ⟨rfl, q1092, q762, q763, q130⟩⟩))⟩,
    List.forall_mem_cons.mpr ⟨⟨⟨by decide, by decide⟩, ⟨by decide +kernel, by decide +kernel⟩, 2, by decide +kernel, Or.inr (Or.inr (Or.inl ⟨rfl, rfl, Or.inl ⟨rfl, q1097, q1098, q1099, q130⟩⟩))⟩,
    List.forall_mem_cons.mpr ⟨⟨⟨by decide, by decide⟩, ⟨by decide +kernel, by decide +kernel⟩, 0, by decide +kernel, Or.inr (Or.inr (Or.inl ⟨rfl, rfl, Or.inl ⟨rfl, q1132, q1134, qs38, q129⟩⟩))⟩,
    List.forall_mem_cons.mpr ⟨⟨⟨by decide, by decide⟩, ⟨by decide +kernel, by decide +kernel⟩, 5, by decide +kernel, Or.inr (Or.inr (Or.inl ⟨rfl, rfl, Or.inl ⟨rfl, q1154, q1155, q1156, q134⟩⟩))⟩,
    List.forall_mem_cons.mpr ⟨⟨⟨by decide, by decide⟩, ⟨by decide +kernel, by decide +kernel⟩, 2, by decide +kernel, Or.inr (Or.inr (Or.inl ⟨rfl, rfl, Or.inl ⟨rfl, q1166, q1167, q1168, q134⟩⟩))⟩,
    List.forall_mem_cons.mpr ⟨⟨⟨by decide, by decide⟩, ⟨by decide +kernel, by decide +kernel⟩, 2, by decide +kernel, Or.inr (Or.inr (Or.inl ⟨rfl, rfl, Or.inl ⟨rfl, q1170, q1172, qs40, q129⟩⟩))⟩,
    List.forall_mem_cons.mpr ⟨⟨⟨by decide, by decide⟩, ⟨by decide +kernel, by decide +kernel⟩, 2, by decide +kernel, Or.inl ⟨rfl, rfl, by decide +kernel, rfl, q1124, q129, Or.inl q1182⟩⟩,
    List.forall_mem_cons.mpr ⟨⟨⟨by decide, by decide⟩, ⟨by decide +kernel, by decide +kernel⟩, 0, by decide +kernel, Or.inr (Or.inr (Or.inl ⟨rfl, rfl, Or.inl ⟨rfl, q1187, q1188, q1189, q133⟩⟩))⟩,
    List.forall_mem_cons.mpr ⟨⟨⟨by decide, by decide⟩, ⟨by decide +kernel, by decide +kernel⟩, 1, by decide +kernel, Or.inr (Or.inr (Or.inl ⟨rfl, rfl, Or.inl ⟨rfl, q1191, q1193, qs41, q129⟩⟩))⟩,
    List.forall_mem_cons.mpr ⟨⟨⟨by decide, by decide⟩, ⟨by decide +kernel, by decide +kernel⟩, 2, by decide +kernel, Or.inl ⟨rfl, rfl, by decide +kernel, rfl, q1216, q129, Or.inl q1215⟩⟩,
    List.forall_mem_cons.mpr ⟨⟨⟨by decide, by decide⟩, ⟨by decide +kernel, by decide +kernel⟩, 3, by decide +kernel, Or.inl ⟨rfl, rfl, by decide +kernel, rfl, q1223, q129, Or.inl q1222⟩⟩,
    List.forall_mem_cons.mpr ⟨⟨⟨by decide, by decide⟩, ⟨by decide +kernel, by decide +kernel⟩, 1, by decide +kernel, Or.inr (Or.inr (Or.inl ⟨rfl, rfl, Or.inl ⟨rfl, q1211, q1213, qs43, q129⟩⟩))⟩,
    List.forall_mem_cons.mpr ⟨⟨⟨by decide, by decide⟩, ⟨by decide +kernel, by decide +kernel⟩, 3, by decide +kernel, Or.inr (Or.inr (Or.inl ⟨rfl, rfl, Or.inl ⟨rfl, q1218, q1220, qs44, q129⟩⟩))⟩,
    List.forall_mem_cons.mpr ⟨⟨⟨by decide, by decide⟩, ⟨by decide +kernel, by decide +kernel⟩, 1, by decide +kernel, Or.inr (Or.inr (Or.inl ⟨rfl, rfl, Or.inl ⟨rfl, q1207, q1209, qs42, q129⟩⟩))⟩,
    List.forall_mem_cons.mpr ⟨⟨⟨by decide, by decide⟩, ⟨by decide +kernel, by decide +kernel⟩, 1, by decide +kernel, Or.inl ⟨rfl, rfl, by decide +kernel, rfl, q1237, q129, Or.inl q1236⟩⟩,
    List.forall_mem_cons.mpr ⟨⟨⟨by decide, by decide⟩, ⟨by decide +kernel, by decide +kernel⟩, 1, by decide +kernel, Or.inr (Or.inr (Or.inl ⟨rfl, rfl, Or.inr ⟨by decide +kernel, rfl, Or.inr ⟨"BoardCrossing$Wish", ⟨"BoardCrossing$Wish", "seek", "(I)Z"⟩, q1243, q1245, q1246, q1244, q138, Or.inl rfl, ⟨by decide +kernel, by decide +kernel⟩, by decide +kernel⟩⟩⟩))⟩,
    List.forall_mem_cons.mpr ⟨⟨⟨by decide, by decide⟩, ⟨by decide +kernel, by decide +kernel⟩, 1, by decide +kernel, Or.inr (Or.inr (Or.inl ⟨rfl, rfl, Or.inr ⟨by decide +kernel, rfl, Or.inr ⟨"BoardCrossing$Wish", ⟨"BoardCrossing$Wish", "seek", "(I)Z"⟩, q1243, q1245, q1247, q1244, q138, Or.inl rfl, ⟨by decide +kernel, by decide +kernel⟩, by decide +kernel⟩⟩⟩))⟩,
    List.forall_mem_cons.mpr ⟨⟨⟨by decide, by decide⟩, ⟨by decide +kernel, by decide +kernel⟩, 1, by decide +kernel, Or.inr (Or.inr (Or.inl ⟨rfl, rfl, Or.inr ⟨by decide +kernel, rfl, Or.inr ⟨"BoardCrossing$Wish", ⟨"BoardCrossing$Straightest", "seek", "(I)Z"⟩, q1265, q1266, q1268, q1244, q138, Or.inl rfl, ⟨by decide +kernel, by decide +kernel⟩, by decide +kernel⟩⟩⟩))⟩,
    List.forall_mem_cons.mpr ⟨⟨⟨by decide, by decide⟩, ⟨by decide +kernel, by decide +kernel⟩, 1, by decide +kernel, Or.inr (Or.inr (Or.inl ⟨rfl, rfl, Or.inl ⟨rfl, q1277, q1065, q1066, q130⟩⟩))⟩,
    List.forall_mem_cons.mpr ⟨⟨⟨by decide, by decide⟩, ⟨by decide +kernel, by decide +kernel⟩, 4, by decide +kernel, Or.inr (Or.inr (Or.inl ⟨rfl, rfl, Or.inl ⟨rfl, q1282, q1284, qs45, q129⟩⟩))⟩,
    List.forall_mem_cons.mpr ⟨⟨⟨by decide, by decide⟩, ⟨by decide +kernel, by decide +kernel⟩, 1, by decide +kernel, Or.inl ⟨rfl, rfl, by decide +kernel, rfl, q1296, q162, Or.inl q1295⟩⟩,
    List.forall_mem_cons.mpr ⟨⟨⟨by decide, by decide⟩, ⟨by decide +kernel, by decide +kernel⟩, 3, by decide +kernel, Or.inr (Or.inr (Or.inl ⟨rfl, rfl, Or.inl ⟨rfl, q1291, q1293, qs46, q129⟩⟩))⟩,
    List.forall_mem_cons.mpr ⟨⟨⟨by decide, by decide⟩, ⟨by decide +kernel, by decide +kernel⟩, 3, by decide +kernel, Or.inr (Or.inr (Or.inl ⟨rfl, rfl, Or.inl ⟨rfl, q1313, q1315, qs49, q129⟩⟩))⟩,
    List.forall_mem_cons.mpr ⟨⟨⟨by decide, by decide⟩, ⟨by decide +kernel, by decide +kernel⟩, 0, by decide +kernel, Or.inr (Or.inr (Or.inl ⟨rfl, rfl, Or.inl ⟨rfl, q1305, q1307, qs47, q129⟩⟩))⟩,
    List.forall_mem_cons.mpr ⟨⟨⟨by decide, by decide⟩, ⟨by decide +kernel, by decide +kernel⟩, 1, by decide +kernel, Or.inr (Or.inr (Or.inl ⟨rfl, rfl, Or.inl ⟨rfl, q1309, q1311, qs48, q129⟩⟩))⟩,
    List.forall_mem_cons.mpr ⟨⟨⟨by decide, by decide⟩, ⟨by decide +kernel, by decide +kernel⟩, 2, by decide +kernel, Or.inl ⟨rfl, rfl, by decide +kernel, rfl, q1326, q129, Or.inl q1325⟩⟩,
    List.forall_mem_cons.mpr ⟨⟨⟨by decide, by decide⟩, ⟨by decide +kernel, by decide +kernel⟩, 4, by decide +kernel, Or.inr (Or.inr (Or.inl ⟨rfl, rfl, Or.inl ⟨rfl, q1321, q1323, qs50, q129⟩⟩))⟩,
    List.forall_mem_cons.mpr ⟨⟨⟨by decide, by decide⟩, ⟨by decide +kernel, by decide +kernel⟩, 3, by decide +kernel, Or.inr (Or.inr (Or.inl ⟨rfl, rfl, Or.inl ⟨rfl, q1336, q1338, qs52, q129⟩⟩))⟩,
    List.forall_mem_cons.mpr ⟨⟨⟨by decide, by decide⟩, ⟨by decide +kernel, by decide +kernel⟩, 6, by decide +kernel, Or.inr (Or.inr (Or.inl ⟨rfl, rfl, Or.inl ⟨rfl, q1332, q1334, qs51, q129⟩⟩))⟩,
    List.forall_mem_cons.mpr ⟨⟨⟨by decide, by decide⟩, ⟨by decide +kernel, by decide +kernel⟩, 2, by decide +kernel, Or.inl ⟨rfl, rfl, by decide +kernel, rfl, q1349, q129, Or.inl q1348⟩⟩,
    List.forall_mem_cons.mpr ⟨⟨⟨by decide, by decide⟩, ⟨by decide +kernel, by decide +kernel⟩, 4, by decide +kernel, Or.inr (Or.inr (Or.inl ⟨rfl, rfl, Or.inl ⟨rfl, q1344, q1346, qs53, q129⟩⟩))⟩,
    List.forall_mem_cons.mpr ⟨⟨⟨by decide, by decide⟩, ⟨by decide +kernel, by decide +kernel⟩, 0, by decide +kernel, Or.inr (Or.inr (Or.inl ⟨rfl, rfl, Or.inl ⟨rfl, q1359, q1352, q1353, q129⟩⟩))⟩,
    List.forall_mem_cons.mpr ⟨⟨⟨by decide, by decide⟩, ⟨by decide +kernel, by decide +kernel⟩, 1, by decide +kernel, Or.inr (Or.inr (Or.inl ⟨rfl, rfl, Or.inl ⟨rfl, q1368, q1370, qs54, q129⟩⟩))⟩,
    List.forall_mem_cons.mpr ⟨⟨⟨by decide, by decide⟩, ⟨by decide +kernel, by decide +kernel⟩, 5, by decide +kernel, Or.inr (Or.inl ⟨rfl, rfl, rfl, by decide +kernel, rfl, rfl, q1387, q163, Or.inl q1386⟩)⟩,
    List.forall_mem_cons.mpr ⟨⟨⟨by decide, by decide⟩, ⟨by decide +kernel, by decide +kernel⟩, 4, by decide +kernel, Or.inr (Or.inr (Or.inl ⟨rfl, rfl, Or.inl ⟨rfl, q1380, q1382, qs55, q129⟩⟩))⟩,
    List.forall_mem_cons.mpr ⟨⟨⟨by decide, by decide⟩, ⟨by decide +kernel, by decide +kernel⟩, 0, by decide +kernel, Or.inr (Or.inr (Or.inl ⟨rfl, rfl, Or.inl ⟨rfl, q1439, q786, q787, q133⟩⟩))⟩,
    List.forall_mem_cons.mpr ⟨⟨⟨by decide, by decide⟩, ⟨by decide +kernel, by decide +kernel⟩, 0, by decide +kernel, Or.inr (Or.inr (Or.inr ⟨rfl, rfl, by decide +kernel, rfl, rfl, ⟨"java/util/Iterato\x72", "hasNext", "()Z"⟩, Or.inl ⟨rfl, rfl⟩, q1441, q813, q815, q151, ⟨by decide +kernel, by decide +kernel⟩, by decide +kernel⟩))⟩,
    List.forall_mem_cons.mpr ⟨⟨⟨by decide, by decide⟩, ⟨by decide +kernel, by decide +kernel⟩, 0, by decide +kernel, Or.inr (Or.inr (Or.inr ⟨rfl, rfl, by decide +kernel, rfl, rfl, ⟨"java/util/Iterato\x72", "next", "()Ljava/lang/Object;"⟩, Or.inr ⟨rfl, rfl⟩, q1443, q822, q824, q151, ⟨by decide +kernel, by decide +kernel⟩, by decide +kernel⟩))⟩,
    List.forall_mem_cons.mpr ⟨⟨⟨by decide, by decide⟩, ⟨by decide +kernel, by decide +kernel⟩, 1, by decide +kernel, Or.inr (Or.inr (Or.inl ⟨rfl, rfl, Or.inl ⟨rfl, q1444, q1445, q1446, q163⟩⟩))⟩,
    List.forall_mem_cons.mpr ⟨⟨⟨by decide, by decide⟩, ⟨by decide +kernel, by decide +kernel⟩, 2, by decide +kernel, Or.inr (Or.inr (Or.inl ⟨rfl, rfl, Or.inl ⟨rfl, q1435, q1437, qs57, q129⟩⟩))⟩,
    List.forall_mem_cons.mpr ⟨⟨⟨by decide, by decide⟩, ⟨by decide +kernel, by decide +kernel⟩, 1, by decide +kernel, Or.inr (Or.inr (Or.inl ⟨rfl, rfl, Or.inl ⟨rfl, q1431, q1433, qs56, q129⟩⟩))⟩,
    List.forall_mem_cons.mpr ⟨⟨⟨by decide, by decide⟩, ⟨by decide +kernel, by decide +kernel⟩, 1, by decide +kernel, Or.inr (Or.inr (Or.inl ⟨rfl, rfl, Or.inl ⟨rfl, q1456, q1458, qs58, q129⟩⟩))⟩,
    fun _ h => absurd h List.not_mem_nil⟩⟩⟩⟩⟩⟩⟩⟩⟩⟩⟩⟩⟩⟩⟩⟩⟩⟩⟩⟩⟩⟩⟩⟩⟩⟩⟩⟩⟩⟩⟩⟩⟩⟩⟩⟩⟩⟩⟩⟩⟩⟩⟩⟩⟩⟩⟩⟩⟩⟩⟩⟩⟩⟩⟩⟩⟩⟩⟩⟩⟩⟩⟩⟩⟩⟩⟩
theorem ai_ct_ok1 : ∀ e ∈ ai_ctl 1, ai_CK 1 e.1 e.2.1 e.2.2.1 e.2.2.2 := by
  unfold ai_ctl
  exact List.forall_mem_cons.mpr ⟨⟨⟨by decide, by decide⟩, ⟨by decide +kernel, by decide +kernel⟩, 0, by decide +kernel, Or.inr (Or.inl ⟨rfl, rfl, rfl, by decide +kernel, rfl, rfl, q181, q133, Or.inl q180⟩)⟩,
    List.forall_mem_cons.mpr ⟨⟨⟨by decide, by decide⟩, ⟨by decide +kernel, by decide +kernel⟩, 2, by decide +kernel, Or.inr (Or.inr (Or.inl ⟨rfl, rfl, Or.inl ⟨rfl, q1101, q1057, q1058, q134⟩⟩))⟩,
    List.forall_mem_cons.mpr ⟨⟨⟨by decide, by decide⟩, ⟨by decide +kernel, by decide +kernel⟩, 1, by decide +kernel, Or.inr (Or.inr (Or.inl ⟨rfl, rfl, Or.inl ⟨rfl, q1072, q461, q462, q133⟩⟩))⟩,
    List.forall_mem_cons.mpr ⟨⟨⟨by decide, by decide⟩, ⟨by decide +kernel, by decide +kernel⟩, 1, by decide +kernel, Or.inr (Or.inr (Or.inl ⟨rfl, rfl, Or.inr ⟨by decide +kernel, rfl, Or.inr ⟨"BoardCrossing$Part", ⟨"BoardCrossing$Part", "of", "([I)I"⟩, q1103, q1105, q1109, q1110, q158, Or.inr nw1104, ⟨by decide +kernel, by decide +kernel⟩, by decide +kernel⟩⟩⟩))⟩,
    List.forall_mem_cons.mpr ⟨⟨⟨by decide, by decide⟩, ⟨by decide +kernel, by decide +kernel⟩, 1, by decide +kernel, Or.inr (Or.inr (Or.inl ⟨rfl, rfl, Or.inr ⟨by decide +kernel, rfl, Or.inr ⟨"BoardCrossing$Part", ⟨"BoardCrossing$Part", "of", "([I)I"⟩, q1103, q1105, q1121, q1113, q159, Or.inr nw1104, ⟨by decide +kernel, by decide +kernel⟩, by decide +kernel⟩⟩⟩))⟩,
    List.forall_mem_cons.mpr ⟨⟨⟨by decide, by decide⟩, ⟨by decide +kernel, by decide +kernel⟩, 1, by decide +kernel, Or.inr (Or.inr (Or.inl ⟨rfl, rfl, Or.inr ⟨by decide +kernel, rfl, Or.inr ⟨"BoardCrossing$Part", ⟨"BoardCrossing$Part", "of", "([I)I"⟩, q1103, q1105, q1106, q1107, q160, Or.inr nw1104, ⟨by decide +kernel, by decide +kernel⟩, by decide +kernel⟩⟩⟩))⟩,
    List.forall_mem_cons.mpr ⟨⟨⟨by decide, by decide⟩, ⟨by decide +kernel, by decide +kernel⟩, 1, by decide +kernel, Or.inr (Or.inr (Or.inl ⟨rfl, rfl, Or.inr ⟨by decide +kernel, rfl, Or.inr ⟨"BoardCrossing$Part", ⟨"BoardCrossing$Part", "of", "([I)I"⟩, q1103, q1105, q1122, q1115, q161, Or.inr nw1104, ⟨by decide +kernel, by decide +kernel⟩, by decide +kernel⟩⟩⟩))⟩,
    List.forall_mem_cons.mpr ⟨⟨⟨by decide, by decide⟩, ⟨by decide +kernel, by decide +kernel⟩, 2, by decide +kernel, Or.inl ⟨rfl, rfl, by decide +kernel, rfl, q1124, q129, Or.inr ⟨"BoardCrossing", nw1123⟩⟩⟩,
    List.forall_mem_cons.mpr ⟨⟨⟨by decide, by decide⟩, ⟨by decide +kernel, by decide +kernel⟩, 0, by decide +kernel, Or.inr (Or.inr (Or.inl ⟨rfl, rfl, Or.inl ⟨rfl, q1068, q457, q458, q133⟩⟩))⟩,
    List.forall_mem_cons.mpr ⟨⟨⟨by decide, by decide⟩, ⟨by decide +kernel, by decide +kernel⟩, 2, by decide +kernel, Or.inl ⟨rfl, rfl, by decide +kernel, rfl, q1070, q130, Or.inl q1069⟩⟩,
    fun _ h => absurd h List.not_mem_nil⟩⟩⟩⟩⟩⟩⟩⟩⟩⟩
theorem ai_ct_ok2 : ∀ e ∈ ai_ctl 2, ai_CK 2 e.1 e.2.1 e.2.2.1 e.2.2.2 := by
  unfold ai_ctl
  exact List.forall_mem_cons.mpr ⟨⟨⟨by decide, by decide⟩, ⟨by decide +kernel, by decide +kernel⟩, 0, by decide +kernel, Or.inr (Or.inr (Or.inl ⟨rfl, rfl, Or.inl ⟨rfl, q456, q457, q458, q133⟩⟩))⟩,
    List.forall_mem_cons.mpr ⟨⟨⟨by decide, by decide⟩, ⟨by decide +kernel, by decide +kernel⟩, 1, by decide +kernel, Or.inr (Or.inr (Or.inl ⟨rfl, rfl, Or.inl ⟨rfl, q460, q461, q462, q133⟩⟩))⟩,
    List.forall_mem_cons.mpr ⟨⟨⟨by decide, by decide⟩, ⟨by decide +kernel, by decide +kernel⟩, 2, by decide +kernel, Or.inr (Or.inr (Or.inl ⟨rfl, rfl, Or.inl ⟨rfl, q1060, q1061, q1062, q134⟩⟩))⟩,
    List.forall_mem_cons.mpr ⟨⟨⟨by decide, by decide⟩, ⟨by decide +kernel, by decide +kernel⟩, 1, by decide +kernel, Or.inr (Or.inr (Or.inl ⟨rfl, rfl, Or.inl ⟨rfl, q1064, q1065, q1066, q130⟩⟩))⟩,
    List.forall_mem_cons.mpr ⟨⟨⟨by decide, by decide⟩, ⟨by decide +kernel, by decide +kernel⟩, 2, by decide +kernel, Or.inr (Or.inr (Or.inl ⟨rfl, rfl, Or.inl ⟨rfl, q1158, q1098, q1099, q130⟩⟩))⟩,
    List.forall_mem_cons.mpr ⟨⟨⟨by decide, by decide⟩, ⟨by decide +kernel, by decide +kernel⟩, 2, by decide +kernel, Or.inr (Or.inr (Or.inl ⟨rfl, rfl, Or.inl ⟨rfl, q1159, q762, q763, q130⟩⟩))⟩,
    List.forall_mem_cons.mpr ⟨⟨⟨by decide, by decide⟩, ⟨by decide +kernel, by decide +kernel⟩, 2, by decide +kernel, Or.inl ⟨rfl, rfl, by decide +kernel, rfl, q1124, q129, Or.inr ⟨"BoardCrossing", nw1160⟩⟩⟩,
    fun _ h => absurd h List.not_mem_nil⟩⟩⟩⟩⟩⟩⟩
theorem ai_ct_ok4 : ∀ e ∈ ai_ctl 4, ai_CK 4 e.1 e.2.1 e.2.2.1 e.2.2.2 := by
  unfold ai_ctl
  exact List.forall_mem_cons.mpr ⟨⟨⟨by decide, by decide⟩, ⟨by decide +kernel, by decide +kernel⟩, 1, by decide +kernel, Or.inr (Or.inl ⟨rfl, rfl, rfl, by decide +kernel, rfl, rfl, q401, q138, Or.inr ⟨"BoardCrossing", nw400⟩⟩)⟩,
    fun _ h => absurd h List.not_mem_nil⟩
theorem ai_ct_ok5 : ∀ e ∈ ai_ctl 5, ai_CK 5 e.1 e.2.1 e.2.2.1 e.2.2.2 := by
  unfold ai_ctl
  exact List.forall_mem_cons.mpr ⟨⟨⟨by decide, by decide⟩, ⟨by decide +kernel, by decide +kernel⟩, 1, by decide +kernel, Or.inr (Or.inl ⟨rfl, rfl, rfl, by decide +kernel, rfl, rfl, q401, q138, Or.inr ⟨"BoardCrossing", nw424⟩⟩)⟩,
    fun _ h => absurd h List.not_mem_nil⟩
theorem ai_ct_ok7 : ∀ e ∈ ai_ctl 7, ai_CK 7 e.1 e.2.1 e.2.2.1 e.2.2.2 := by
  unfold ai_ctl
  exact List.forall_mem_cons.mpr ⟨⟨⟨by decide, by decide⟩, ⟨by decide +kernel, by decide +kernel⟩, 1, by decide +kernel, Or.inr (Or.inr (Or.inl ⟨rfl, rfl, Or.inl ⟨rfl, q1730, q1732, qs59, q144⟩⟩))⟩,
    List.forall_mem_cons.mpr ⟨⟨⟨by decide, by decide⟩, ⟨by decide +kernel, by decide +kernel⟩, 1, by decide +kernel, Or.inr (Or.inr (Or.inl ⟨rfl, rfl, Or.inl ⟨rfl, q1750, q1752, qs62, q144⟩⟩))⟩,
    List.forall_mem_cons.mpr ⟨⟨⟨by decide, by decide⟩, ⟨by decide +kernel, by decide +kernel⟩, 1, by decide +kernel, Or.inl ⟨rfl, rfl, by decide +kernel, rfl, q1755, q144, Or.inl q1754⟩⟩,
    List.forall_mem_cons.mpr ⟨⟨⟨by decide, by decide⟩, ⟨by decide +kernel, by decide +kernel⟩, 1, by decide +kernel, Or.inl ⟨rfl, rfl, by decide +kernel, rfl, q1758, q144, Or.inl q1757⟩⟩,
    List.forall_mem_cons.mpr ⟨⟨⟨by decide, by decide⟩, ⟨by decide +kernel, by decide +kernel⟩, 1, by decide +kernel, Or.inl ⟨rfl, rfl, by decide +kernel, rfl, q1761, q144, Or.inl q1760⟩⟩,
    List.forall_mem_cons.mpr ⟨⟨⟨by decide, by decide⟩, ⟨by decide +kernel, by decide +kernel⟩, 0, by decide +kernel, Or.inr (Or.inr (Or.inl ⟨rfl, rfl, Or.inl ⟨rfl, q1821, q1823, qs76, q144⟩⟩))⟩,
    List.forall_mem_cons.mpr ⟨⟨⟨by decide, by decide⟩, ⟨by decide +kernel, by decide +kernel⟩, 1, by decide +kernel, Or.inr (Or.inr (Or.inl ⟨rfl, rfl, Or.inl ⟨rfl, q1768, q1770, qs64, q144⟩⟩))⟩,
    List.forall_mem_cons.mpr ⟨⟨⟨by decide, by decide⟩, ⟨by decide +kernel, by decide +kernel⟩, 1, by decide +kernel, Or.inr (Or.inr (Or.inl ⟨rfl, rfl, Or.inl ⟨rfl, q1780, q1782, qs67, q144⟩⟩))⟩,
    List.forall_mem_cons.mpr ⟨⟨⟨by decide, by decide⟩, ⟨by decide +kernel, by decide +kernel⟩, 0, by decide +kernel, Or.inr (Or.inr (Or.inl ⟨rfl, rfl, Or.inl ⟨rfl, q1746, q1748, qs61, q144⟩⟩))⟩,
    List.forall_mem_cons.mpr ⟨⟨⟨by decide, by decide⟩, ⟨by decide +kernel, by decide +kernel⟩, 1, by decide +kernel, Or.inr (Or.inr (Or.inl ⟨rfl, rfl, Or.inl ⟨rfl, q1789, q1791, qs69, q144⟩⟩))⟩,
    List.forall_mem_cons.mpr ⟨⟨⟨by decide, by decide⟩, ⟨by decide +kernel, by decide +kernel⟩, 2, by decide +kernel, Or.inr (Or.inr (Or.inl ⟨rfl, rfl, Or.inl ⟨rfl, q1776, q1778, qs66, q144⟩⟩))⟩,
    List.forall_mem_cons.mpr ⟨⟨⟨by decide, by decide⟩, ⟨by decide +kernel, by decide +kernel⟩, 0, by decide +kernel, Or.inr (Or.inr (Or.inl ⟨rfl, rfl, Or.inl ⟨rfl, q1817, q1819, qs75, q144⟩⟩))⟩,
    List.forall_mem_cons.mpr ⟨⟨⟨by decide, by decide⟩, ⟨by decide +kernel, by decide +kernel⟩, 1, by decide +kernel, Or.inl ⟨rfl, rfl, by decide +kernel, rfl, q1855, q144, Or.inl q1854⟩⟩,
    List.forall_mem_cons.mpr ⟨⟨⟨by decide, by decide⟩, ⟨by decide +kernel, by decide +kernel⟩, 2, by decide +kernel, Or.inr (Or.inr (Or.inl ⟨rfl, rfl, Or.inl ⟨rfl, q1873, q1875, qs85, q144⟩⟩))⟩,
    List.forall_mem_cons.mpr ⟨⟨⟨by decide, by decide⟩, ⟨by decide +kernel, by decide +kernel⟩, 0, by decide +kernel, Or.inr (Or.inr (Or.inl ⟨rfl, rfl, Or.inl ⟨rfl, q1850, q1852, qs80, q144⟩⟩))⟩,
    List.forall_mem_cons.mpr ⟨⟨⟨by decide, by decide⟩, ⟨by decide +kernel, by decide +kernel⟩, 1, by decide +kernel, Or.inr (Or.inr (Or.inl ⟨rfl, rfl, Or.inl ⟨rfl, q1857, q1859, qs81, q144⟩⟩))⟩,
    List.forall_mem_cons.mpr ⟨⟨⟨by decide, by decide⟩, ⟨by decide +kernel, by decide +kernel⟩, 0, by decide +kernel, Or.inr (Or.inr (Or.inl ⟨rfl, rfl, Or.inl ⟨rfl, q1861, q1863, qs82, q144⟩⟩))⟩,
    List.forall_mem_cons.mpr ⟨⟨⟨by decide, by decide⟩, ⟨by decide +kernel, by decide +kernel⟩, 0, by decide +kernel, Or.inr (Or.inr (Or.inl ⟨rfl, rfl, Or.inl ⟨rfl, q1865, q1867, qs83, q144⟩⟩))⟩,
    List.forall_mem_cons.mpr ⟨⟨⟨by decide, by decide⟩, ⟨by decide +kernel, by decide +kernel⟩, 0, by decide +kernel, Or.inr (Or.inr (Or.inl ⟨rfl, rfl, Or.inl ⟨rfl, q1869, q1871, qs84, q144⟩⟩))⟩,
    List.forall_mem_cons.mpr ⟨⟨⟨by decide, by decide⟩, ⟨by decide +kernel, by decide +kernel⟩, 0, by decide +kernel, Or.inr (Or.inr (Or.inl ⟨rfl, rfl, Or.inl ⟨rfl, q1846, q1848, qs79, q144⟩⟩))⟩,
    List.forall_mem_cons.mpr ⟨⟨⟨by decide, by decide⟩, ⟨by decide +kernel, by decide +kernel⟩, 0, by decide +kernel, Or.inr (Or.inr (Or.inl ⟨rfl, rfl, Or.inl ⟨rfl, q1877, q1879, qs86, q144⟩⟩))⟩,
    List.forall_mem_cons.mpr ⟨⟨⟨by decide, by decide⟩, ⟨by decide +kernel, by decide +kernel⟩, 0, by decide +kernel, Or.inr (Or.inr (Or.inl ⟨rfl, rfl, Or.inl ⟨rfl, q1881, q1883, qs87, q144⟩⟩))⟩,
    List.forall_mem_cons.mpr ⟨⟨⟨by decide, by decide⟩, ⟨by decide +kernel, by decide +kernel⟩, 1, by decide +kernel, Or.inr (Or.inr (Or.inl ⟨rfl, rfl, Or.inl ⟨rfl, q1885, q1887, qs88, q144⟩⟩))⟩,
    List.forall_mem_cons.mpr ⟨⟨⟨by decide, by decide⟩, ⟨by decide +kernel, by decide +kernel⟩, 0, by decide +kernel, Or.inr (Or.inr (Or.inl ⟨rfl, rfl, Or.inl ⟨rfl, q1889, q1891, qs89, q144⟩⟩))⟩,
    List.forall_mem_cons.mpr ⟨⟨⟨by decide, by decide⟩, ⟨by decide +kernel, by decide +kernel⟩, 1, by decide +kernel, Or.inl ⟨rfl, rfl, by decide +kernel, rfl, q1921, q144, Or.inl q1920⟩⟩,
    List.forall_mem_cons.mpr ⟨⟨⟨by decide, by decide⟩, ⟨by decide +kernel, by decide +kernel⟩, 1, by decide +kernel, Or.inr (Or.inr (Or.inl ⟨rfl, rfl, Or.inl ⟨rfl, q1912, q1914, qs92, q144⟩⟩))⟩,
    List.forall_mem_cons.mpr ⟨⟨⟨by decide, by decide⟩, ⟨by decide +kernel, by decide +kernel⟩, 3, by decide +kernel, Or.inl ⟨rfl, rfl, by decide +kernel, rfl, q1952, q144, Or.inl q1951⟩⟩,
    List.forall_mem_cons.mpr ⟨⟨⟨by decide, by decide⟩, ⟨by decide +kernel, by decide +kernel⟩, 2, by decide +kernel, Or.inl ⟨rfl, rfl, by decide +kernel, rfl, q1955, q144, Or.inl q1954⟩⟩,
    List.forall_mem_cons.mpr ⟨⟨⟨by decide, by decide⟩, ⟨by decide +kernel, by decide +kernel⟩, 3, by decide +kernel, Or.inr (Or.inr (Or.inl ⟨rfl, rfl, Or.inl ⟨rfl, q1785, q1787, qs68, q144⟩⟩))⟩,
    List.forall_mem_cons.mpr ⟨⟨⟨by decide, by decide⟩, ⟨by decide +kernel, by decide +kernel⟩, 3, by decide +kernel, Or.inr (Or.inr (Or.inl ⟨rfl, rfl, Or.inl ⟨rfl, q1799, q1801, qs71, q144⟩⟩))⟩,
    List.forall_mem_cons.mpr ⟨⟨⟨by decide, by decide⟩, ⟨by decide +kernel, by decide +kernel⟩, 2, by decide +kernel, Or.inr (Or.inr (Or.inl ⟨rfl, rfl, Or.inl ⟨rfl, q1813, q1815, qs74, q144⟩⟩))⟩,
    List.forall_mem_cons.mpr ⟨⟨⟨by decide, by decide⟩, ⟨by decide +kernel, by decide +kernel⟩, 0, by decide +kernel, Or.inr (Or.inr (Or.inl ⟨rfl, rfl, Or.inl ⟨rfl, q1772, q1774, qs65, q144⟩⟩))⟩,
    List.forall_mem_cons.mpr ⟨⟨⟨by decide, by decide⟩, ⟨by decide +kernel, by decide +kernel⟩, 0, by decide +kernel, Or.inr (Or.inr (Or.inl ⟨rfl, rfl, Or.inl ⟨rfl, q1794, q1796, qs70, q144⟩⟩))⟩,
    List.forall_mem_cons.mpr ⟨⟨⟨by decide, by decide⟩, ⟨by decide +kernel, by decide +kernel⟩, 0, by decide +kernel, Or.inr (Or.inr (Or.inl ⟨rfl, rfl, Or.inl ⟨rfl, q1804, q1806, qs72, q144⟩⟩))⟩,
    List.forall_mem_cons.mpr ⟨⟨⟨by decide, by decide⟩, ⟨by decide +kernel, by decide +kernel⟩, 0, by decide +kernel, Or.inr (Or.inr (Or.inl ⟨rfl, rfl, Or.inl ⟨rfl, q1809, q1811, qs73, q144⟩⟩))⟩,
    List.forall_mem_cons.mpr ⟨⟨⟨by decide, by decide⟩, ⟨by decide +kernel, by decide +kernel⟩, 0, by decide +kernel, Or.inr (Or.inr (Or.inl ⟨rfl, rfl, Or.inl ⟨rfl, q1838, q1840, qs77, q144⟩⟩))⟩,
    List.forall_mem_cons.mpr ⟨⟨⟨by decide, by decide⟩, ⟨by decide +kernel, by decide +kernel⟩, 0, by decide +kernel, Or.inr (Or.inr (Or.inl ⟨rfl, rfl, Or.inl ⟨rfl, q1842, q1844, qs78, q144⟩⟩))⟩,
    List.forall_mem_cons.mpr ⟨⟨⟨by decide, by decide⟩, ⟨by decide +kernel, by decide +kernel⟩, 0, by decide +kernel, Or.inr (Or.inr (Or.inl ⟨rfl, rfl, Or.inl ⟨rfl, q1763, q1765, qs63, q144⟩⟩))⟩,
    List.forall_mem_cons.mpr ⟨⟨⟨by decide, by decide⟩, ⟨by decide +kernel, by decide +kernel⟩, 0, by decide +kernel, Or.inr (Or.inr (Or.inl ⟨rfl, rfl, Or.inl ⟨rfl, q1742, q1744, qs60, q144⟩⟩))⟩,
    List.forall_mem_cons.mpr ⟨⟨⟨by decide, by decide⟩, ⟨by decide +kernel, by decide +kernel⟩, 3, by decide +kernel, Or.inl ⟨rfl, rfl, by decide +kernel, rfl, q1906, q144, Or.inl q1905⟩⟩,
    List.forall_mem_cons.mpr ⟨⟨⟨by decide, by decide⟩, ⟨by decide +kernel, by decide +kernel⟩, 2, by decide +kernel, Or.inr (Or.inr (Or.inl ⟨rfl, rfl, Or.inl ⟨rfl, q1935, q1937, qs95, q144⟩⟩))⟩,
    List.forall_mem_cons.mpr ⟨⟨⟨by decide, by decide⟩, ⟨by decide +kernel, by decide +kernel⟩, 4, by decide +kernel, Or.inr (Or.inr (Or.inl ⟨rfl, rfl, Or.inl ⟨rfl, q1969, q1971, qs100, q144⟩⟩))⟩,
    List.forall_mem_cons.mpr ⟨⟨⟨by decide, by decide⟩, ⟨by decide +kernel, by decide +kernel⟩, 1, by decide +kernel, Or.inr (Or.inr (Or.inl ⟨rfl, rfl, Or.inl ⟨rfl, q1947, q1949, qs97, q144⟩⟩))⟩,
    List.forall_mem_cons.mpr ⟨⟨⟨by decide, by decide⟩, ⟨by decide +kernel, by decide +kernel⟩, 2, by decide +kernel, Or.inr (Or.inr (Or.inl ⟨rfl, rfl, Or.inl ⟨rfl, q1939, q1941, qs96, q144⟩⟩))⟩,
    List.forall_mem_cons.mpr ⟨⟨⟨by decide, by decide⟩, ⟨by decide +kernel, by decide +kernel⟩, 1, by decide +kernel, Or.inr (Or.inr (Or.inl ⟨rfl, rfl, Or.inl ⟨rfl, q1901, q1903, qs90, q144⟩⟩))⟩,
    List.forall_mem_cons.mpr ⟨⟨⟨by decide, by decide⟩, ⟨by decide +kernel, by decide +kernel⟩, 0, by decide +kernel, Or.inr (Or.inr (Or.inl ⟨rfl, rfl, Or.inl ⟨rfl, q1908, q1910, qs91, q144⟩⟩))⟩,
    List.forall_mem_cons.mpr ⟨⟨⟨by decide, by decide⟩, ⟨by decide +kernel, by decide +kernel⟩, 1, by decide +kernel, Or.inr (Or.inr (Or.inl ⟨rfl, rfl, Or.inl ⟨rfl, q1916, q1918, qs93, q144⟩⟩))⟩,
    List.forall_mem_cons.mpr ⟨⟨⟨by decide, by decide⟩, ⟨by decide +kernel, by decide +kernel⟩, 1, by decide +kernel, Or.inr (Or.inr (Or.inl ⟨rfl, rfl, Or.inl ⟨rfl, q1927, q1929, qs94, q144⟩⟩))⟩,
    List.forall_mem_cons.mpr ⟨⟨⟨by decide, by decide⟩, ⟨by decide +kernel, by decide +kernel⟩, 0, by decide +kernel, Or.inr (Or.inr (Or.inl ⟨rfl, rfl, Or.inl ⟨rfl, q1961, q1963, qs98, q144⟩⟩))⟩,
    List.forall_mem_cons.mpr ⟨⟨⟨by decide, by decide⟩, ⟨by decide +kernel, by decide +kernel⟩, 4, by decide +kernel, Or.inr (Or.inr (Or.inl ⟨rfl, rfl, Or.inl ⟨rfl, q1965, q1967, qs99, q144⟩⟩))⟩,
    List.forall_mem_cons.mpr ⟨⟨⟨by decide, by decide⟩, ⟨by decide +kernel, by decide +kernel⟩, 0, by decide +kernel, Or.inr (Or.inr (Or.inl ⟨rfl, rfl, Or.inl ⟨rfl, q1973, q1975, qs101, q144⟩⟩))⟩,
    List.forall_mem_cons.mpr ⟨⟨⟨by decide, by decide⟩, ⟨by decide +kernel, by decide +kernel⟩, 1, by decide +kernel, Or.inr (Or.inr (Or.inl ⟨rfl, rfl, Or.inl ⟨rfl, q1981, q1983, qs102, q144⟩⟩))⟩,
    List.forall_mem_cons.mpr ⟨⟨⟨by decide, by decide⟩, ⟨by decide +kernel, by decide +kernel⟩, 1, by decide +kernel, Or.inr (Or.inr (Or.inl ⟨rfl, rfl, Or.inl ⟨rfl, q1985, q1987, qs103, q144⟩⟩))⟩,
    List.forall_mem_cons.mpr ⟨⟨⟨by decide, by decide⟩, ⟨by decide +kernel, by decide +kernel⟩, 1, by decide +kernel, Or.inr (Or.inr (Or.inl ⟨rfl, rfl, Or.inl ⟨rfl, q2001, q2003, qs104, q144⟩⟩))⟩,
    List.forall_mem_cons.mpr ⟨⟨⟨by decide, by decide⟩, ⟨by decide +kernel, by decide +kernel⟩, 1, by decide +kernel, Or.inr (Or.inr (Or.inl ⟨rfl, rfl, Or.inl ⟨rfl, q2017, q2019, qs106, q144⟩⟩))⟩,
    List.forall_mem_cons.mpr ⟨⟨⟨by decide, by decide⟩, ⟨by decide +kernel, by decide +kernel⟩, 2, by decide +kernel, Or.inl ⟨rfl, rfl, by decide +kernel, rfl, q2022, q144, Or.inl q2021⟩⟩,
    List.forall_mem_cons.mpr ⟨⟨⟨by decide, by decide⟩, ⟨by decide +kernel, by decide +kernel⟩, 2, by decide +kernel, Or.inr (Or.inr (Or.inl ⟨rfl, rfl, Or.inl ⟨rfl, q2024, q2026, qs107, q144⟩⟩))⟩,
    List.forall_mem_cons.mpr ⟨⟨⟨by decide, by decide⟩, ⟨by decide +kernel, by decide +kernel⟩, 1, by decide +kernel, Or.inr (Or.inr (Or.inl ⟨rfl, rfl, Or.inl ⟨rfl, q2013, q2015, qs105, q144⟩⟩))⟩,
    List.forall_mem_cons.mpr ⟨⟨⟨by decide, by decide⟩, ⟨by decide +kernel, by decide +kernel⟩, 1, by decide +kernel, Or.inr (Or.inr (Or.inl ⟨rfl, rfl, Or.inl ⟨rfl, q2036, q2038, qs108, q144⟩⟩))⟩,
    List.forall_mem_cons.mpr ⟨⟨⟨by decide, by decide⟩, ⟨by decide +kernel, by decide +kernel⟩, 1, by decide +kernel, Or.inr (Or.inr (Or.inl ⟨rfl, rfl, Or.inl ⟨rfl, q2045, q2047, qs109, q144⟩⟩))⟩,
    List.forall_mem_cons.mpr ⟨⟨⟨by decide, by decide⟩, ⟨by decide +kernel, by decide +kernel⟩, 1, by decide +kernel, Or.inr (Or.inr (Or.inl ⟨rfl, rfl, Or.inl ⟨rfl, q2053, q2055, qs110, q144⟩⟩))⟩,
    List.forall_mem_cons.mpr ⟨⟨⟨by decide, by decide⟩, ⟨by decide +kernel, by decide +kernel⟩, 1, by decide +kernel, Or.inr (Or.inr (Or.inl ⟨rfl, rfl, Or.inl ⟨rfl, q2061, q2063, qs111, q144⟩⟩))⟩,
    List.forall_mem_cons.mpr ⟨⟨⟨by decide, by decide⟩, ⟨by decide +kernel, by decide +kernel⟩, 1, by decide +kernel, Or.inr (Or.inr (Or.inl ⟨rfl, rfl, Or.inl ⟨rfl, q2073, q2075, qs113, q144⟩⟩))⟩,
    List.forall_mem_cons.mpr ⟨⟨⟨by decide, by decide⟩, ⟨by decide +kernel, by decide +kernel⟩, 0, by decide +kernel, Or.inr (Or.inr (Or.inl ⟨rfl, rfl, Or.inl ⟨rfl, q2069, q2071, qs112, q144⟩⟩))⟩,
    List.forall_mem_cons.mpr ⟨⟨⟨by decide, by decide⟩, ⟨by decide +kernel, by decide +kernel⟩, 2, by decide +kernel, Or.inr (Or.inr (Or.inl ⟨rfl, rfl, Or.inl ⟨rfl, q2077, q2079, qs114, q144⟩⟩))⟩,
    List.forall_mem_cons.mpr ⟨⟨⟨by decide, by decide⟩, ⟨by decide +kernel, by decide +kernel⟩, 1, by decide +kernel, Or.inr (Or.inr (Or.inl ⟨rfl, rfl, Or.inl ⟨rfl, q2081, q2083, qs115, q144⟩⟩))⟩,
    List.forall_mem_cons.mpr ⟨⟨⟨by decide, by decide⟩, ⟨by decide +kernel, by decide +kernel⟩, 2, by decide +kernel, Or.inr (Or.inr (Or.inl ⟨rfl, rfl, Or.inl ⟨rfl, q2089, q2091, qs116, q144⟩⟩))⟩,
    List.forall_mem_cons.mpr ⟨⟨⟨by decide, by decide⟩, ⟨by decide +kernel, by decide +kernel⟩, 1, by decide +kernel, Or.inl ⟨rfl, rfl, by decide +kernel, rfl, q2094, q144, Or.inl q2093⟩⟩,
    List.forall_mem_cons.mpr ⟨⟨⟨by decide, by decide⟩, ⟨by decide +kernel, by decide +kernel⟩, 1, by decide +kernel, Or.inl ⟨rfl, rfl, by decide +kernel, rfl, q2105, q144, Or.inl q2104⟩⟩,
    List.forall_mem_cons.mpr ⟨⟨⟨by decide, by decide⟩, ⟨by decide +kernel, by decide +kernel⟩, 0, by decide +kernel, Or.inr (Or.inr (Or.inl ⟨rfl, rfl, Or.inl ⟨rfl, q2100, q2102, qs117, q144⟩⟩))⟩,
    List.forall_mem_cons.mpr ⟨⟨⟨by decide, by decide⟩, ⟨by decide +kernel, by decide +kernel⟩, 1, by decide +kernel, Or.inr (Or.inr (Or.inl ⟨rfl, rfl, Or.inl ⟨rfl, q2107, q2109, qs118, q144⟩⟩))⟩,
    List.forall_mem_cons.mpr ⟨⟨⟨by decide, by decide⟩, ⟨by decide +kernel, by decide +kernel⟩, 1, by decide +kernel, Or.inr (Or.inr (Or.inl ⟨rfl, rfl, Or.inl ⟨rfl, q2115, q2117, qs119, q144⟩⟩))⟩,
    List.forall_mem_cons.mpr ⟨⟨⟨by decide, by decide⟩, ⟨by decide +kernel, by decide +kernel⟩, 0, by decide +kernel, Or.inr (Or.inr (Or.inl ⟨rfl, rfl, Or.inl ⟨rfl, q2119, q2121, qs120, q144⟩⟩))⟩,
    List.forall_mem_cons.mpr ⟨⟨⟨by decide, by decide⟩, ⟨by decide +kernel, by decide +kernel⟩, 3, by decide +kernel, Or.inr (Or.inr (Or.inl ⟨rfl, rfl, Or.inl ⟨rfl, q2131, q2133, qs122, q144⟩⟩))⟩,
    List.forall_mem_cons.mpr ⟨⟨⟨by decide, by decide⟩, ⟨by decide +kernel, by decide +kernel⟩, 6, by decide +kernel, Or.inr (Or.inr (Or.inl ⟨rfl, rfl, Or.inl ⟨rfl, q2127, q2129, qs121, q144⟩⟩))⟩,
    List.forall_mem_cons.mpr ⟨⟨⟨by decide, by decide⟩, ⟨by decide +kernel, by decide +kernel⟩, 3, by decide +kernel, Or.inr (Or.inr (Or.inl ⟨rfl, rfl, Or.inl ⟨rfl, q2143, q2145, qs123, q144⟩⟩))⟩,
    List.forall_mem_cons.mpr ⟨⟨⟨by decide, by decide⟩, ⟨by decide +kernel, by decide +kernel⟩, 2, by decide +kernel, Or.inl ⟨rfl, rfl, by decide +kernel, rfl, q2148, q144, Or.inl q2147⟩⟩,
    List.forall_mem_cons.mpr ⟨⟨⟨by decide, by decide⟩, ⟨by decide +kernel, by decide +kernel⟩, 4, by decide +kernel, Or.inr (Or.inr (Or.inl ⟨rfl, rfl, Or.inl ⟨rfl, q2178, q2180, qs124, q144⟩⟩))⟩,
    List.forall_mem_cons.mpr ⟨⟨⟨by decide, by decide⟩, ⟨by decide +kernel, by decide +kernel⟩, 1, by decide +kernel, Or.inr (Or.inr (Or.inl ⟨rfl, rfl, Or.inl ⟨rfl, q2203, q2205, qs126, q144⟩⟩))⟩,
    List.forall_mem_cons.mpr ⟨⟨⟨by decide, by decide⟩, ⟨by decide +kernel, by decide +kernel⟩, 1, by decide +kernel, Or.inr (Or.inr (Or.inl ⟨rfl, rfl, Or.inl ⟨rfl, q2199, q2201, qs125, q144⟩⟩))⟩,
    List.forall_mem_cons.mpr ⟨⟨⟨by decide, by decide⟩, ⟨by decide +kernel, by decide +kernel⟩, 1, by decide +kernel, Or.inr (Or.inr (Or.inl ⟨rfl, rfl, Or.inl ⟨rfl, q2215, q2217, qs127, q144⟩⟩))⟩,
    List.forall_mem_cons.mpr ⟨⟨⟨by decide, by decide⟩, ⟨by decide +kernel, by decide +kernel⟩, 1, by decide +kernel, Or.inl ⟨rfl, rfl, by decide +kernel, rfl, q2224, q144, Or.inl q2223⟩⟩,
    List.forall_mem_cons.mpr ⟨⟨⟨by decide, by decide⟩, ⟨by decide +kernel, by decide +kernel⟩, 0, by decide +kernel, Or.inr (Or.inr (Or.inl ⟨rfl, rfl, Or.inl ⟨rfl, q2226, q2151, q2152, q144⟩⟩))⟩,
    fun _ h => absurd h List.not_mem_nil⟩⟩⟩⟩⟩⟩⟩⟩⟩⟩⟩⟩⟩⟩⟩⟩⟩⟩⟩⟩⟩⟩⟩⟩⟩⟩⟩⟩⟩⟩⟩⟩⟩⟩⟩⟩⟩⟩⟩⟩⟩⟩⟩⟩⟩⟩⟩⟩⟩⟩⟩⟩⟩⟩⟩⟩⟩⟩⟩⟩⟩⟩⟩⟩⟩⟩⟩⟩⟩⟩⟩⟩⟩⟩⟩⟩⟩⟩⟩⟩⟩⟩⟩
theorem ai_ct_ok8 : ∀ e ∈ ai_ctl 8, ai_CK 8 e.1 e.2.1 e.2.2.1 e.2.2.2 := by
  unfold ai_ctl
  exact List.forall_mem_cons.mpr ⟨⟨⟨by decide, by decide⟩, ⟨by decide +kernel, by decide +kernel⟩, 0, by decide +kernel, Or.inr (Or.inl ⟨rfl, rfl, rfl, by decide +kernel, rfl, rfl, q175, q130, Or.inr ⟨"BoardCrossing", nw596⟩⟩)⟩,
    List.forall_mem_cons.mpr ⟨⟨⟨by decide, by decide⟩, ⟨by decide +kernel, by decide +kernel⟩, 1, by decide +kernel, Or.inr (Or.inr (Or.inl ⟨rfl, rfl, Or.inl ⟨rfl, q639, q641, qs4, q145⟩⟩))⟩,
    List.forall_mem_cons.mpr ⟨⟨⟨by decide, by decide⟩, ⟨by decide +kernel, by decide +kernel⟩, 1, by decide +kernel, Or.inl ⟨rfl, rfl, by decide +kernel, rfl, q644, q145, Or.inl q643⟩⟩,
    List.forall_mem_cons.mpr ⟨⟨⟨by decide, by decide⟩, ⟨by decide +kernel, by decide +kernel⟩, 0, by decide +kernel, Or.inr (Or.inr (Or.inl ⟨rfl, rfl, Or.inl ⟨rfl, q646, q648, qs5, q145⟩⟩))⟩,
    List.forall_mem_cons.mpr ⟨⟨⟨by decide, by decide⟩, ⟨by decide +kernel, by decide +kernel⟩, 1, by decide +kernel, Or.inl ⟨rfl, rfl, by decide +kernel, rfl, q651, q145, Or.inl q650⟩⟩,
    List.forall_mem_cons.mpr ⟨⟨⟨by decide, by decide⟩, ⟨by decide +kernel, by decide +kernel⟩, 0, by decide +kernel, Or.inr (Or.inr (Or.inl ⟨rfl, rfl, Or.inl ⟨rfl, q653, q655, qs6, q145⟩⟩))⟩,
    List.forall_mem_cons.mpr ⟨⟨⟨by decide, by decide⟩, ⟨by decide +kernel, by decide +kernel⟩, 1, by decide +kernel, Or.inl ⟨rfl, rfl, by decide +kernel, rfl, q658, q145, Or.inl q657⟩⟩,
    List.forall_mem_cons.mpr ⟨⟨⟨by decide, by decide⟩, ⟨by decide +kernel, by decide +kernel⟩, 0, by decide +kernel, Or.inr (Or.inr (Or.inl ⟨rfl, rfl, Or.inl ⟨rfl, q673, q674, q675, q146⟩⟩))⟩,
    List.forall_mem_cons.mpr ⟨⟨⟨by decide, by decide⟩, ⟨by decide +kernel, by decide +kernel⟩, 1, by decide +kernel, Or.inr (Or.inr (Or.inl ⟨rfl, rfl, Or.inl ⟨rfl, q683, q684, q685, q146⟩⟩))⟩,
    List.forall_mem_cons.mpr ⟨⟨⟨by decide, by decide⟩, ⟨by decide +kernel, by decide +kernel⟩, 1, by decide +kernel, Or.inr (Or.inr (Or.inl ⟨rfl, rfl, Or.inl ⟨rfl, q669, q671, qs9, q145⟩⟩))⟩,
    List.forall_mem_cons.mpr ⟨⟨⟨by decide, by decide⟩, ⟨by decide +kernel, by decide +kernel⟩, 2, by decide +kernel, Or.inr (Or.inr (Or.inl ⟨rfl, rfl, Or.inl ⟨rfl, q731, q732, q733, q137⟩⟩))⟩,
    List.forall_mem_cons.mpr ⟨⟨⟨by decide, by decide⟩, ⟨by decide +kernel, by decide +kernel⟩, 0, by decide +kernel, Or.inr (Or.inr (Or.inl ⟨rfl, rfl, Or.inl ⟨rfl, q727, q729, qs10, q145⟩⟩))⟩,
    List.forall_mem_cons.mpr ⟨⟨⟨by decide, by decide⟩, ⟨by decide +kernel, by decide +kernel⟩, 0, by decide +kernel, Or.inr (Or.inr (Or.inl ⟨rfl, rfl, Or.inl ⟨rfl, q635, q637, qs3, q145⟩⟩))⟩,
    List.forall_mem_cons.mpr ⟨⟨⟨by decide, by decide⟩, ⟨by decide +kernel, by decide +kernel⟩, 1, by decide +kernel, Or.inr (Or.inr (Or.inl ⟨rfl, rfl, Or.inl ⟨rfl, q748, q750, qs14, q145⟩⟩))⟩,
    List.forall_mem_cons.mpr ⟨⟨⟨by decide, by decide⟩, ⟨by decide +kernel, by decide +kernel⟩, 2, by decide +kernel, Or.inr (Or.inr (Or.inl ⟨rfl, rfl, Or.inl ⟨rfl, q739, q741, qs12, q145⟩⟩))⟩,
    List.forall_mem_cons.mpr ⟨⟨⟨by decide, by decide⟩, ⟨by decide +kernel, by decide +kernel⟩, 1, by decide +kernel, Or.inr (Or.inr (Or.inl ⟨rfl, rfl, Or.inl ⟨rfl, q781, q783, qs20, q145⟩⟩))⟩,
    List.forall_mem_cons.mpr ⟨⟨⟨by decide, by decide⟩, ⟨by decide +kernel, by decide +kernel⟩, 0, by decide +kernel, Or.inr (Or.inr (Or.inl ⟨rfl, rfl, Or.inl ⟨rfl, q785, q786, q787, q133⟩⟩))⟩,
    List.forall_mem_cons.mpr ⟨⟨⟨by decide, by decide⟩, ⟨by decide +kernel, by decide +kernel⟩, 0, by decide +kernel, Or.inr (Or.inr (Or.inr ⟨rfl, rfl, by decide +kernel, rfl, rfl, ⟨"java/util/Iterato\x72", "hasNext", "()Z"⟩, Or.inl ⟨rfl, rfl⟩, q809, q813, q815, q151, ⟨by decide +kernel, by decide +kernel⟩, by decide +kernel⟩))⟩,
    List.forall_mem_cons.mpr ⟨⟨⟨by decide, by decide⟩, ⟨by decide +kernel, by decide +kernel⟩, 0, by decide +kernel, Or.inr (Or.inr (Or.inr ⟨rfl, rfl, by decide +kernel, rfl, rfl, ⟨"java/util/Iterato\x72", "next", "()Ljava/lang/Object;"⟩, Or.inr ⟨rfl, rfl⟩, q819, q822, q824, q151, ⟨by decide +kernel, by decide +kernel⟩, by decide +kernel⟩))⟩,
    List.forall_mem_cons.mpr ⟨⟨⟨by decide, by decide⟩, ⟨by decide +kernel, by decide +kernel⟩, 2, by decide +kernel, Or.inr (Or.inr (Or.inl ⟨rfl, rfl, Or.inl ⟨rfl, q761, q762, q763, q130⟩⟩))⟩,
    List.forall_mem_cons.mpr ⟨⟨⟨by decide, by decide⟩, ⟨by decide +kernel, by decide +kernel⟩, 3, by decide +kernel, Or.inr (Or.inr (Or.inl ⟨rfl, rfl, Or.inl ⟨rfl, q757, q759, qs16, q145⟩⟩))⟩,
    List.forall_mem_cons.mpr ⟨⟨⟨by decide, by decide⟩, ⟨by decide +kernel, by decide +kernel⟩, 1, by decide +kernel, Or.inr (Or.inr (Or.inl ⟨rfl, rfl, Or.inl ⟨rfl, q775, q777, qs19, q145⟩⟩))⟩,
    List.forall_mem_cons.mpr ⟨⟨⟨by decide, by decide⟩, ⟨by decide +kernel, by decide +kernel⟩, 1, by decide +kernel, Or.inr (Or.inl ⟨rfl, rfl, rfl, by decide +kernel, rfl, rfl, q833, q150, Or.inl q832⟩)⟩,
    List.forall_mem_cons.mpr ⟨⟨⟨by decide, by decide⟩, ⟨by decide +kernel, by decide +kernel⟩, 3, by decide +kernel, Or.inr (Or.inr (Or.inl ⟨rfl, rfl, Or.inl ⟨rfl, q744, q746, qs13, q145⟩⟩))⟩,
    List.forall_mem_cons.mpr ⟨⟨⟨by decide, by decide⟩, ⟨by decide +kernel, by decide +kernel⟩, 1, by decide +kernel, Or.inr (Or.inr (Or.inl ⟨rfl, rfl, Or.inl ⟨rfl, q735, q737, qs11, q145⟩⟩))⟩,
    List.forall_mem_cons.mpr ⟨⟨⟨by decide, by decide⟩, ⟨by decide +kernel, by decide +kernel⟩, 1, by decide +kernel, Or.inr (Or.inr (Or.inl ⟨rfl, rfl, Or.inl ⟨rfl, q866, q867, q868, q133⟩⟩))⟩,
    List.forall_mem_cons.mpr ⟨⟨⟨by decide, by decide⟩, ⟨by decide +kernel, by decide +kernel⟩, 1, by decide +kernel, Or.inr (Or.inl ⟨rfl, rfl, rfl, by decide +kernel, rfl, rfl, q938, q156, Or.inl q937⟩)⟩,
    List.forall_mem_cons.mpr ⟨⟨⟨by decide, by decide⟩, ⟨by decide +kernel, by decide +kernel⟩, 0, by decide +kernel, Or.inr (Or.inr (Or.inl ⟨rfl, rfl, Or.inl ⟨rfl, q948, q950, qs26, q145⟩⟩))⟩,
    List.forall_mem_cons.mpr ⟨⟨⟨by decide, by decide⟩, ⟨by decide +kernel, by decide +kernel⟩, 0, by decide +kernel, Or.inr (Or.inr (Or.inl ⟨rfl, rfl, Or.inl ⟨rfl, q952, q954, qs27, q145⟩⟩))⟩,
    List.forall_mem_cons.mpr ⟨⟨⟨by decide, by decide⟩, ⟨by decide +kernel, by decide +kernel⟩, 3, by decide +kernel, Or.inr (Or.inl ⟨rfl, rfl, rfl, by decide +kernel, rfl, rfl, q1019, q161, Or.inl q1018⟩)⟩,
    List.forall_mem_cons.mpr ⟨⟨⟨by decide, by decide⟩, ⟨by decide +kernel, by decide +kernel⟩, 0, by decide +kernel, Or.inr (Or.inr (Or.inl ⟨rfl, rfl, Or.inl ⟨rfl, q956, q958, qs28, q145⟩⟩))⟩,
    List.forall_mem_cons.mpr ⟨⟨⟨by decide, by decide⟩, ⟨by decide +kernel, by decide +kernel⟩, 0, by decide +kernel, Or.inr (Or.inr (Or.inl ⟨rfl, rfl, Or.inl ⟨rfl, q961, q963, qs29, q145⟩⟩))⟩,
    List.forall_mem_cons.mpr ⟨⟨⟨by decide, by decide⟩, ⟨by decide +kernel, by decide +kernel⟩, 1, by decide +kernel, Or.inr (Or.inl ⟨rfl, rfl, rfl, by decide +kernel, rfl, rfl, q968, q158, Or.inl q967⟩)⟩,
    List.forall_mem_cons.mpr ⟨⟨⟨by decide, by decide⟩, ⟨by decide +kernel, by decide +kernel⟩, 0, by decide +kernel, Or.inr (Or.inr (Or.inl ⟨rfl, rfl, Or.inl ⟨rfl, q978, q980, qs30, q145⟩⟩))⟩,
    List.forall_mem_cons.mpr ⟨⟨⟨by decide, by decide⟩, ⟨by decide +kernel, by decide +kernel⟩, 1, by decide +kernel, Or.inr (Or.inr (Or.inl ⟨rfl, rfl, Or.inl ⟨rfl, q990, q992, qs33, q145⟩⟩))⟩,
    List.forall_mem_cons.mpr ⟨⟨⟨by decide, by decide⟩, ⟨by decide +kernel, by decide +kernel⟩, 0, by decide +kernel, Or.inr (Or.inr (Or.inl ⟨rfl, rfl, Or.inl ⟨rfl, q982, q984, qs31, q145⟩⟩))⟩,
    List.forall_mem_cons.mpr ⟨⟨⟨by decide, by decide⟩, ⟨by decide +kernel, by decide +kernel⟩, 0, by decide +kernel, Or.inr (Or.inr (Or.inl ⟨rfl, rfl, Or.inl ⟨rfl, q986, q988, qs32, q145⟩⟩))⟩,
    List.forall_mem_cons.mpr ⟨⟨⟨by decide, by decide⟩, ⟨by decide +kernel, by decide +kernel⟩, 1, by decide +kernel, Or.inr (Or.inl ⟨rfl, rfl, rfl, by decide +kernel, rfl, rfl, q999, q159, Or.inl q998⟩)⟩,
    List.forall_mem_cons.mpr ⟨⟨⟨by decide, by decide⟩, ⟨by decide +kernel, by decide +kernel⟩, 1, by decide +kernel, Or.inr (Or.inl ⟨rfl, rfl, rfl, by decide +kernel, rfl, rfl, q1009, q160, Or.inl q1008⟩)⟩,
    List.forall_mem_cons.mpr ⟨⟨⟨by decide, by decide⟩, ⟨by decide +kernel, by decide +kernel⟩, 0, by decide +kernel, Or.inr (Or.inr (Or.inl ⟨rfl, rfl, Or.inl ⟨rfl, q722, q457, q458, q133⟩⟩))⟩,
    List.forall_mem_cons.mpr ⟨⟨⟨by decide, by decide⟩, ⟨by decide +kernel, by decide +kernel⟩, 0, by decide +kernel, Or.inr (Or.inr (Or.inl ⟨rfl, rfl, Or.inl ⟨rfl, q664, q666, qs8, q145⟩⟩))⟩,
    List.forall_mem_cons.mpr ⟨⟨⟨by decide, by decide⟩, ⟨by decide +kernel, by decide +kernel⟩, 0, by decide +kernel, Or.inr (Or.inr (Or.inl ⟨rfl, rfl, Or.inl ⟨rfl, q752, q754, qs15, q145⟩⟩))⟩,
    List.forall_mem_cons.mpr ⟨⟨⟨by decide, by decide⟩, ⟨by decide +kernel, by decide +kernel⟩, 0, by decide +kernel, Or.inr (Or.inr (Or.inl ⟨rfl, rfl, Or.inl ⟨rfl, q765, q767, qs17, q145⟩⟩))⟩,
    List.forall_mem_cons.mpr ⟨⟨⟨by decide, by decide⟩, ⟨by decide +kernel, by decide +kernel⟩, 0, by decide +kernel, Or.inr (Or.inr (Or.inl ⟨rfl, rfl, Or.inl ⟨rfl, q769, q771, qs18, q145⟩⟩))⟩,
    List.forall_mem_cons.mpr ⟨⟨⟨by decide, by decide⟩, ⟨by decide +kernel, by decide +kernel⟩, 0, by decide +kernel, Or.inr (Or.inr (Or.inl ⟨rfl, rfl, Or.inl ⟨rfl, q931, q933, qs24, q145⟩⟩))⟩,
    List.forall_mem_cons.mpr ⟨⟨⟨by decide, by decide⟩, ⟨by decide +kernel, by decide +kernel⟩, 0, by decide +kernel, Or.inr (Or.inr (Or.inl ⟨rfl, rfl, Or.inl ⟨rfl, q944, q946, qs25, q145⟩⟩))⟩,
    List.forall_mem_cons.mpr ⟨⟨⟨by decide, by decide⟩, ⟨by decide +kernel, by decide +kernel⟩, 0, by decide +kernel, Or.inr (Or.inr (Or.inl ⟨rfl, rfl, Or.inl ⟨rfl, q660, q662, qs7, q145⟩⟩))⟩,
    fun _ h => absurd h List.not_mem_nil⟩⟩⟩⟩⟩⟩⟩⟩⟩⟩⟩⟩⟩⟩⟩⟩⟩⟩⟩⟩⟩⟩⟩⟩⟩⟩⟩⟩⟩⟩⟩⟩⟩⟩⟩⟩⟩⟩⟩⟩⟩⟩⟩⟩⟩⟩⟩
theorem ai_ct_ok9 : ∀ e ∈ ai_ctl 9, ai_CK 9 e.1 e.2.1 e.2.2.1 e.2.2.2 := by
  unfold ai_ctl
  exact List.forall_mem_cons.mpr ⟨⟨⟨by decide, by decide⟩, ⟨by decide +kernel, by decide +kernel⟩, 1, by decide +kernel, Or.inr (Or.inl ⟨rfl, rfl, rfl, by decide +kernel, rfl, rfl, q836, q149, Or.inl q835⟩)⟩,
    fun _ h => absurd h List.not_mem_nil⟩
theorem ai_ct_ok10 : ∀ e ∈ ai_ctl 10, ai_CK 10 e.1 e.2.1 e.2.2.1 e.2.2.2 := by
  unfold ai_ctl
  exact List.forall_mem_cons.mpr ⟨⟨⟨by decide, by decide⟩, ⟨by decide +kernel, by decide +kernel⟩, 1, by decide +kernel, Or.inr (Or.inl ⟨rfl, rfl, rfl, by decide +kernel, rfl, rfl, q836, q149, Or.inl q940⟩)⟩,
    fun _ h => absurd h List.not_mem_nil⟩
theorem ai_ct_ok11 : ∀ e ∈ ai_ctl 11, ai_CK 11 e.1 e.2.1 e.2.2.1 e.2.2.2 := by
  unfold ai_ctl
  exact List.forall_mem_cons.mpr ⟨⟨⟨by decide, by decide⟩, ⟨by decide +kernel, by decide +kernel⟩, 0, by decide +kernel, Or.inr (Or.inl ⟨rfl, rfl, rfl, by decide +kernel, rfl, rfl, q971, q157, Or.inr ⟨"BoardCrossing", nw970⟩⟩)⟩,
    List.forall_mem_cons.mpr ⟨⟨⟨by decide, by decide⟩, ⟨by decide +kernel, by decide +kernel⟩, 1, by decide +kernel, Or.inr (Or.inr (Or.inl ⟨rfl, rfl, Or.inr ⟨by decide +kernel, rfl, Or.inr ⟨"BoardCrossing$Part", ⟨"BoardCrossing$Part", "of", "([I)I"⟩, q1112, q1105, q1109, q1110, q158, Or.inr nw1104, ⟨by decide +kernel, by decide +kernel⟩, by decide +kernel⟩⟩⟩))⟩,
    List.forall_mem_cons.mpr ⟨⟨⟨by decide, by decide⟩, ⟨by decide +kernel, by decide +kernel⟩, 1, by decide +kernel, Or.inr (Or.inr (Or.inl ⟨rfl, rfl, Or.inr ⟨by decide +kernel, rfl, Or.inr ⟨"BoardCrossing$Part", ⟨"BoardCrossing$Part", "of", "([I)I"⟩, q1112, q1105, q1121, q1113, q159, Or.inr nw1104, ⟨by decide +kernel, by decide +kernel⟩, by decide +kernel⟩⟩⟩))⟩,
    List.forall_mem_cons.mpr ⟨⟨⟨by decide, by decide⟩, ⟨by decide +kernel, by decide +kernel⟩, 1, by decide +kernel, Or.inr (Or.inr (Or.inl ⟨rfl, rfl, Or.inr ⟨by decide +kernel, rfl, Or.inr ⟨"BoardCrossing$Part", ⟨"BoardCrossing$Part", "of", "([I)I"⟩, q1112, q1105, q1106, q1107, q160, Or.inr nw1104, ⟨by decide +kernel, by decide +kernel⟩, by decide +kernel⟩⟩⟩))⟩,
    List.forall_mem_cons.mpr ⟨⟨⟨by decide, by decide⟩, ⟨by decide +kernel, by decide +kernel⟩, 1, by decide +kernel, Or.inr (Or.inr (Or.inl ⟨rfl, rfl, Or.inr ⟨by decide +kernel, rfl, Or.inr ⟨"BoardCrossing$Part", ⟨"BoardCrossing$Part", "of", "([I)I"⟩, q1112, q1105, q1122, q1115, q161, Or.inr nw1104, ⟨by decide +kernel, by decide +kernel⟩, by decide +kernel⟩⟩⟩))⟩,
    fun _ h => absurd h List.not_mem_nil⟩⟩⟩⟩⟩
theorem ai_ct_ok12 : ∀ e ∈ ai_ctl 12, ai_CK 12 e.1 e.2.1 e.2.2.1 e.2.2.2 := by
  unfold ai_ctl
  exact List.forall_mem_cons.mpr ⟨⟨⟨by decide, by decide⟩, ⟨by decide +kernel, by decide +kernel⟩, 0, by decide +kernel, Or.inr (Or.inl ⟨rfl, rfl, rfl, by decide +kernel, rfl, rfl, q971, q157, Or.inr ⟨"BoardCrossing", nw1001⟩⟩)⟩,
    fun _ h => absurd h List.not_mem_nil⟩
theorem ai_ct_ok13 : ∀ e ∈ ai_ctl 13, ai_CK 13 e.1 e.2.1 e.2.2.1 e.2.2.2 := by
  unfold ai_ctl
  exact List.forall_mem_cons.mpr ⟨⟨⟨by decide, by decide⟩, ⟨by decide +kernel, by decide +kernel⟩, 0, by decide +kernel, Or.inr (Or.inl ⟨rfl, rfl, rfl, by decide +kernel, rfl, rfl, q971, q157, Or.inr ⟨"BoardCrossing", nw1011⟩⟩)⟩,
    fun _ h => absurd h List.not_mem_nil⟩
theorem ai_ct_ok14 : ∀ e ∈ ai_ctl 14, ai_CK 14 e.1 e.2.1 e.2.2.1 e.2.2.2 := by
  unfold ai_ctl
  exact List.forall_mem_cons.mpr ⟨⟨⟨by decide, by decide⟩, ⟨by decide +kernel, by decide +kernel⟩, 0, by decide +kernel, Or.inr (Or.inl ⟨rfl, rfl, rfl, by decide +kernel, rfl, rfl, q971, q157, Or.inr ⟨"BoardCrossing", nw1021⟩⟩)⟩,
    List.forall_mem_cons.mpr ⟨⟨⟨by decide, by decide⟩, ⟨by decide +kernel, by decide +kernel⟩, 1, by decide +kernel, Or.inr (Or.inr (Or.inl ⟨rfl, rfl, Or.inr ⟨by decide +kernel, rfl, Or.inr ⟨"BoardCrossing$Part", ⟨"BoardCrossing$Part", "of", "([I)I"⟩, q1117, q1105, q1109, q1110, q158, Or.inr nw1104, ⟨by decide +kernel, by decide +kernel⟩, by decide +kernel⟩⟩⟩))⟩,
    List.forall_mem_cons.mpr ⟨⟨⟨by decide, by decide⟩, ⟨by decide +kernel, by decide +kernel⟩, 1, by decide +kernel, Or.inr (Or.inr (Or.inl ⟨rfl, rfl, Or.inr ⟨by decide +kernel, rfl, Or.inr ⟨"BoardCrossing$Part", ⟨"BoardCrossing$Part", "of", "([I)I"⟩, q1117, q1105, q1121, q1113, q159, Or.inr nw1104, ⟨by decide +kernel, by decide +kernel⟩, by decide +kernel⟩⟩⟩))⟩,
    List.forall_mem_cons.mpr ⟨⟨⟨by decide, by decide⟩, ⟨by decide +kernel, by decide +kernel⟩, 1, by decide +kernel, Or.inr (Or.inr (Or.inl ⟨rfl, rfl, Or.inr ⟨by decide +kernel, rfl, Or.inr ⟨"BoardCrossing$Part", ⟨"BoardCrossing$Part", "of", "([I)I"⟩, q1117, q1105, q1106, q1107, q160, Or.inr nw1104, ⟨by decide +kernel, by decide +kernel⟩, by decide +kernel⟩⟩⟩))⟩,
    List.forall_mem_cons.mpr ⟨⟨⟨by decide, by decide⟩, ⟨by decide +kernel, by decide +kernel⟩, 1, by decide +kernel, Or.inr (Or.inr (Or.inl ⟨rfl, rfl, Or.inr ⟨by decide +kernel, rfl, Or.inr ⟨"BoardCrossing$Part", ⟨"BoardCrossing$Part", "of", "([I)I"⟩, q1117, q1105, q1122, q1115, q161, Or.inr nw1104, ⟨by decide +kernel, by decide +kernel⟩, by decide +kernel⟩⟩⟩))⟩,
    List.forall_mem_cons.mpr ⟨⟨⟨by decide, by decide⟩, ⟨by decide +kernel, by decide +kernel⟩, 1, by decide +kernel, Or.inl ⟨rfl, rfl, by decide +kernel, rfl, q1119, q161, Or.inl q1118⟩⟩,
    fun _ h => absurd h List.not_mem_nil⟩⟩⟩⟩⟩⟩
theorem ai_ct_ok16 : ∀ e ∈ ai_ctl 16, ai_CK 16 e.1 e.2.1 e.2.2.1 e.2.2.2 := by
  unfold ai_ctl
  exact List.forall_mem_cons.mpr ⟨⟨⟨by decide, by decide⟩, ⟨by decide +kernel, by decide +kernel⟩, 0, by decide +kernel, Or.inr (Or.inl ⟨rfl, rfl, rfl, by decide +kernel, rfl, rfl, q184, q132, Or.inl q183⟩)⟩,
    List.forall_mem_cons.mpr ⟨⟨⟨by decide, by decide⟩, ⟨by decide +kernel, by decide +kernel⟩, 2, by decide +kernel, Or.inl ⟨rfl, rfl, by decide +kernel, rfl, q893, q154, Or.inl q892⟩⟩,
    List.forall_mem_cons.mpr ⟨⟨⟨by decide, by decide⟩, ⟨by decide +kernel, by decide +kernel⟩, 1, by decide +kernel, Or.inr (Or.inr (Or.inl ⟨rfl, rfl, Or.inl ⟨rfl, q878, q880, qs23, q133⟩⟩))⟩,
    List.forall_mem_cons.mpr ⟨⟨⟨by decide, by decide⟩, ⟨by decide +kernel, by decide +kernel⟩, 3, by decide +kernel, Or.inl ⟨rfl, rfl, by decide +kernel, rfl, q883, q152, Or.inl q882⟩⟩,
    List.forall_mem_cons.mpr ⟨⟨⟨by decide, by decide⟩, ⟨by decide +kernel, by decide +kernel⟩, 2, by decide +kernel, Or.inl ⟨rfl, rfl, by decide +kernel, rfl, q465, q142, Or.inl q464⟩⟩,
    List.forall_mem_cons.mpr ⟨⟨⟨by decide, by decide⟩, ⟨by decide +kernel, by decide +kernel⟩, 1, by decide +kernel, Or.inr (Or.inr (Or.inl ⟨rfl, rfl, Or.inl ⟨rfl, q470, q471, q472, q133⟩⟩))⟩,
    List.forall_mem_cons.mpr ⟨⟨⟨by decide, by decide⟩, ⟨by decide +kernel, by decide +kernel⟩, 0, by decide +kernel, Or.inr (Or.inr (Or.inl ⟨rfl, rfl, Or.inl ⟨rfl, q874, q876, qs22, q133⟩⟩))⟩,
    List.forall_mem_cons.mpr ⟨⟨⟨by decide, by decide⟩, ⟨by decide +kernel, by decide +kernel⟩, 3, by decide +kernel, Or.inr (Or.inr (Or.inl ⟨rfl, rfl, Or.inl ⟨rfl, q870, q872, qs21, q133⟩⟩))⟩,
    List.forall_mem_cons.mpr ⟨⟨⟨by decide, by decide⟩, ⟨by decide +kernel, by decide +kernel⟩, 2, by decide +kernel, Or.inr (Or.inr (Or.inl ⟨rfl, rfl, Or.inl ⟨rfl, q1140, q1142, qs39, q133⟩⟩))⟩,
    List.forall_mem_cons.mpr ⟨⟨⟨by decide, by decide⟩, ⟨by decide +kernel, by decide +kernel⟩, 1, by decide +kernel, Or.inr (Or.inl ⟨rfl, rfl, rfl, by decide +kernel, rfl, rfl, q792, q151, Or.inl q791⟩)⟩,
    fun _ h => absurd h List.not_mem_nil⟩⟩⟩⟩⟩⟩⟩⟩⟩⟩
theorem ai_ct_ok17 : ∀ e ∈ ai_ctl 17, ai_CK 17 e.1 e.2.1 e.2.2.1 e.2.2.2 := by
  unfold ai_ctl
  exact List.forall_mem_cons.mpr ⟨⟨⟨by decide, by decide⟩, ⟨by decide +kernel, by decide +kernel⟩, 0, by decide +kernel, Or.inr (Or.inr (Or.inl ⟨rfl, rfl, Or.inl ⟨rfl, q827, q828, q829, q151⟩⟩))⟩,
    fun _ h => absurd h List.not_mem_nil⟩
theorem ai_ct_ok18 : ∀ e ∈ ai_ctl 18, ai_CK 18 e.1 e.2.1 e.2.2.1 e.2.2.2 := by
  unfold ai_ctl
  exact List.forall_mem_cons.mpr ⟨⟨⟨by decide, by decide⟩, ⟨by decide +kernel, by decide +kernel⟩, 0, by decide +kernel, Or.inr (Or.inr (Or.inl ⟨rfl, rfl, Or.inl ⟨rfl, q677, q678, q679, q146⟩⟩))⟩,
    List.forall_mem_cons.mpr ⟨⟨⟨by decide, by decide⟩, ⟨by decide +kernel, by decide +kernel⟩, 0, by decide +kernel, Or.inr (Or.inr (Or.inl ⟨rfl, rfl, Or.inl ⟨rfl, q687, q688, q689, q146⟩⟩))⟩,
    List.forall_mem_cons.mpr ⟨⟨⟨by decide, by decide⟩, ⟨by decide +kernel, by decide +kernel⟩, 2, by decide +kernel, Or.inl ⟨rfl, rfl, by decide +kernel, rfl, q692, q147, Or.inl q691⟩⟩,
    List.forall_mem_cons.mpr ⟨⟨⟨by decide, by decide⟩, ⟨by decide +kernel, by decide +kernel⟩, 3, by decide +kernel, Or.inl ⟨rfl, rfl, by decide +kernel, rfl, q468, q143, Or.inl q699⟩⟩,
    fun _ h => absurd h List.not_mem_nil⟩⟩⟩⟩
theorem ai_ct_ok19 : ∀ e ∈ ai_ctl 19, ai_CK 19 e.1 e.2.1 e.2.2.1 e.2.2.2 := by
  unfold ai_ctl
  exact List.forall_mem_cons.mpr ⟨⟨⟨by decide, by decide⟩, ⟨by decide +kernel, by decide +kernel⟩, 2, by decide +kernel, Or.inl ⟨rfl, rfl, by decide +kernel, rfl, q1216, q129, Or.inr ⟨"BoardCrossing", nw1249⟩⟩⟩,
    List.forall_mem_cons.mpr ⟨⟨⟨by decide, by decide⟩, ⟨by decide +kernel, by decide +kernel⟩, 3, by decide +kernel, Or.inr (Or.inr (Or.inl ⟨rfl, rfl, Or.inr ⟨by decide +kernel, rfl, Or.inl ⟨"BoardCrossing", nw1250, q1220, qs44, q129⟩⟩⟩))⟩,
    List.forall_mem_cons.mpr ⟨⟨⟨by decide, by decide⟩, ⟨by decide +kernel, by decide +kernel⟩, 3, by decide +kernel, Or.inr (Or.inr (Or.inl ⟨rfl, rfl, Or.inr ⟨by decide +kernel, rfl, Or.inr ⟨"BoardCrossing$Wish", ⟨"BoardCrossing$Wish", "costOf", "(LBoardCrossing$State;II)I"⟩, q1251, q1253, q1254, q1255, q139, Or.inr nw1252, ⟨by decide +kernel, by decide +kernel⟩, by decide +kernel⟩⟩⟩))⟩,
    List.forall_mem_cons.mpr ⟨⟨⟨by decide, by decide⟩, ⟨by decide +kernel, by decide +kernel⟩, 3, by decide +kernel, Or.inr (Or.inr (Or.inl ⟨rfl, rfl, Or.inr ⟨by decide +kernel, rfl, Or.inr ⟨"BoardCrossing$Wish", ⟨"BoardCrossing$Wish", "costOf", "(LBoardCrossing$State;II)I"⟩, q1251, q1253, q1257, q1258, q140, Or.inr nw1252, ⟨by decide +kernel, by decide +kernel⟩, by decide +kernel⟩⟩⟩))⟩,
    List.forall_mem_cons.mpr ⟨⟨⟨by decide, by decide⟩, ⟨by decide +kernel, by decide +kernel⟩, 3, by decide +kernel, Or.inl ⟨rfl, rfl, by decide +kernel, rfl, q1223, q129, Or.inr ⟨"BoardCrossing", nw1260⟩⟩⟩,
    fun _ h => absurd h List.not_mem_nil⟩⟩⟩⟩⟩
theorem ai_ct_ok23 : ∀ e ∈ ai_ctl 23, ai_CK 23 e.1 e.2.1 e.2.2.1 e.2.2.2 := by
  unfold ai_ctl
  exact List.forall_mem_cons.mpr ⟨⟨⟨by decide, by decide⟩, ⟨by decide +kernel, by decide +kernel⟩, 0, by decide +kernel, Or.inr (Or.inl ⟨rfl, rfl, rfl, by decide +kernel, rfl, rfl, q187, q131, Or.inl q186⟩)⟩,
    fun _ h => absurd h List.not_mem_nil⟩
theorem ai_ct_ok24 : ∀ e ∈ ai_ctl 24, ai_CK 24 e.1 e.2.1 e.2.2.1 e.2.2.2 := by
  unfold ai_ctl
  exact List.forall_mem_cons.mpr ⟨⟨⟨by decide, by decide⟩, ⟨by decide +kernel, by decide +kernel⟩, 3, by decide +kernel, Or.inl ⟨rfl, rfl, by decide +kernel, rfl, q468, q143, Or.inl q467⟩⟩,
    fun _ h => absurd h List.not_mem_nil⟩
theorem ai_ct_ok26 : ∀ e ∈ ai_ctl 26, ai_CK 26 e.1 e.2.1 e.2.2.1 e.2.2.2 := by
  unfold ai_ctl
  exact List.forall_mem_cons.mpr ⟨⟨⟨by decide, by decide⟩, ⟨by decide +kernel, by decide +kernel⟩, 2, by decide +kernel, Or.inl ⟨rfl, rfl, by decide +kernel, rfl, q695, q146, Or.inl q694⟩⟩,
    fun _ h => absurd h List.not_mem_nil⟩
theorem ai_ct_ok27 : ∀ e ∈ ai_ctl 27, ai_CK 27 e.1 e.2.1 e.2.2.1 e.2.2.2 := by
  unfold ai_ctl
  exact List.forall_mem_cons.mpr ⟨⟨⟨by decide, by decide⟩, ⟨by decide +kernel, by decide +kernel⟩, 2, by decide +kernel, Or.inl ⟨rfl, rfl, by decide +kernel, rfl, q890, q152, Or.inl q889⟩⟩,
    fun _ h => absurd h List.not_mem_nil⟩
theorem ai_ct_ok29 : ∀ e ∈ ai_ctl 29, ai_CK 29 e.1 e.2.1 e.2.2.1 e.2.2.2 := by
  unfold ai_ctl
  exact List.forall_mem_cons.mpr ⟨⟨⟨by decide, by decide⟩, ⟨by decide +kernel, by decide +kernel⟩, 3, by decide +kernel, Or.inl ⟨rfl, rfl, by decide +kernel, rfl, q918, q154, Or.inl q917⟩⟩,
    fun _ h => absurd h List.not_mem_nil⟩
theorem ai_ct_ok31 : ∀ e ∈ ai_ctl 31, ai_CK 31 e.1 e.2.1 e.2.2.1 e.2.2.2 := by
  unfold ai_ctl
  exact List.forall_mem_cons.mpr ⟨⟨⟨by decide, by decide⟩, ⟨by decide +kernel, by decide +kernel⟩, 0, by decide +kernel, Or.inr (Or.inl ⟨rfl, rfl, rfl, by decide +kernel, rfl, rfl, q167, q129, Or.inl q166⟩)⟩,
    List.forall_mem_cons.mpr ⟨⟨⟨by decide, by decide⟩, ⟨by decide +kernel, by decide +kernel⟩, 0, by decide +kernel, Or.inr (Or.inl ⟨rfl, rfl, rfl, by decide +kernel, rfl, rfl, q1475, q144, Or.inl q1474⟩)⟩,
    List.forall_mem_cons.mpr ⟨⟨⟨by decide, by decide⟩, ⟨by decide +kernel, by decide +kernel⟩, 5, by decide +kernel, Or.inr (Or.inr (Or.inl ⟨rfl, rfl, Or.inl ⟨rfl, q573, q574, q575, q129⟩⟩))⟩,
    List.forall_mem_cons.mpr ⟨⟨⟨by decide, by decide⟩, ⟨by decide +kernel, by decide +kernel⟩, 5, by decide +kernel, Or.inr (Or.inr (Or.inl ⟨rfl, rfl, Or.inl ⟨rfl, q1726, q1727, q1728, q144⟩⟩))⟩,
    List.forall_mem_cons.mpr ⟨⟨⟨by decide, by decide⟩, ⟨by decide +kernel, by decide +kernel⟩, 1, by decide +kernel, Or.inr (Or.inr (Or.inl ⟨rfl, rfl, Or.inl ⟨rfl, q581, q582, q583, q129⟩⟩))⟩,
    List.forall_mem_cons.mpr ⟨⟨⟨by decide, by decide⟩, ⟨by decide +kernel, by decide +kernel⟩, 1, by decide +kernel, Or.inr (Or.inr (Or.inl ⟨rfl, rfl, Or.inl ⟨rfl, q1734, q1735, q1736, q144⟩⟩))⟩,
    List.forall_mem_cons.mpr ⟨⟨⟨by decide, by decide⟩, ⟨by decide +kernel, by decide +kernel⟩, 0, by decide +kernel, Or.inr (Or.inr (Or.inl ⟨rfl, rfl, Or.inl ⟨rfl, q585, q586, q587, q129⟩⟩))⟩,
    List.forall_mem_cons.mpr ⟨⟨⟨by decide, by decide⟩, ⟨by decide +kernel, by decide +kernel⟩, 0, by decide +kernel, Or.inr (Or.inr (Or.inl ⟨rfl, rfl, Or.inl ⟨rfl, q1738, q1739, q1740, q144⟩⟩))⟩,
    List.forall_mem_cons.mpr ⟨⟨⟨by decide, by decide⟩, ⟨by decide +kernel, by decide +kernel⟩, 1, by decide +kernel, Or.inr (Or.inr (Or.inl ⟨rfl, rfl, Or.inl ⟨rfl, q1039, q1040, q1041, q129⟩⟩))⟩,
    List.forall_mem_cons.mpr ⟨⟨⟨by decide, by decide⟩, ⟨by decide +kernel, by decide +kernel⟩, 1, by decide +kernel, Or.inr (Or.inr (Or.inl ⟨rfl, rfl, Or.inl ⟨rfl, q1893, q1894, q1895, q144⟩⟩))⟩,
    List.forall_mem_cons.mpr ⟨⟨⟨by decide, by decide⟩, ⟨by decide +kernel, by decide +kernel⟩, 2, by decide +kernel, Or.inr (Or.inr (Or.inl ⟨rfl, rfl, Or.inl ⟨rfl, q1043, q1044, q1045, q129⟩⟩))⟩,
    List.forall_mem_cons.mpr ⟨⟨⟨by decide, by decide⟩, ⟨by decide +kernel, by decide +kernel⟩, 2, by decide +kernel, Or.inr (Or.inr (Or.inl ⟨rfl, rfl, Or.inl ⟨rfl, q1897, q1898, q1899, q144⟩⟩))⟩,
    List.forall_mem_cons.mpr ⟨⟨⟨by decide, by decide⟩, ⟨by decide +kernel, by decide +kernel⟩, 2, by decide +kernel, Or.inr (Or.inr (Or.inl ⟨rfl, rfl, Or.inl ⟨rfl, q1075, q1076, q1077, q129⟩⟩))⟩,
    List.forall_mem_cons.mpr ⟨⟨⟨by decide, by decide⟩, ⟨by decide +kernel, by decide +kernel⟩, 2, by decide +kernel, Or.inr (Or.inr (Or.inl ⟨rfl, rfl, Or.inl ⟨rfl, q1923, q1924, q1925, q144⟩⟩))⟩,
    List.forall_mem_cons.mpr ⟨⟨⟨by decide, by decide⟩, ⟨by decide +kernel, by decide +kernel⟩, 3, by decide +kernel, Or.inr (Or.inr (Or.inl ⟨rfl, rfl, Or.inl ⟨rfl, q1088, q1089, q1090, q129⟩⟩))⟩,
    List.forall_mem_cons.mpr ⟨⟨⟨by decide, by decide⟩, ⟨by decide +kernel, by decide +kernel⟩, 3, by decide +kernel, Or.inr (Or.inr (Or.inl ⟨rfl, rfl, Or.inl ⟨rfl, q1931, q1932, q1933, q144⟩⟩))⟩,
    List.forall_mem_cons.mpr ⟨⟨⟨by decide, by decide⟩, ⟨by decide +kernel, by decide +kernel⟩, 1, by decide +kernel, Or.inr (Or.inr (Or.inl ⟨rfl, rfl, Or.inl ⟨rfl, q1093, q1094, q1095, q129⟩⟩))⟩,
    List.forall_mem_cons.mpr ⟨⟨⟨by decide, by decide⟩, ⟨by decide +kernel, by decide +kernel⟩, 1, by decide +kernel, Or.inr (Or.inr (Or.inl ⟨rfl, rfl, Or.inl ⟨rfl, q1943, q1944, q1945, q144⟩⟩))⟩,
    List.forall_mem_cons.mpr ⟨⟨⟨by decide, by decide⟩, ⟨by decide +kernel, by decide +kernel⟩, 3, by decide +kernel, Or.inr (Or.inr (Or.inl ⟨rfl, rfl, Or.inl ⟨rfl, q1128, q1129, q1130, q129⟩⟩))⟩,
    List.forall_mem_cons.mpr ⟨⟨⟨by decide, by decide⟩, ⟨by decide +kernel, by decide +kernel⟩, 3, by decide +kernel, Or.inr (Or.inr (Or.inl ⟨rfl, rfl, Or.inl ⟨rfl, q1957, q1958, q1959, q144⟩⟩))⟩,
    List.forall_mem_cons.mpr ⟨⟨⟨by decide, by decide⟩, ⟨by decide +kernel, by decide +kernel⟩, 2, by decide +kernel, Or.inr (Or.inr (Or.inl ⟨rfl, rfl, Or.inl ⟨rfl, q1162, q1163, q1164, q129⟩⟩))⟩,
    List.forall_mem_cons.mpr ⟨⟨⟨by decide, by decide⟩, ⟨by decide +kernel, by decide +kernel⟩, 2, by decide +kernel, Or.inr (Or.inr (Or.inl ⟨rfl, rfl, Or.inl ⟨rfl, q1977, q1978, q1979, q144⟩⟩))⟩,
    List.forall_mem_cons.mpr ⟨⟨⟨by decide, by decide⟩, ⟨by decide +kernel, by decide +kernel⟩, 1, by decide +kernel, Or.inr (Or.inr (Or.inl ⟨rfl, rfl, Or.inl ⟨rfl, q1174, q1175, q1176, q129⟩⟩))⟩,
    List.forall_mem_cons.mpr ⟨⟨⟨by decide, by decide⟩, ⟨by decide +kernel, by decide +kernel⟩, 1, by decide +kernel, Or.inr (Or.inr (Or.inl ⟨rfl, rfl, Or.inl ⟨rfl, q1989, q1990, q1991, q144⟩⟩))⟩,
    List.forall_mem_cons.mpr ⟨⟨⟨by decide, by decide⟩, ⟨by decide +kernel, by decide +kernel⟩, 2, by decide +kernel, Or.inr (Or.inr (Or.inl ⟨rfl, rfl, Or.inl ⟨rfl, q1178, q1179, q1180, q129⟩⟩))⟩,
    List.forall_mem_cons.mpr ⟨⟨⟨by decide, by decide⟩, ⟨by decide +kernel, by decide +kernel⟩, 2, by decide +kernel, Or.inr (Or.inr (Or.inl ⟨rfl, rfl, Or.inl ⟨rfl, q1993, q1994, q1995, q144⟩⟩))⟩,
    List.forall_mem_cons.mpr ⟨⟨⟨by decide, by decide⟩, ⟨by decide +kernel, by decide +kernel⟩, 0, by decide +kernel, Or.inr (Or.inr (Or.inl ⟨rfl, rfl, Or.inl ⟨rfl, q1183, q1184, q1185, q129⟩⟩))⟩,
    List.forall_mem_cons.mpr ⟨⟨⟨by decide, by decide⟩, ⟨by decide +kernel, by decide +kernel⟩, 0, by decide +kernel, Or.inr (Or.inr (Or.inl ⟨rfl, rfl, Or.inl ⟨rfl, q1997, q1998, q1999, q144⟩⟩))⟩,
    List.forall_mem_cons.mpr ⟨⟨⟨by decide, by decide⟩, ⟨by decide +kernel, by decide +kernel⟩, 0, by decide +kernel, Or.inr (Or.inr (Or.inl ⟨rfl, rfl, Or.inl ⟨rfl, q1195, q1196, q1197, q129⟩⟩))⟩,
    List.forall_mem_cons.mpr ⟨⟨⟨by decide, by decide⟩, ⟨by decide +kernel, by decide +kernel⟩, 0, by decide +kernel, Or.inr (Or.inr (Or.inl ⟨rfl, rfl, Or.inl ⟨rfl, q2005, q2006, q2007, q144⟩⟩))⟩,
    List.forall_mem_cons.mpr ⟨⟨⟨by decide, by decide⟩, ⟨by decide +kernel, by decide +kernel⟩, 1, by decide +kernel, Or.inr (Or.inr (Or.inl ⟨rfl, rfl, Or.inl ⟨rfl, q1203, q1204, q1205, q129⟩⟩))⟩,
    List.forall_mem_cons.mpr ⟨⟨⟨by decide, by decide⟩, ⟨by decide +kernel, by decide +kernel⟩, 1, by decide +kernel, Or.inr (Or.inr (Or.inl ⟨rfl, rfl, Or.inl ⟨rfl, q2009, q2010, q2011, q144⟩⟩))⟩,
    List.forall_mem_cons.mpr ⟨⟨⟨by decide, by decide⟩, ⟨by decide +kernel, by decide +kernel⟩, 1, by decide +kernel, Or.inr (Or.inr (Or.inl ⟨rfl, rfl, Or.inl ⟨rfl, q1232, q1233, q1234, q129⟩⟩))⟩,
    List.forall_mem_cons.mpr ⟨⟨⟨by decide, by decide⟩, ⟨by decide +kernel, by decide +kernel⟩, 1, by decide +kernel, Or.inr (Or.inr (Or.inl ⟨rfl, rfl, Or.inl ⟨rfl, q2032, q2033, q2034, q144⟩⟩))⟩,
    List.forall_mem_cons.mpr ⟨⟨⟨by decide, by decide⟩, ⟨by decide +kernel, by decide +kernel⟩, 1, by decide +kernel, Or.inr (Or.inr (Or.inl ⟨rfl, rfl, Or.inl ⟨rfl, q1228, q1229, q1230, q129⟩⟩))⟩,
    List.forall_mem_cons.mpr ⟨⟨⟨by decide, by decide⟩, ⟨by decide +kernel, by decide +kernel⟩, 1, by decide +kernel, Or.inr (Or.inr (Or.inl ⟨rfl, rfl, Or.inl ⟨rfl, q2028, q2029, q2030, q144⟩⟩))⟩,
    List.forall_mem_cons.mpr ⟨⟨⟨by decide, by decide⟩, ⟨by decide +kernel, by decide +kernel⟩, 2, by decide +kernel, Or.inr (Or.inr (Or.inl ⟨rfl, rfl, Or.inl ⟨rfl, q1239, q1240, q1241, q129⟩⟩))⟩,
    List.forall_mem_cons.mpr ⟨⟨⟨by decide, by decide⟩, ⟨by decide +kernel, by decide +kernel⟩, 2, by decide +kernel, Or.inr (Or.inr (Or.inl ⟨rfl, rfl, Or.inl ⟨rfl, q2040, q2041, q2042, q144⟩⟩))⟩,
    List.forall_mem_cons.mpr ⟨⟨⟨by decide, by decide⟩, ⟨by decide +kernel, by decide +kernel⟩, 2, by decide +kernel, Or.inr (Or.inr (Or.inl ⟨rfl, rfl, Or.inl ⟨rfl, q1261, q1262, q1263, q129⟩⟩))⟩,
    List.forall_mem_cons.mpr ⟨⟨⟨by decide, by decide⟩, ⟨by decide +kernel, by decide +kernel⟩, 2, by decide +kernel, Or.inr (Or.inr (Or.inl ⟨rfl, rfl, Or.inl ⟨rfl, q2049, q2050, q2051, q144⟩⟩))⟩,
    List.forall_mem_cons.mpr ⟨⟨⟨by decide, by decide⟩, ⟨by decide +kernel, by decide +kernel⟩, 2, by decide +kernel, Or.inr (Or.inr (Or.inl ⟨rfl, rfl, Or.inl ⟨rfl, q1273, q1274, q1275, q129⟩⟩))⟩,
    List.forall_mem_cons.mpr ⟨⟨⟨by decide, by decide⟩, ⟨by decide +kernel, by decide +kernel⟩, 2, by decide +kernel, Or.inr (Or.inr (Or.inl ⟨rfl, rfl, Or.inl ⟨rfl, q2057, q2058, q2059, q144⟩⟩))⟩,
    List.forall_mem_cons.mpr ⟨⟨⟨by decide, by decide⟩, ⟨by decide +kernel, by decide +kernel⟩, 1, by decide +kernel, Or.inr (Or.inr (Or.inl ⟨rfl, rfl, Or.inl ⟨rfl, q1278, q1279, q1280, q129⟩⟩))⟩,
    List.forall_mem_cons.mpr ⟨⟨⟨by decide, by decide⟩, ⟨by decide +kernel, by decide +kernel⟩, 1, by decide +kernel, Or.inr (Or.inr (Or.inl ⟨rfl, rfl, Or.inl ⟨rfl, q2065, q2066, q2067, q144⟩⟩))⟩,
    List.forall_mem_cons.mpr ⟨⟨⟨by decide, by decide⟩, ⟨by decide +kernel, by decide +kernel⟩, 0, by decide +kernel, Or.inr (Or.inr (Or.inl ⟨rfl, rfl, Or.inl ⟨rfl, q1287, q1288, q1289, q129⟩⟩))⟩,
    List.forall_mem_cons.mpr ⟨⟨⟨by decide, by decide⟩, ⟨by decide +kernel, by decide +kernel⟩, 0, by decide +kernel, Or.inr (Or.inr (Or.inl ⟨rfl, rfl, Or.inl ⟨rfl, q2085, q2086, q2087, q144⟩⟩))⟩,
    List.forall_mem_cons.mpr ⟨⟨⟨by decide, by decide⟩, ⟨by decide +kernel, by decide +kernel⟩, 2, by decide +kernel, Or.inr (Or.inr (Or.inl ⟨rfl, rfl, Or.inl ⟨rfl, q1301, q1302, q1303, q129⟩⟩))⟩,
    List.forall_mem_cons.mpr ⟨⟨⟨by decide, by decide⟩, ⟨by decide +kernel, by decide +kernel⟩, 2, by decide +kernel, Or.inr (Or.inr (Or.inl ⟨rfl, rfl, Or.inl ⟨rfl, q2096, q2097, q2098, q144⟩⟩))⟩,
    List.forall_mem_cons.mpr ⟨⟨⟨by decide, by decide⟩, ⟨by decide +kernel, by decide +kernel⟩, 1, by decide +kernel, Or.inr (Or.inr (Or.inl ⟨rfl, rfl, Or.inl ⟨rfl, q1317, q1318, q1319, q129⟩⟩))⟩,
    List.forall_mem_cons.mpr ⟨⟨⟨by decide, by decide⟩, ⟨by decide +kernel, by decide +kernel⟩, 1, by decide +kernel, Or.inr (Or.inr (Or.inl ⟨rfl, rfl, Or.inl ⟨rfl, q2111, q2112, q2113, q144⟩⟩))⟩,
    List.forall_mem_cons.mpr ⟨⟨⟨by decide, by decide⟩, ⟨by decide +kernel, by decide +kernel⟩, 2, by decide +kernel, Or.inr (Or.inr (Or.inl ⟨rfl, rfl, Or.inl ⟨rfl, q1328, q1329, q1330, q129⟩⟩))⟩,
    List.forall_mem_cons.mpr ⟨⟨⟨by decide, by decide⟩, ⟨by decide +kernel, by decide +kernel⟩, 2, by decide +kernel, Or.inr (Or.inr (Or.inl ⟨rfl, rfl, Or.inl ⟨rfl, q2123, q2124, q2125, q144⟩⟩))⟩,
    List.forall_mem_cons.mpr ⟨⟨⟨by decide, by decide⟩, ⟨by decide +kernel, by decide +kernel⟩, 1, by decide +kernel, Or.inr (Or.inr (Or.inl ⟨rfl, rfl, Or.inl ⟨rfl, q1269, q1270, q1271, q129⟩⟩))⟩,
    List.forall_mem_cons.mpr ⟨⟨⟨by decide, by decide⟩, ⟨by decide +kernel, by decide +kernel⟩, 1, by decide +kernel, Or.inr (Or.inr (Or.inl ⟨rfl, rfl, Or.inl ⟨rfl, q2135, q2136, q2137, q144⟩⟩))⟩,
    List.forall_mem_cons.mpr ⟨⟨⟨by decide, by decide⟩, ⟨by decide +kernel, by decide +kernel⟩, 3, by decide +kernel, Or.inr (Or.inr (Or.inl ⟨rfl, rfl, Or.inl ⟨rfl, q1340, q1341, q1342, q129⟩⟩))⟩,
    List.forall_mem_cons.mpr ⟨⟨⟨by decide, by decide⟩, ⟨by decide +kernel, by decide +kernel⟩, 3, by decide +kernel, Or.inr (Or.inr (Or.inl ⟨rfl, rfl, Or.inl ⟨rfl, q2139, q2140, q2141, q144⟩⟩))⟩,
    List.forall_mem_cons.mpr ⟨⟨⟨by decide, by decide⟩, ⟨by decide +kernel, by decide +kernel⟩, 0, by decide +kernel, Or.inr (Or.inr (Or.inl ⟨rfl, rfl, Or.inl ⟨rfl, q1351, q1352, q1353, q129⟩⟩))⟩,
    List.forall_mem_cons.mpr ⟨⟨⟨by decide, by decide⟩, ⟨by decide +kernel, by decide +kernel⟩, 0, by decide +kernel, Or.inr (Or.inr (Or.inl ⟨rfl, rfl, Or.inl ⟨rfl, q2150, q2151, q2152, q144⟩⟩))⟩,
    List.forall_mem_cons.mpr ⟨⟨⟨by decide, by decide⟩, ⟨by decide +kernel, by decide +kernel⟩, 0, by decide +kernel, Or.inr (Or.inr (Or.inl ⟨rfl, rfl, Or.inl ⟨rfl, q1355, q1356, q1357, q129⟩⟩))⟩,
    List.forall_mem_cons.mpr ⟨⟨⟨by decide, by decide⟩, ⟨by decide +kernel, by decide +kernel⟩, 0, by decide +kernel, Or.inr (Or.inr (Or.inl ⟨rfl, rfl, Or.inl ⟨rfl, q2154, q2155, q2156, q144⟩⟩))⟩,
    List.forall_mem_cons.mpr ⟨⟨⟨by decide, by decide⟩, ⟨by decide +kernel, by decide +kernel⟩, 0, by decide +kernel, Or.inr (Or.inr (Or.inl ⟨rfl, rfl, Or.inl ⟨rfl, q1360, q1361, q1362, q129⟩⟩))⟩,
    List.forall_mem_cons.mpr ⟨⟨⟨by decide, by decide⟩, ⟨by decide +kernel, by decide +kernel⟩, 0, by decide +kernel, Or.inr (Or.inr (Or.inl ⟨rfl, rfl, Or.inl ⟨rfl, q2158, q2159, q2160, q144⟩⟩))⟩,
    List.forall_mem_cons.mpr ⟨⟨⟨by decide, by decide⟩, ⟨by decide +kernel, by decide +kernel⟩, 0, by decide +kernel, Or.inr (Or.inr (Or.inl ⟨rfl, rfl, Or.inl ⟨rfl, q1364, q1365, q1366, q129⟩⟩))⟩,
    List.forall_mem_cons.mpr ⟨⟨⟨by decide, by decide⟩, ⟨by decide +kernel, by decide +kernel⟩, 0, by decide +kernel, Or.inr (Or.inr (Or.inl ⟨rfl, rfl, Or.inl ⟨rfl, q2162, q2163, q2164, q144⟩⟩))⟩,
    List.forall_mem_cons.mpr ⟨⟨⟨by decide, by decide⟩, ⟨by decide +kernel, by decide +kernel⟩, 1, by decide +kernel, Or.inr (Or.inr (Or.inl ⟨rfl, rfl, Or.inl ⟨rfl, q1372, q1373, q1374, q129⟩⟩))⟩,
    List.forall_mem_cons.mpr ⟨⟨⟨by decide, by decide⟩, ⟨by decide +kernel, by decide +kernel⟩, 1, by decide +kernel, Or.inr (Or.inr (Or.inl ⟨rfl, rfl, Or.inl ⟨rfl, q2166, q2167, q2168, q144⟩⟩))⟩,
    List.forall_mem_cons.mpr ⟨⟨⟨by decide, by decide⟩, ⟨by decide +kernel, by decide +kernel⟩, 1, by decide +kernel, Or.inr (Or.inr (Or.inl ⟨rfl, rfl, Or.inl ⟨rfl, q1199, q1200, q1201, q129⟩⟩))⟩,
    List.forall_mem_cons.mpr ⟨⟨⟨by decide, by decide⟩, ⟨by decide +kernel, by decide +kernel⟩, 1, by decide +kernel, Or.inr (Or.inr (Or.inl ⟨rfl, rfl, Or.inl ⟨rfl, q2170, q2171, q2172, q144⟩⟩))⟩,
    List.forall_mem_cons.mpr ⟨⟨⟨by decide, by decide⟩, ⟨by decide +kernel, by decide +kernel⟩, 3, by decide +kernel, Or.inr (Or.inr (Or.inl ⟨rfl, rfl, Or.inl ⟨rfl, q1376, q1377, q1378, q129⟩⟩))⟩,
    List.forall_mem_cons.mpr ⟨⟨⟨by decide, by decide⟩, ⟨by decide +kernel, by decide +kernel⟩, 3, by decide +kernel, Or.inr (Or.inr (Or.inl ⟨rfl, rfl, Or.inl ⟨rfl, q2174, q2175, q2176, q144⟩⟩))⟩,
    List.forall_mem_cons.mpr ⟨⟨⟨by decide, by decide⟩, ⟨by decide +kernel, by decide +kernel⟩, 3, by decide +kernel, Or.inr (Or.inr (Or.inl ⟨rfl, rfl, Or.inl ⟨rfl, q1414, q1415, q1416, q129⟩⟩))⟩,
    List.forall_mem_cons.mpr ⟨⟨⟨by decide, by decide⟩, ⟨by decide +kernel, by decide +kernel⟩, 3, by decide +kernel, Or.inr (Or.inr (Or.inl ⟨rfl, rfl, Or.inl ⟨rfl, q2182, q2183, q2184, q144⟩⟩))⟩,
    List.forall_mem_cons.mpr ⟨⟨⟨by decide, by decide⟩, ⟨by decide +kernel, by decide +kernel⟩, 1, by decide +kernel, Or.inr (Or.inr (Or.inl ⟨rfl, rfl, Or.inl ⟨rfl, q1418, q1419, q1420, q129⟩⟩))⟩,
    List.forall_mem_cons.mpr ⟨⟨⟨by decide, by decide⟩, ⟨by decide +kernel, by decide +kernel⟩, 1, by decide +kernel, Or.inr (Or.inr (Or.inl ⟨rfl, rfl, Or.inl ⟨rfl, q2186, q2187, q2188, q144⟩⟩))⟩,
    List.forall_mem_cons.mpr ⟨⟨⟨by decide, by decide⟩, ⟨by decide +kernel, by decide +kernel⟩, 1, by decide +kernel, Or.inr (Or.inr (Or.inl ⟨rfl, rfl, Or.inl ⟨rfl, q1422, q1423, q1424, q129⟩⟩))⟩,
    List.forall_mem_cons.mpr ⟨⟨⟨by decide, by decide⟩, ⟨by decide +kernel, by decide +kernel⟩, 1, by decide +kernel, Or.inr (Or.inr (Or.inl ⟨rfl, rfl, Or.inl ⟨rfl, q2190, q2191, q2192, q144⟩⟩))⟩,
    List.forall_mem_cons.mpr ⟨⟨⟨by decide, by decide⟩, ⟨by decide +kernel, by decide +kernel⟩, 1, by decide +kernel, Or.inr (Or.inr (Or.inl ⟨rfl, rfl, Or.inl ⟨rfl, q1427, q1428, q1429, q129⟩⟩))⟩,
    List.forall_mem_cons.mpr ⟨⟨⟨by decide, by decide⟩, ⟨by decide +kernel, by decide +kernel⟩, 1, by decide +kernel, Or.inr (Or.inr (Or.inl ⟨rfl, rfl, Or.inl ⟨rfl, q2195, q2196, q2197, q144⟩⟩))⟩,
    List.forall_mem_cons.mpr ⟨⟨⟨by decide, by decide⟩, ⟨by decide +kernel, by decide +kernel⟩, 2, by decide +kernel, Or.inr (Or.inr (Or.inl ⟨rfl, rfl, Or.inl ⟨rfl, q1448, q1449, q1450, q129⟩⟩))⟩,
    List.forall_mem_cons.mpr ⟨⟨⟨by decide, by decide⟩, ⟨by decide +kernel, by decide +kernel⟩, 2, by decide +kernel, Or.inr (Or.inr (Or.inl ⟨rfl, rfl, Or.inl ⟨rfl, q2207, q2208, q2209, q144⟩⟩))⟩,
    List.forall_mem_cons.mpr ⟨⟨⟨by decide, by decide⟩, ⟨by decide +kernel, by decide +kernel⟩, 2, by decide +kernel, Or.inr (Or.inr (Or.inl ⟨rfl, rfl, Or.inl ⟨rfl, q1452, q1453, q1454, q129⟩⟩))⟩,
    List.forall_mem_cons.mpr ⟨⟨⟨by decide, by decide⟩, ⟨by decide +kernel, by decide +kernel⟩, 2, by decide +kernel, Or.inr (Or.inr (Or.inl ⟨rfl, rfl, Or.inl ⟨rfl, q2211, q2212, q2213, q144⟩⟩))⟩,
    List.forall_mem_cons.mpr ⟨⟨⟨by decide, by decide⟩, ⟨by decide +kernel, by decide +kernel⟩, 1, by decide +kernel, Or.inr (Or.inr (Or.inl ⟨rfl, rfl, Or.inl ⟨rfl, q1460, q1461, q1462, q129⟩⟩))⟩,
    List.forall_mem_cons.mpr ⟨⟨⟨by decide, by decide⟩, ⟨by decide +kernel, by decide +kernel⟩, 1, by decide +kernel, Or.inr (Or.inr (Or.inl ⟨rfl, rfl, Or.inl ⟨rfl, q2219, q2220, q2221, q144⟩⟩))⟩,
    List.forall_mem_cons.mpr ⟨⟨⟨by decide, by decide⟩, ⟨by decide +kernel, by decide +kernel⟩, 1, by decide +kernel, Or.inr (Or.inr (Or.inl ⟨rfl, rfl, Or.inl ⟨rfl, q1464, q1465, q1466, q129⟩⟩))⟩,
    List.forall_mem_cons.mpr ⟨⟨⟨by decide, by decide⟩, ⟨by decide +kernel, by decide +kernel⟩, 1, by decide +kernel, Or.inr (Or.inr (Or.inl ⟨rfl, rfl, Or.inl ⟨rfl, q2227, q2228, q2229, q144⟩⟩))⟩,
    List.forall_mem_cons.mpr ⟨⟨⟨by decide, by decide⟩, ⟨by decide +kernel, by decide +kernel⟩, 1, by decide +kernel, Or.inr (Or.inr (Or.inl ⟨rfl, rfl, Or.inl ⟨rfl, q1468, q1469, q1470, q129⟩⟩))⟩,
    List.forall_mem_cons.mpr ⟨⟨⟨by decide, by decide⟩, ⟨by decide +kernel, by decide +kernel⟩, 1, by decide +kernel, Or.inr (Or.inr (Or.inl ⟨rfl, rfl, Or.inl ⟨rfl, q2231, q2232, q2233, q144⟩⟩))⟩,
    fun _ h => absurd h List.not_mem_nil⟩⟩⟩⟩⟩⟩⟩⟩⟩⟩⟩⟩⟩⟩⟩⟩⟩⟩⟩⟩⟩⟩⟩⟩⟩⟩⟩⟩⟩⟩⟩⟩⟩⟩⟩⟩⟩⟩⟩⟩⟩⟩⟩⟩⟩⟩⟩⟩⟩⟩⟩⟩⟩⟩⟩⟩⟩⟩⟩⟩⟩⟩⟩⟩⟩⟩⟩⟩⟩⟩⟩⟩⟩⟩⟩⟩⟩⟩⟩⟩⟩⟩⟩⟩⟩⟩⟩⟩
theorem ai_ct_ok : ∀ o, ∀ e ∈ ai_ctl o, ai_CK o e.1 e.2.1 e.2.2.1 e.2.2.2 := by
  intro o
  match o with
  | 0 => exact ai_ct_ok0
  | 1 => exact ai_ct_ok1
  | 2 => exact ai_ct_ok2
  | 3 => exact fun e h => absurd h (by unfold ai_ctl; exact List.not_mem_nil)
  | 4 => exact ai_ct_ok4
  | 5 => exact ai_ct_ok5
  | 6 => exact fun e h => absurd h (by unfold ai_ctl; exact List.not_mem_nil)
  | 7 => exact ai_ct_ok7
  | 8 => exact ai_ct_ok8
  | 9 => exact ai_ct_ok9
  | 10 => exact ai_ct_ok10
  | 11 => exact ai_ct_ok11
  | 12 => exact ai_ct_ok12
  | 13 => exact ai_ct_ok13
  | 14 => exact ai_ct_ok14
  | 15 => exact fun e h => absurd h (by unfold ai_ctl; exact List.not_mem_nil)
  | 16 => exact ai_ct_ok16
  | 17 => exact ai_ct_ok17
  | 18 => exact ai_ct_ok18
  | 19 => exact ai_ct_ok19
  | 20 => exact fun e h => absurd h (by unfold ai_ctl; exact List.not_mem_nil)
  | 21 => exact fun e h => absurd h (by unfold ai_ctl; exact List.not_mem_nil)
  | 22 => exact fun e h => absurd h (by unfold ai_ctl; exact List.not_mem_nil)
  | 23 => exact ai_ct_ok23
  | 24 => exact ai_ct_ok24
  | 25 => exact fun e h => absurd h (by unfold ai_ctl; exact List.not_mem_nil)
  | 26 => exact ai_ct_ok26
  | 27 => exact ai_ct_ok27
  | 28 => exact fun e h => absurd h (by unfold ai_ctl; exact List.not_mem_nil)
  | 29 => exact ai_ct_ok29
  | 30 => exact fun e h => absurd h (by unfold ai_ctl; exact List.not_mem_nil)
  | 31 => exact ai_ct_ok31
  | o + 32 => exact fun e h => absurd h (by unfold ai_ctl; exact List.not_mem_nil)
theorem ai_mH_thr : ∀ k, k < ai_nm → ai_mH k ≠ [] → ai_thr k = false := by decide +kernel
