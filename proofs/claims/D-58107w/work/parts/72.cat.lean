set_option maxRecDepth 100000
/-! the catalogue: 571 cells from 1024 on, as its constructor leaves them -/
def CATL : AH := [(0, [.null, .null, .null, .null, .null]), (1, [.ref 1026, .ref 1027]), (8, [.int 47, .ref 1325, .int 47]), (9, [.null, .null, .ref 1247, .null, .int 47, .int 47, .int 48, .float 1061158912]), (2, [.int 0]), (2, [.int 0]), (70, [.null, .null, .null, .null, .null, .null, .null, .null, .null, .null, .null, .null, .null, .null, .null, .null]), (10, [.int 0, .ref 1028, .ref 384, .ref 1175]), (69, [.ref 1028, .ref 1033, .ref 1040, .ref 1043, .ref 1048, .ref 1067, .ref 1070, .ref 1077, .ref 1080, .ref 1085]), (2, [.int 1]), (2, [.int 1]), (10, [.int 1, .ref 1033, .ref 385, .ref 1178]), (2, [.int 2]), (2, [.int 0]), (2, [.int 3]), (2, [.int 1]), (2, [.int 4]), (2, [.int 4]), (10, [.int 4, .ref 1040, .ref 386, .ref 1185]), (2, [.int 5]), (2, [.int 5]), (10, [.int 5, .ref 1043, .ref 387, .ref 1189]), (2, [.int 6]), (2, [.int 4]), (2, [.int 7]), (2, [.int 7]), (10, [.int 7, .ref 1048, .ref 388, .ref 1194]), (2, [.int 8]), (2, [.int 0]), (2, [.int 9]), (2, [.int 1]), (2, [.int 10]), (2, [.int 0]), (2, [.int 11]), (2, [.int 1]), (2, [.int 12]), (2, [.int 4]), (2, [.int 13]), (2, [.int 5]), (2, [.int 14]), (2, [.int 4]), (2, [.int 15]), (2, [.int 7]), (2, [.int 16]), (2, [.int 16]), (10, [.int 16, .ref 1067, .ref 389, .ref 1213]), (2, [.int 17]), (2, [.int 17]), (10, [.int 17, .ref 1070, .ref 390, .ref 1216]), (2, [.int 18]), (2, [.int 16]), (2, [.int 19]), (2, [.int 17]), (2, [.int 20]), (2, [.int 20]), (10, [.int 20, .ref 1077, .ref 391, .ref 1223]), (2, [.int 21]), (2, [.int 21]), (10, [.int 21, .ref 1080, .ref 392, .ref 1226]), (2, [.int 22]), (2, [.int 20]), (2, [.int 23]), (2, [.int 23]), (10, [.int 23, .ref 1085, .ref 393, .ref 1231]), (2, [.int 24]), (2, [.int 16]), (2, [.int 25]), (2, [.int 17]), (2, [.int 26]), (2, [.int 16]), (2, [.int 27]), (2, [.int 17]), (2, [.int 28]), (2, [.int 28]), (10, [.int 28, .ref 1096, .ref 394, .ref 1243]), (69, [.ref 1028, .ref 1033, .ref 1040, .ref 1043, .ref 1048, .ref 1067, .ref 1070, .ref 1077, .ref 1080, .ref 1085, .ref 1096, .ref 1100, .ref 1105, .ref 1173, .ref 1176]), (2, [.int 29]), (2, [.int 29]), (10, [.int 29, .ref 1100, .ref 395, .ref 1246]), (2, [.int 30]), (2, [.int 28]), (2, [.int 31]), (2, [.int 31]), (10, [.int 31, .ref 1105, .ref 396, .ref 1252]), (70, [.null, .null, .null, .null, .null, .null, .null, .null, .null, .null, .null, .null, .null, .null, .null, .null, .null, .null, .null, .null, .null, .null, .null, .null, .null, .null, .null, .null, .null, .null, .null, .null]), (2, [.int 32]), (2, [.int 0]), (2, [.int 33]), (2, [.int 1]), (2, [.int 34]), (2, [.int 0]), (2, [.int 35]), (2, [.int 1]), (2, [.int 36]), (2, [.int 4]), (2, [.int 37]), (2, [.int 5]), (2, [.int 38]), (2, [.int 4]), (2, [.int 39]), (2, [.int 7]), (2, [.int 40]), (2, [.int 0]), (2, [.int 41]), (2, [.int 1]), (2, [.int 42]), (2, [.int 0]), (2, [.int 43]), (2, [.int 1]), (2, [.int 44]), (2, [.int 4]), (2, [.int 45]), (2, [.int 5]), (2, [.int 46]), (2, [.int 4]), (2, [.int 47]), (2, [.int 7]), (2, [.int 48]), (2, [.int 16]), (2, [.int 49]), (2, [.int 17]), (2, [.int 50]), (2, [.int 16]), (2, [.int 51]), (2, [.int 17]), (2, [.int 52]), (2, [.int 20]), (2, [.int 53]), (2, [.int 21]), (2, [.int 54]), (2, [.int 20]), (2, [.int 55]), (2, [.int 23]), (2, [.int 56]), (2, [.int 16]), (2, [.int 57]), (2, [.int 17]), (2, [.int 58]), (2, [.int 16]), (2, [.int 59]), (2, [.int 17]), (2, [.int 60]), (2, [.int 28]), (2, [.int 61]), (2, [.int 29]), (2, [.int 62]), (2, [.int 28]), (2, [.int 63]), (2, [.int 31]), (2, [.int 64]), (2, [.int 64]), (10, [.int 64, .ref 1173, .ref 397, .null]), (2, [.int 65]), (2, [.int 65]), (10, [.int 65, .ref 1176, .ref 398, .ref 1458]), (2, [.int 66]), (2, [.int 64]), (2, [.int 67]), (2, [.int 65]), (2, [.int 68]), (2, [.int 68]), (10, [.int 68, .ref 1183, .ref 399, .null]), (69, [.ref 1028, .ref 1033, .ref 1040, .ref 1043, .ref 1048, .ref 1067, .ref 1070, .ref 1077, .ref 1080, .ref 1085, .ref 1096, .ref 1100, .ref 1105, .ref 1173, .ref 1176, .ref 1183, .ref 1187, .ref 1192, .ref 1211, .ref 1214, .ref 1221, .ref 1224]), (2, [.int 69]), (2, [.int 69]), (10, [.int 69, .ref 1187, .ref 400, .ref 1467]), (2, [.int 70]), (2, [.int 68]), (2, [.int 71]), (2, [.int 71]), (10, [.int 71, .ref 1192, .ref 401, .ref 1472]), (2, [.int 72]), (2, [.int 64]), (2, [.int 73]), (2, [.int 65]), (2, [.int 74]), (2, [.int 64]), (2, [.int 75]), (2, [.int 65]), (2, [.int 76]), (2, [.int 68]), (2, [.int 77]), (2, [.int 69]), (2, [.int 78]), (2, [.int 68]), (2, [.int 79]), (2, [.int 71]), (2, [.int 80]), (2, [.int 80]), (10, [.int 80, .ref 1211, .ref 402, .null]), (2, [.int 81]), (2, [.int 81]), (10, [.int 81, .ref 1214, .ref 403, .ref 1493]), (2, [.int 82]), (2, [.int 80]), (2, [.int 83]), (2, [.int 81]), (2, [.int 84]), (2, [.int 84]), (10, [.int 84, .ref 1221, .ref 404, .null]), (2, [.int 85]), (2, [.int 85]), (10, [.int 85, .ref 1224, .ref 405, .ref 1502]), (2, [.int 86]), (2, [.int 84]), (2, [.int 87]), (2, [.int 87]), (10, [.int 87, .ref 1229, .ref 406, .ref 1507]), (69, [.ref 1028, .ref 1033, .ref 1040, .ref 1043, .ref 1048, .ref 1067, .ref 1070, .ref 1077, .ref 1080, .ref 1085, .ref 1096, .ref 1100, .ref 1105, .ref 1173, .ref 1176, .ref 1183, .ref 1187, .ref 1192, .ref 1211, .ref 1214, .ref 1221, .ref 1224, .ref 1229, .ref 1241, .ref 1244, .ref 1250, .ref 1285, .ref 1288, .ref 1295, .ref 1298, .ref 1303, .ref 1314, .ref 1317]), (2, [.int 88]), (2, [.int 80]), (2, [.int 89]), (2, [.int 81]), (2, [.int 90]), (2, [.int 80]), (2, [.int 91]), (2, [.int 81]), (2, [.int 92]), (2, [.int 92]), (10, [.int 92, .ref 1241, .ref 407, .null]), (2, [.int 93]), (2, [.int 93]), (10, [.int 93, .ref 1244, .ref 408, .ref 1520]), (70, [.ref 1031, .ref 1035, .null, .null, .ref 1042, .ref 1045, .null, .ref 1050, .null, .null, .null, .null, .null, .null, .null, .null, .ref 1069, .ref 1072, .null, .null, .ref 1079, .ref 1082, .null, .ref 1087, .null, .null, .null, .null, .ref 1098, .ref 1102, .null, .ref 1107, .null, .null, .null, .null, .null, .null, .null, .null, .null, .null, .null, .null, .null, .null, .null, .null, .ref 1287, .ref 1290, .null, .null, .ref 1297, .ref 1300, .null, .ref 1305, .null, .null, .null, .null, .ref 1316, .ref 1319, .null, .ref 1324]), (2, [.int 94]), (2, [.int 92]), (2, [.int 95]), (2, [.int 95]), (10, [.int 95, .ref 1250, .ref 409, .ref 1525]), (2, [.int 96]), (2, [.int 64]), (2, [.int 97]), (2, [.int 65]), (2, [.int 98]), (2, [.int 64]), (2, [.int 99]), (2, [.int 65]), (2, [.int 100]), (2, [.int 68]), (2, [.int 101]), (2, [.int 69]), (2, [.int 102]), (2, [.int 68]), (2, [.int 103]), (2, [.int 71]), (2, [.int 104]), (2, [.int 64]), (2, [.int 105]), (2, [.int 65]), (2, [.int 106]), (2, [.int 64]), (2, [.int 107]), (2, [.int 65]), (2, [.int 108]), (2, [.int 68]), (2, [.int 109]), (2, [.int 69]), (2, [.int 110]), (2, [.int 68]), (2, [.int 111]), (2, [.int 71]), (2, [.int 112]), (2, [.int 112]), (10, [.int 112, .ref 1285, .ref 410, .null]), (2, [.int 113]), (2, [.int 113]), (10, [.int 113, .ref 1288, .ref 411, .ref 1562]), (2, [.int 114]), (2, [.int 112]), (2, [.int 115]), (2, [.int 113]), (2, [.int 116]), (2, [.int 116]), (10, [.int 116, .ref 1295, .ref 412, .null]), (2, [.int 117]), (2, [.int 117]), (10, [.int 117, .ref 1298, .ref 413, .ref 1571]), (2, [.int 118]), (2, [.int 116]), (2, [.int 119]), (2, [.int 119]), (10, [.int 119, .ref 1303, .ref 414, .ref 1576]), (2, [.int 120]), (2, [.int 112]), (2, [.int 121]), (2, [.int 113]), (2, [.int 122]), (2, [.int 112]), (2, [.int 123]), (2, [.int 113]), (2, [.int 124]), (2, [.int 124]), (10, [.int 124, .ref 1314, .ref 415, .null]), (2, [.int 125]), (2, [.int 125]), (10, [.int 125, .ref 1317, .ref 416, .ref 1589]), (2, [.int 126]), (2, [.int 124]), (2, [.int 127]), (2, [.int 127]), (10, [.int 127, .ref 1322, .ref 417, .ref 1594]), (69, [.ref 1028, .ref 1033, .ref 1040, .ref 1043, .ref 1048, .ref 1067, .ref 1070, .ref 1077, .ref 1080, .ref 1085, .ref 1096, .ref 1100, .ref 1105, .ref 1173, .ref 1176, .ref 1183, .ref 1187, .ref 1192, .ref 1211, .ref 1214, .ref 1221, .ref 1224, .ref 1229, .ref 1241, .ref 1244, .ref 1250, .ref 1285, .ref 1288, .ref 1295, .ref 1298, .ref 1303, .ref 1314, .ref 1317, .ref 1322, .ref 1456, .ref 1465, .ref 1470, .ref 1491, .ref 1500, .ref 1505, .ref 1518, .ref 1523, .ref 1560, .ref 1569, .ref 1574, .ref 1587, .ref 1592, .null, .null]), (2, [.int 128]), (2, [.int 0]), (2, [.int 129]), (2, [.int 1]), (2, [.int 130]), (2, [.int 0]), (2, [.int 131]), (2, [.int 1]), (2, [.int 132]), (2, [.int 4]), (2, [.int 133]), (2, [.int 5]), (2, [.int 134]), (2, [.int 4]), (2, [.int 135]), (2, [.int 7]), (2, [.int 136]), (2, [.int 0]), (2, [.int 137]), (2, [.int 1]), (2, [.int 138]), (2, [.int 0]), (2, [.int 139]), (2, [.int 1]), (2, [.int 140]), (2, [.int 4]), (2, [.int 141]), (2, [.int 5]), (2, [.int 142]), (2, [.int 4]), (2, [.int 143]), (2, [.int 7]), (2, [.int 144]), (2, [.int 16]), (2, [.int 145]), (2, [.int 17]), (2, [.int 146]), (2, [.int 16]), (2, [.int 147]), (2, [.int 17]), (2, [.int 148]), (2, [.int 20]), (2, [.int 149]), (2, [.int 21]), (2, [.int 150]), (2, [.int 20]), (2, [.int 151]), (2, [.int 23]), (2, [.int 152]), (2, [.int 16]), (2, [.int 153]), (2, [.int 17]), (2, [.int 154]), (2, [.int 16]), (2, [.int 155]), (2, [.int 17]), (2, [.int 156]), (2, [.int 28]), (2, [.int 157]), (2, [.int 29]), (2, [.int 158]), (2, [.int 28]), (2, [.int 159]), (2, [.int 31]), (2, [.int 160]), (2, [.int 0]), (2, [.int 161]), (2, [.int 1]), (2, [.int 162]), (2, [.int 0]), (2, [.int 163]), (2, [.int 1]), (2, [.int 164]), (2, [.int 4]), (2, [.int 165]), (2, [.int 5]), (2, [.int 166]), (2, [.int 4]), (2, [.int 167]), (2, [.int 7]), (2, [.int 168]), (2, [.int 0]), (2, [.int 169]), (2, [.int 1]), (2, [.int 170]), (2, [.int 0]), (2, [.int 171]), (2, [.int 1]), (2, [.int 172]), (2, [.int 4]), (2, [.int 173]), (2, [.int 5]), (2, [.int 174]), (2, [.int 4]), (2, [.int 175]), (2, [.int 7]), (2, [.int 176]), (2, [.int 16]), (2, [.int 177]), (2, [.int 17]), (2, [.int 178]), (2, [.int 16]), (2, [.int 179]), (2, [.int 17]), (2, [.int 180]), (2, [.int 20]), (2, [.int 181]), (2, [.int 21]), (2, [.int 182]), (2, [.int 20]), (2, [.int 183]), (2, [.int 23]), (2, [.int 184]), (2, [.int 16]), (2, [.int 185]), (2, [.int 17]), (2, [.int 186]), (2, [.int 16]), (2, [.int 187]), (2, [.int 17]), (2, [.int 188]), (2, [.int 28]), (2, [.int 189]), (2, [.int 29]), (2, [.int 190]), (2, [.int 28]), (2, [.int 191]), (2, [.int 31]), (2, [.int 192]), (2, [.int 64]), (2, [.int 193]), (2, [.int 193]), (10, [.int 193, .ref 1456, .ref 418, .null]), (2, [.int 194]), (2, [.int 64]), (2, [.int 195]), (2, [.int 193]), (2, [.int 196]), (2, [.int 68]), (2, [.int 197]), (2, [.int 197]), (10, [.int 197, .ref 1465, .ref 419, .null]), (2, [.int 198]), (2, [.int 68]), (2, [.int 199]), (2, [.int 199]), (10, [.int 199, .ref 1470, .ref 420, .null]), (2, [.int 200]), (2, [.int 64]), (2, [.int 201]), (2, [.int 193]), (2, [.int 202]), (2, [.int 64]), (2, [.int 203]), (2, [.int 193]), (2, [.int 204]), (2, [.int 68]), (2, [.int 205]), (2, [.int 197]), (2, [.int 206]), (2, [.int 68]), (2, [.int 207]), (2, [.int 199]), (2, [.int 208]), (2, [.int 80]), (2, [.int 209]), (2, [.int 209]), (10, [.int 209, .ref 1491, .ref 421, .null]), (2, [.int 210]), (2, [.int 80]), (2, [.int 211]), (2, [.int 209]), (2, [.int 212]), (2, [.int 84]), (2, [.int 213]), (2, [.int 213]), (10, [.int 213, .ref 1500, .ref 422, .null]), (2, [.int 214]), (2, [.int 84]), (2, [.int 215]), (2, [.int 215]), (10, [.int 215, .ref 1505, .ref 423, .null]), (2, [.int 216]), (2, [.int 80]), (2, [.int 217]), (2, [.int 209]), (2, [.int 218]), (2, [.int 80]), (2, [.int 219]), (2, [.int 209]), (2, [.int 220]), (2, [.int 92]), (2, [.int 221]), (2, [.int 221]), (10, [.int 221, .ref 1518, .ref 424, .null]), (2, [.int 222]), (2, [.int 92]), (2, [.int 223]), (2, [.int 223]), (10, [.int 223, .ref 1523, .ref 425, .null]), (2, [.int 224]), (2, [.int 64]), (2, [.int 225]), (2, [.int 193]), (2, [.int 226]), (2, [.int 64]), (2, [.int 227]), (2, [.int 193]), (2, [.int 228]), (2, [.int 68]), (2, [.int 229]), (2, [.int 197]), (2, [.int 230]), (2, [.int 68]), (2, [.int 231]), (2, [.int 199]), (2, [.int 232]), (2, [.int 64]), (2, [.int 233]), (2, [.int 193]), (2, [.int 234]), (2, [.int 64]), (2, [.int 235]), (2, [.int 193]), (2, [.int 236]), (2, [.int 68]), (2, [.int 237]), (2, [.int 197]), (2, [.int 238]), (2, [.int 68]), (2, [.int 239]), (2, [.int 199]), (2, [.int 240]), (2, [.int 112]), (2, [.int 241]), (2, [.int 241]), (10, [.int 241, .ref 1560, .ref 426, .null]), (2, [.int 242]), (2, [.int 112]), (2, [.int 243]), (2, [.int 241]), (2, [.int 244]), (2, [.int 116]), (2, [.int 245]), (2, [.int 245]), (10, [.int 245, .ref 1569, .ref 427, .null]), (2, [.int 246]), (2, [.int 116]), (2, [.int 247]), (2, [.int 247]), (10, [.int 247, .ref 1574, .ref 428, .null]), (2, [.int 248]), (2, [.int 112]), (2, [.int 249]), (2, [.int 241]), (2, [.int 250]), (2, [.int 112]), (2, [.int 251]), (2, [.int 241]), (2, [.int 252]), (2, [.int 124]), (2, [.int 253]), (2, [.int 253]), (10, [.int 253, .ref 1587, .ref 429, .null]), (2, [.int 254]), (2, [.int 124]), (2, [.int 255]), (2, [.int 255]), (10, [.int 255, .ref 1592, .ref 430, .null])]
def Cat (h : AH) : Prop := ∀ i, 1025 ≤ i → i < 1595 → hget h i = hget CATL i
theorem Cat.pf {h h' : AH} (p : Pf h h') (hl : 571 ≤ h.length) (c : Cat h) : Cat h' := fun i h1 h2 => (p.same (by omega)).trans (c i h1 h2)
def catV (i : Nat) : List Value := match hget CATL i with
  | some e => e.2
  | none => []
def inC (i : Nat) : Bool := decide (1025 ≤ i ∧ i < 1595)
theorem Cat.at {h : AH} (c : Cat h) {i : Nat} (hi : inC i = true) {e : AE} (he : hget CATL i = some e) : hget h i = some e := by
  have := of_decide_eq_true hi
  rw [c i this.1 this.2, he]
def mid (s : Nat) : Nat := match (catV 1325)[s]? with
  | some (.ref i) => i
  | _ => 0
theorem cat_1025 : hget CATL 1025 = some (1, [.ref 1026, .ref 1027]) := by decide +kernel
theorem cat_1026 : hget CATL 1026 = some (8, [.int 47, .ref 1325, .int 47]) := by decide +kernel
theorem cat_1325 : hget CATL 1325 = some (69, catV 1325) := by decide +kernel
theorem cat_1027 : hget CATL 1027 = some (9, catV 1027) ∧ (catV 1027)[2]? = some (.ref 1247) := by decide +kernel
theorem cat_1247 : hget CATL 1247 = some (70, catV 1247) ∧ (catV 1247).length = 64 := by decide +kernel
theorem cat_mid : ∀ s, s < 47 → (catV 1325)[s]? = some (.ref (mid s)) ∧ inC (mid s) = true ∧ hget CATL (mid s) = some (2, [.int (nI (msk s))]) := by decide +kernel
/-- the chain of nodes behind v holds these masks with their numbers -/
def nodeB : Value → List (Nat × Nat) → Bool
  | v, [] => v == .null
  | v, (m, s) :: t => match v with
    | .ref i => inC i && (match hget CATL i with
      | some (10, [.int hh, .ref kk, .ref vv, nx]) => hh == nI m && inC kk && (hget CATL kk == some (2, [.int (nI m)])) && vv == 384 + s && decide (m < 256) && decide (s < 47) && nodeB nx t
      | _ => false)
    | _ => false
def binL (b : Nat) : List (Nat × Nat) := (List.range 47).filterMap (fun s => if msk s % 64 = b then some (msk s, s) else none)
def binV (b : Nat) : Value := ((catV 1247)[b]?).getD .null
theorem cat_bin : ∀ b, b < 64 → nodeB (binV b) (binL b) = true ∧ (catV 1247)[b]? = some (binV b) := by decide +kernel
def look (l : List (Nat × Nat)) (m : Nat) : Option Nat := (l.find? (fun p => p.1 == m)).map (fun p => p.2)
theorem look_shp : ∀ m, m < 256 → shp m = (match look (binL (m % 64)) m with
  | some s => nI s
  | none => -6) := by decide +kernel
theorem nodeB_cons {v : Value} {m s : Nat} {t : List (Nat × Nat)} (h : nodeB v ((m, s) :: t) = true) : ∃ i kk nx, v = .ref i ∧ inC i = true ∧ hget CATL i = some (10, [.int (nI m), .ref kk, .ref (384 + s), nx]) ∧ inC kk = true ∧ hget CATL kk = some (2, [.int (nI m)]) ∧ m < 256 ∧ s < 47 ∧ nodeB nx t = true := by
  unfold nodeB at h
  split at h
  · rename_i i
    rw [Bool.and_eq_true] at h
    obtain ⟨h1, h2⟩ := h
    split at h2
    · rename_i hh kk vv nx e
      simp only [Bool.and_eq_true, beq_iff_eq, decide_eq_true_eq] at h2
      obtain ⟨⟨⟨⟨⟨⟨a1, a2⟩, a3⟩, a4⟩, a5⟩, a6⟩, a7⟩ := h2
      subst a1 a4
      exact ⟨i, kk, nx, rfl, h1, e, a2, a3, a5, a6, a7⟩
    · cases h2
  · cases h
theorem nodeB_nil {v : Value} (h : nodeB v [] = true) : v = .null := by
  unfold nodeB at h
  simpa using h
theorem o_gr_cat {h : AH} {i t k : Nat} {vs : List Value} {K : Rf → AH → Res} (hg : hget h i = some (t, vs)) {v : Value} (hv : vs[k]? = some v) {r : Rf} (hr : v = va_rf r) : o_gr t (some i) k K h = K r h := by
  subst hr
  cases r with
  | none => exact o_grN_eq hg hv
  | some x => exact o_gr_eq hg hv
theorem va_of {v : Value} {l : List (Nat × Nat)} (h : nodeB v l = true) : ∃ r : Rf, v = va_rf r ∧ (r = none ↔ l = []) := by
  cases l with
  | nil => exact ⟨none, nodeB_nil h, by simp⟩
  | cons p t =>
    obtain ⟨m, s⟩ := p
    obtain ⟨i, kk, nx, e, _⟩ := nodeB_cons h
    exact ⟨some i, e, by simp⟩
/-- the node that holds m in a chain -/
def ndI : Value → List (Nat × Nat) → Nat → Rf
  | _, [], _ => none
  | v, (m', _) :: t, m => match v with
    | .ref i => if m' = m then some i else (match hget CATL i with
      | some (10, [_, _, _, nx]) => ndI nx t m
      | _ => none)
    | _ => none
theorem h_hash {h : AH} {k m : Nat} (hk : MK h k m) (hm : m < 256) : f_J4_hash (some k) h = some (some (vI (nI m)), h) := by
  have e : ∀ m, m < 256 → nI m ^^^ (((nI m).toUInt32 >>> ((16 : Int32).toUInt32 &&& Int32.toUInt32 31)).toInt32) = nI m := by decide +kernel
  have e2 : tagIs 2 (some k) (f_X2_hashCode (some k)) h = some (some (vI (nI m)), h) := by
    rw [tagIs_eq hk]
    unfold f_X2_hashCode
    rw [o_gi_eq hk rfl]
  unfold f_J4_hash
  rw [if_neg (by simp), o_ci_eq e2, e m hm]
theorem acmp_mask {h : AH} {kk k m m' : Nat} (hkk : MK h kk m') (hk : MK h k m) (hm : m < 256) (hm' : m' < 256) (A B : Res) (hne : kk ≠ k → okNe (some kk) (some k) = true) (E : kk = k → True) :
    o_acmp (some kk) (some k) A (o_ci (tagIs 2 (some k) (f_X2_equals (some k) (some kk))) (fun x h => if x = 0 then B else A) h) = if m' = m then A else B := by
  unfold o_acmp
  by_cases e : kk = k
  · subst e
    have : m' = m := by
      have h1 := hkk
      unfold MK at h1
      unfold MK at hk
      rw [hk] at h1
      have h2 := Option.some.inj h1
      have h3 : nI m = nI m' := by
        have := congrArg Prod.snd h2
        simpa using this
      exact ((nI_eq (by omega) (by omega)).mp h3).symm
    rw [if_pos rfl, if_pos this]
  · rw [if_neg (by simpa using e), if_pos (hne e), o_ci_eq ((tagIs_eq hk).trans (x_equals hk hkk hm hm')), ite_bI]
    by_cases q : m = m'
    · rw [if_pos (by simpa using q), if_pos q.symm]
    · rw [if_neg (by simpa using q), if_neg (fun w => q w.symm)]
