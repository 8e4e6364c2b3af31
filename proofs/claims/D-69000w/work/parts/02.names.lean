/-! names and tables: printed by wip/D-69000w/gen02.py out of the Statement -/
def LF_0 : List (String × String × String × Bool) := [("PlantKeeper", "tape", "[B", true), ("PlantKeeper", "size", "I", false), ("PlantKeeper", "names", "LPlantKeeper$Names;", true), ("PlantKeeper", "tokens", "LPlantKeeper$Tokens;", true), ("PlantKeeper", "nodes", "LPlantKeeper$Nodes;", true), ("PlantKeeper", "reader", "LPlantKeeper$Reader;", true), ("PlantKeeper", "rules", "LPlantKeeper$Rules;", true), ("PlantKeeper", "code", "LPlantKeeper$Code;", true), ("PlantKeeper", "maker", "LPlantKeeper$Maker;", true), ("PlantKeeper", "prover", "LPlantKeeper$Prover;", true), ("PlantKeeper", "machine", "LPlantKeeper$Machine;", true), ("PlantKeeper", "images", "LPlantKeeper$Images;", true), ("PlantKeeper", "check", "LPlantKeeper$Check;", true), ("PlantKeeper", "line", "LPlantKeeper$Line;", true), ("PlantKeeper", "desk", "LPlantKeeper$Desk;", true), ("PlantKeeper", "station", "I", false), ("PlantKeeper", "outSize", "I", false), ("PlantKeeper", "has", "Z", false), ("PlantKeeper", "stopped", "Z", false), ("PlantKeeper", "fault", "I", false), ("PlantKeeper", "faultPlace", "I", false), ("PlantKeeper", "now", "I", false), ("PlantKeeper", "scans", "I", false), ("PlantKeeper", "over", "I", false), ("PlantKeeper", "steps", "I", false), ("PlantKeeper", "watched", "I", false), ("PlantKeeper", "row", "[B", true), ("PlantKeeper", "at", "I", false)]
def F_0 : u_T := fun k => LF_0.getD k ("", "", "", false)
def LF_1 : List (String × String × String × Bool) := [("PlantKeeper$Names", "bytes", "[B", true), ("PlantKeeper$Names", "from", "[I", true), ("PlantKeeper$Names", "many", "I", false)]
def F_1 : u_T := fun k => LF_1.getD k ("", "", "", false)
def LF_2 : List (String × String × String × Bool) := [("PlantKeeper$Tokens", "text", "[B", true), ("PlantKeeper$Tokens", "names", "LPlantKeeper$Names;", true), ("PlantKeeper$Tokens", "row", "[B", true), ("PlantKeeper$Tokens", "size", "I", false), ("PlantKeeper$Tokens", "at", "I", false), ("PlantKeeper$Tokens", "kind", "I", false), ("PlantKeeper$Tokens", "from", "I", false), ("PlantKeeper$Tokens", "value", "I", false), ("PlantKeeper$Tokens", "fault", "I", false)]
def F_2 : u_T := fun k => LF_2.getD k ("", "", "", false)
def LF_3 : List (String × String × String × Bool) := [("PlantKeeper$Nodes", "kinds", "[I", true), ("PlantKeeper$Nodes", "places", "[I", true), ("PlantKeeper$Nodes", "values", "[I", true), ("PlantKeeper$Nodes", "parents", "[I", true), ("PlantKeeper$Nodes", "first", "[I", true), ("PlantKeeper$Nodes", "last", "[I", true), ("PlantKeeper$Nodes", "next", "[I", true), ("PlantKeeper$Nodes", "numbers", "[I", true), ("PlantKeeper$Nodes", "order", "[I", true), ("PlantKeeper$Nodes", "many", "I", false)]
def F_3 : u_T := fun k => LF_3.getD k ("", "", "", false)
def LF_4 : List (String × String × String × Bool) := [("PlantKeeper$Reader", "t", "LPlantKeeper$Tokens;", true), ("PlantKeeper$Reader", "nodes", "LPlantKeeper$Nodes;", true), ("PlantKeeper$Reader", "fault", "I", false), ("PlantKeeper$Reader", "at", "I", false), ("PlantKeeper$Reader", "depth", "I", false), ("PlantKeeper$Reader", "nested", "I", false), ("PlantKeeper$Reader", "signs", "[I", true), ("PlantKeeper$Reader", "places", "[I", true), ("PlantKeeper$Reader", "operands", "[I", true), ("PlantKeeper$Reader", "manySigns", "I", false), ("PlantKeeper$Reader", "manyOperands", "I", false)]
def F_4 : u_T := fun k => LF_4.getD k ("", "", "", false)
def LF_5 : List (String × String × String × Bool) := [("PlantKeeper$Rules", "n", "LPlantKeeper$Nodes;", true), ("PlantKeeper$Rules", "names", "LPlantKeeper$Names;", true), ("PlantKeeper$Rules", "fault", "I", false), ("PlantKeeper$Rules", "at", "I", false), ("PlantKeeper$Rules", "standards", "[I", true), ("PlantKeeper$Rules", "parts", "[I", true), ("PlantKeeper$Rules", "types", "[I", true), ("PlantKeeper$Rules", "cells", "[I", true), ("PlantKeeper$Rules", "means", "[I", true), ("PlantKeeper$Rules", "varNames", "[I", true), ("PlantKeeper$Rules", "shapes", "[I", true), ("PlantKeeper$Rules", "varTypes", "[I", true), ("PlantKeeper$Rules", "sections", "[I", true), ("PlantKeeper$Rules", "varCells", "[I", true), ("PlantKeeper$Rules", "lows", "[I", true), ("PlantKeeper$Rules", "manys", "[I", true), ("PlantKeeper$Rules", "images", "[I", true), ("PlantKeeper$Rules", "vars", "I", false), ("PlantKeeper$Rules", "blockNodes", "[I", true), ("PlantKeeper$Rules", "firstVars", "[I", true), ("PlantKeeper$Rules", "frames", "[I", true), ("PlantKeeper$Rules", "places", "[I", true), ("PlantKeeper$Rules", "blocks", "I", false), ("PlantKeeper$Rules", "all", "I", false), ("PlantKeeper$Rules", "block", "I", false), ("PlantKeeper$Rules", "next", "I", false), ("PlantKeeper$Rules", "fresh", "I", false), ("PlantKeeper$Rules", "taken", "[Z", true), ("PlantKeeper$Rules", "open", "[I", true), ("PlantKeeper$Rules", "partType", "I", false)]
def F_5 : u_T := fun k => LF_5.getD k ("", "", "", false)
def LF_6 : List (String × String × String × Bool) := [("PlantKeeper$Code", "words", "[I", true), ("PlantKeeper$Code", "first", "[I", true), ("PlantKeeper$Code", "frames", "[I", true), ("PlantKeeper$Code", "places", "[I", true), ("PlantKeeper$Code", "units", "I", false), ("PlantKeeper$Code", "size", "I", false), ("PlantKeeper$Code", "cells", "I", false)]
def F_6 : u_T := fun k => LF_6.getD k ("", "", "", false)
def LF_7 : List (String × String × String × Bool) := [("PlantKeeper$Maker", "n", "LPlantKeeper$Nodes;", true), ("PlantKeeper$Maker", "\x72", "LPlantKeeper$Rules;", true), ("PlantKeeper$Maker", "c", "LPlantKeeper$Code;", true), ("PlantKeeper$Maker", "most", "I", true), ("PlantKeeper$Maker", "mostUnits", "I", true), ("PlantKeeper$Maker", "grid", "LPlantKeeper$Grid;", true), ("PlantKeeper$Maker", "open", "[I", true), ("PlantKeeper$Maker", "opened", "I", false), ("PlantKeeper$Maker", "ends", "[I", true), ("PlantKeeper$Maker", "ended", "I", false), ("PlantKeeper$Maker", "full", "Z", false), ("PlantKeeper$Maker", "unit", "I", false)]
def F_7 : u_T := fun k => LF_7.getD k ("", "", "", false)
def LF_8 : List (String × String × String × Bool) := [("PlantKeeper$Grid", "most", "I", true), ("PlantKeeper$Grid", "kinds", "[I", true), ("PlantKeeper$Grid", "cells", "[I", true), ("PlantKeeper$Grid", "memories", "[I", true), ("PlantKeeper$Grid", "links", "[Z", true), ("PlantKeeper$Grid", "rows", "I", false), ("PlantKeeper$Grid", "columns", "I", false)]
def F_8 : u_T := fun k => LF_8.getD k ("", "", "", false)
def LF_9 : List (String × String × String × Bool) := [("PlantKeeper$Prover", "c", "LPlantKeeper$Code;", true), ("PlantKeeper$Prover", "unit", "I", false), ("PlantKeeper$Prover", "at", "I", false), ("PlantKeeper$Prover", "steps", "[J", true), ("PlantKeeper$Prover", "depths", "[I", true), ("PlantKeeper$Prover", "depth", "[I", true), ("PlantKeeper$Prover", "sums", "[J", true), ("PlantKeeper$Prover", "exits", "[J", true), ("PlantKeeper$Prover", "edgeFrom", "[I", true), ("PlantKeeper$Prover", "edgeTo", "[I", true), ("PlantKeeper$Prover", "edgeSum", "[J", true), ("PlantKeeper$Prover", "edges", "I", false)]
def F_9 : u_T := fun k => LF_9.getD k ("", "", "", false)
def LF_10 : List (String × String × String × Bool) := [("PlantKeeper$Machine", "code", "LPlantKeeper$Code;", true), ("PlantKeeper$Machine", "cells", "[I", true), ("PlantKeeper$Machine", "stack", "[I", true), ("PlantKeeper$Machine", "depth", "I", false), ("PlantKeeper$Machine", "units", "[I", true), ("PlantKeeper$Machine", "bases", "[I", true), ("PlantKeeper$Machine", "places", "[I", true), ("PlantKeeper$Machine", "level", "I", false), ("PlantKeeper$Machine", "now", "I", false), ("PlantKeeper$Machine", "steps", "I", false), ("PlantKeeper$Machine", "deepest", "I", false)]
def F_10 : u_T := fun k => LF_10.getD k ("", "", "", false)
def LF_11 : List (String × String × String × Bool) := [("PlantKeeper$Images", "machine", "LPlantKeeper$Machine;", true), ("PlantKeeper$Images", "bits", "[I", true), ("PlantKeeper$Images", "words", "[I", true), ("PlantKeeper$Images", "safeBits", "[I", true), ("PlantKeeper$Images", "safeWords", "[I", true)]
def F_11 : u_T := fun k => LF_11.getD k ("", "", "", false)
def LF_12 : List (String × String × String × Bool) := [("PlantKeeper$Check", "row", "[S", true)]
def F_12 : u_T := fun k => LF_12.getD k ("", "", "", false)
def LF_13 : List (String × String × String × Bool) := [("PlantKeeper$Line", "check", "LPlantKeeper$Check;", true), ("PlantKeeper$Line", "bytes", "[B", true), ("PlantKeeper$Line", "size", "I", false), ("PlantKeeper$Line", "sum", "I", false), ("PlantKeeper$Line", "gap", "I", false), ("PlantKeeper$Line", "spoilt", "Z", false)]
def F_13 : u_T := fun k => LF_13.getD k ("", "", "", false)
def LF_14 : List (String × String × String × Bool) := [("PlantKeeper$Desk", "tables", "LPlantKeeper$Tables;", true), ("PlantKeeper$Desk", "check", "LPlantKeeper$Check;", true), ("PlantKeeper$Desk", "reply", "[B", true), ("PlantKeeper$Desk", "size", "I", false), ("PlantKeeper$Desk", "line", "LPlantKeeper$Line;", false), ("PlantKeeper$Desk", "function", "I", false), ("PlantKeeper$Desk", "first", "I", false), ("PlantKeeper$Desk", "number", "I", false), ("PlantKeeper$Desk", "many", "I", false)]
def F_14 : u_T := fun k => LF_14.getD k ("", "", "", false)
def LF_15 : List (String × String × String × Bool) := [("PlantKeeperModel", "thrown", "I", false), ("PlantKeeperModel", "size", "I", false), ("PlantKeeperModel", "text", "[B", true), ("PlantKeeperModel", "names", "I", false), ("PlantKeeperModel", "nameBytes", "[B", true), ("PlantKeeperModel", "nameSizes", "[I", true), ("PlantKeeperModel", "kind", "I", false), ("PlantKeeperModel", "at", "I", false), ("PlantKeeperModel", "behind", "I", false), ("PlantKeeperModel", "value", "I", false), ("PlantKeeperModel", "fault", "I", false), ("PlantKeeperModel", "faultAt", "I", false), ("PlantKeeperModel", "deep", "I", false), ("PlantKeeperModel", "nested", "I", false), ("PlantKeeperModel", "made", "I", false), ("PlantKeeperModel", "kinds", "[I", true), ("PlantKeeperModel", "places", "[I", true), ("PlantKeeperModel", "values", "[I", true), ("PlantKeeperModel", "above", "[I", true), ("PlantKeeperModel", "first", "[I", true), ("PlantKeeperModel", "last", "[I", true), ("PlantKeeperModel", "beside", "[I", true), ("PlantKeeperModel", "there", "Z", false), ("PlantKeeperModel", "order", "[I", true), ("PlantKeeperModel", "numbers", "[I", true), ("PlantKeeperModel", "operands", "I", false), ("PlantKeeperModel", "parts", "[I", true), ("PlantKeeperModel", "signs", "[I", true), ("PlantKeeperModel", "signPlaces", "[I", true), ("PlantKeeperModel", "judged", "I", false), ("PlantKeeperModel", "judgedAt", "I", false), ("PlantKeeperModel", "hand", "Z", false), ("PlantKeeperModel", "many", "I", false), ("PlantKeeperModel", "blocks", "I", false), ("PlantKeeperModel", "blockNodes", "[I", true), ("PlantKeeperModel", "blockNames", "[I", true), ("PlantKeeperModel", "blockKinds", "[I", true), ("PlantKeeperModel", "blockTypes", "[I", true), ("PlantKeeperModel", "blockCells", "[I", true), ("PlantKeeperModel", "blockPlaces", "[I", true), ("PlantKeeperModel", "from", "[I", true), ("PlantKeeperModel", "variables", "I", false), ("PlantKeeperModel", "varNames", "[I", true), ("PlantKeeperModel", "varSorts", "[I", true), ("PlantKeeperModel", "varTypes", "[I", true), ("PlantKeeperModel", "varCells", "[I", true), ("PlantKeeperModel", "varSections", "[I", true), ("PlantKeeperModel", "varPlaces", "[I", true), ("PlantKeeperModel", "varLows", "[I", true), ("PlantKeeperModel", "varSizes", "[I", true), ("PlantKeeperModel", "varFirsts", "[I", true), ("PlantKeeperModel", "types", "[I", true), ("PlantKeeperModel", "cellsOf", "[I", true), ("PlantKeeperModel", "meanings", "[I", true), ("PlantKeeperModel", "here", "I", false), ("PlantKeeperModel", "total", "I", false), ("PlantKeeperModel", "code", "I", false), ("PlantKeeperModel", "begins", "[I", true), ("PlantKeeperModel", "unit", "I", false), ("PlantKeeperModel", "ops", "[I", true), ("PlantKeeperModel", "as", "[I", true), ("PlantKeeperModel", "bs", "[I", true), ("PlantKeeperModel", "cs", "[I", true), ("PlantKeeperModel", "levels", "[I", true), ("PlantKeeperModel", "loops", "I", false), ("PlantKeeperModel", "bounds", "[J", true), ("PlantKeeperModel", "waits", "I", false), ("PlantKeeperModel", "ends", "[I", true), ("PlantKeeperModel", "leaving", "I", false), ("PlantKeeperModel", "exits", "[I", true), ("PlantKeeperModel", "depths", "[I", true), ("PlantKeeperModel", "sums", "[J", true), ("PlantKeeperModel", "cells", "[I", true), ("PlantKeeperModel", "now", "I", false), ("PlantKeeperModel", "steps", "I", false), ("PlantKeeperModel", "stopped", "I", false), ("PlantKeeperModel", "high", "I", false), ("PlantKeeperModel", "stack", "[I", true), ("PlantKeeperModel", "taped", "I", false), ("PlantKeeperModel", "tape", "[B", true), ("PlantKeeperModel", "loadFault", "I", false), ("PlantKeeperModel", "loadAt", "I", false), ("PlantKeeperModel", "has", "Z", false), ("PlantKeeperModel", "station", "I", false), ("PlantKeeperModel", "scans", "I", false), ("PlantKeeperModel", "over", "I", false), ("PlantKeeperModel", "halted", "Z", false), ("PlantKeeperModel", "seen", "I", false), ("PlantKeeperModel", "outSize", "I", false), ("PlantKeeperModel", "out", "[I", true), ("PlantKeeperModel", "inputsPut", "[I", true), ("PlantKeeperModel", "published", "[I", true), ("PlantKeeperModel", "safe", "[I", true), ("PlantKeeperModel", "pathAt", "I", false), ("PlantKeeperModel", "pathEnd", "I", false), ("PlantKeeperModel", "nameFrom", "I", false)]
def F_15 : u_T := fun k => LF_15.getD k ("", "", "", false)
def LF_16 : List (String × String × String × Bool) := [("java/lang/String", "value", "[B", true), ("java/lang/String", "coder", "B", true), ("java/lang/String", "hash", "I", false), ("java/lang/String", "hashIsZero", "Z", false)]
def F_16 : u_T := fun k => LF_16.getD k ("", "", "", false)
abbrev classes : List vw_C := [("PlantKeeper", F_0, 28), ("PlantKeeper$Names", F_1, 3), ("PlantKeeper$Tokens", F_2, 9), ("PlantKeeper$Nodes", F_3, 10), ("PlantKeeper$Reader", F_4, 11), ("PlantKeeper$Rules", F_5, 30), ("PlantKeeper$Code", F_6, 7), ("PlantKeeper$Maker", F_7, 12), ("PlantKeeper$Grid", F_8, 7), ("PlantKeeper$Prover", F_9, 12), ("PlantKeeper$Machine", F_10, 11), ("PlantKeeper$Images", F_11, 5), ("PlantKeeper$Check", F_12, 1), ("PlantKeeper$Line", F_13, 6), ("PlantKeeper$Desk", F_14, 9), ("PlantKeeperModel", F_15, 96), ("java/lang/String", F_16, 4)]
def layP : List (List Nat) := [[2170, 2172, 2174, 2176, 2178, 2180, 2182, 2184, 2186, 2188, 2190, 2192, 2194, 2196, 2198, 2200, 2202, 2204, 2206, 2208, 2210, 2212, 2214, 2216, 2218, 2220, 2222, 2224], [46, 48, 50], [75, 77, 79, 81, 83, 85, 87, 89, 91], [126, 128, 130, 132, 134, 136, 138, 140, 142, 144], [165, 167, 169, 171, 173, 175, 177, 179, 181, 183, 185], [1011, 1013, 1015, 1017, 1019, 1021, 1023, 1025, 1027, 1029, 1031, 1033, 1035, 1037, 1039, 1041, 1043, 1045, 1047, 1049, 1051, 1053, 1055, 1057, 1059, 1061, 1063, 1065, 1067, 1069], [1097, 1099, 1101, 1103, 1105, 1107, 1109], [1162, 1164, 1166, 1168, 1170, 1172, 1174, 1176, 1178, 1180, 1182, 1184], [1135, 1137, 1139, 1141, 1143, 1145, 1147], [1207, 1209, 1211, 1213, 1215, 1217, 1219, 1221, 1223, 1225, 1227, 1229], [2013, 2015, 2017, 2019, 2021, 2023, 2025, 2027, 2029, 2031, 2033], [2052, 2054, 2056, 2058, 2060], [2071], [2093, 2095, 2097, 2099, 2101, 2103], [2123, 2125, 2127, 2129, 2131, 2133, 2135, 2137, 2139], [8089, 8091, 8093, 8095, 8097, 8099, 8101, 8103, 8105, 8107, 8109, 8111, 8113, 8115, 8117, 8119, 8121, 8123, 8125, 8127, 8129, 8131, 8133, 8135, 8137, 8139, 8141, 8143, 8145, 8147, 8149, 8151, 8153, 8155, 8157, 8159, 8161, 8163, 8165, 8167, 8169, 8171, 8173, 8175, 8177, 8179, 8181, 8183, 8185, 8187, 8189, 8191, 8193, 8195, 8197, 8199, 8201, 8203, 8205, 8207, 8209, 8211, 8213, 8215, 8217, 8219, 8221, 8223, 8225, 8227, 8229, 8231, 8233, 8235, 8237, 8239, 9001, 9003, 9005, 9007, 9009, 9011, 9013, 9015, 9017, 9019, 9021, 9023, 9025, 9027, 9029, 9031, 9033, 9035, 9037, 9039], [11108, 11110, 11112, 11114]]
abbrev Kd : Type := (Nat × List Nat) ⊕ (Nat × Nat)
/-- cells by their ids: an object (number of what it is of, its fields: 0 whole number, 1 truth, 10 + id: that cell, 5000 + id: none or that cell), or a row (kind of its places, length) -/
def kds : List Kd := [.inl (0, [11, 0, 12, 15, 17, 27, 31, 51, 56, 64, 73, 79, 84, 86, 88, 0, 0, 1, 1, 0, 0, 0, 0, 0, 0, 0, 90, 0]), .inr (1, 16384), .inl (1, [13, 14, 0]), .inr (1, 16384), .inr (0, 16385), .inl (2, [11, 12, 16, 0, 0, 0, 0, 0, 0]), .inr (1, 32), .inl (3, [18, 19, 20, 21, 22, 23, 24, 25, 26, 0]), .inr (0, 33500), .inr (0, 33500), .inr (0, 33500), .inr (0, 33500), .inr (0, 33500), .inr (0, 33500), .inr (0, 33500), .inr (0, 33500), .inr (0, 33500), .inl (4, [15, 17, 0, 0, 0, 0, 28, 29, 30, 0, 0]), .inr (0, 64), .inr (0, 64), .inr (0, 128), .inl (5, [17, 12, 0, 0, 33, 34, 35, 36, 37, 38, 39, 40, 41, 42, 43, 44, 45, 0, 46, 47, 48, 49, 0, 0, 0, 0, 0, 32, 50, 0]), .inr (4, 1536), .inr (0, 16384), .inr (0, 16384), .inr (0, 33500), .inr (0, 33500), .inr (0, 33500), .inr (0, 16384), .inr (0, 16384), .inr (0, 16384), .inr (0, 16384), .inr (0, 16384), .inr (0, 16384), .inr (0, 16384), .inr (0, 16384), .inr (0, 800), .inr (0, 801), .inr (0, 800), .inr (0, 800), .inr (0, 16384), .inl (6, [55, 52, 53, 54, 0, 0, 0]), .inr (0, 17), .inr (0, 16), .inr (0, 16), .inr (0, 16000), .inl (7, [17, 31, 51, 0, 0, 57, 62, 0, 63, 0, 1, 0]), .inl (8, [0, 58, 59, 60, 61, 0, 0]), .inr (0, 144), .inr (0, 144), .inr (0, 144), .inr (4, 144), .inr (0, 4000), .inr (0, 4000), .inl (9, [51, 0, 0, 65, 66, 67, 68, 69, 70, 71, 72, 0]), .inr (2, 16), .inr (0, 16), .inr (0, 4001), .inr (2, 4001), .inr (2, 4001), .inr (0, 24000), .inr (0, 24000), .inr (2, 24000), .inl (10, [51, 78, 74, 0, 75, 76, 77, 0, 0, 0, 0]), .inr (0, 1100), .inr (0, 17), .inr (0, 17), .inr (0, 17), .inr (0, 8192), .inl (11, [73, 80, 81, 82, 83]), .inr (0, 512), .inr (0, 192), .inr (0, 256), .inr (0, 64), .inl (12, [85]), .inr (3, 256), .inl (13, [84, 87, 0, 0, 0, 1]), .inr (1, 256), .inl (14, [79, 84, 89, 0, 5076, 0, 0, 0, 0]), .inr (1, 256), .inr (1, 32), .inl (15, [0, 0, 92, 0, 93, 94, 0, 0, 0, 0, 0, 0, 0, 0, 0, 95, 96, 97, 98, 99, 100, 101, 1, 102, 103, 0, 104, 105, 106, 0, 0, 1, 0, 0, 107, 108, 109, 110, 111, 112, 113, 0, 114, 115, 116, 117, 118, 119, 120, 121, 122, 123, 124, 125, 0, 0, 0, 126, 0, 127, 128, 129, 130, 131, 0, 132, 0, 133, 0, 134, 135, 136, 137, 0, 0, 0, 0, 138, 0, 139, 0, 0, 1, 0, 0, 0, 1, 0, 0, 140, 141, 142, 143, 0, 0, 0]), .inr (1, 16384), .inr (1, 262144), .inr (0, 8192), .inr (0, 33500), .inr (0, 33500), .inr (0, 33500), .inr (0, 33500), .inr (0, 33500), .inr (0, 33500), .inr (0, 33500), .inr (0, 33500), .inr (0, 33500), .inr (0, 200), .inr (0, 200), .inr (0, 200), .inr (0, 2100), .inr (0, 2100), .inr (0, 2100), .inr (0, 2100), .inr (0, 2100), .inr (0, 2100), .inr (0, 2101), .inr (0, 8400), .inr (0, 8400), .inr (0, 8400), .inr (0, 8400), .inr (0, 8400), .inr (0, 8400), .inr (0, 8400), .inr (0, 8400), .inr (0, 8400), .inr (0, 33500), .inr (0, 33500), .inr (0, 33500), .inr (0, 17), .inr (0, 4000), .inr (0, 4000), .inr (0, 4000), .inr (0, 4000), .inr (0, 4001), .inr (2, 16), .inr (0, 8400), .inr (0, 4000), .inr (0, 4001), .inr (2, 248100), .inr (0, 8192), .inr (0, 1200), .inr (1, 16384), .inr (0, 300), .inr (0, 320), .inr (0, 320), .inr (0, 320)]
abbrev MI : Type := MethodName × ByteArray × Nat × Option FieldType
set_option maxRecDepth 20000 in
def mths : List MI := [(⟨"PlantKeeper$Line", "clear", "()V"⟩, prog_8_method_2_code, 1, none),
  (⟨"PlantKeeper", "feed", "(IIIII)I"⟩, prog_1_method_4_code, 6, some .int),
  (⟨"PlantKeeper", "add", "(I)V"⟩, prog_1_method_3_code, 3, none),
  (⟨"PlantKeeper", "end", "(I)I"⟩, prog_1_method_5_code, 2, some .int),
  (⟨"PlantKeeper", "within", "(III)Z"⟩, prog_1_method_1_code, 3, some .boolean),
  (⟨"PlantKeeper", "load", "(I)I"⟩, prog_1_method_10_code, 3, some .int),
  (⟨"PlantKeeper", "take", "()I"⟩, prog_1_method_6_code, 2, some .int),
  (⟨"PlantKeeper$Reader", "read", "(I)I"⟩, prog_14_method_2_code, 3, some .int),
  (⟨"PlantKeeper$Names", "clear", "()V"⟩, prog_11_method_2_code, 1, none),
  (⟨"PlantKeeper$Tokens", "begin", "(I)V"⟩, prog_18_method_2_code, 2, none),
  (⟨"PlantKeeper$Tokens", "next", "()V"⟩, prog_18_method_11_code, 2, none),
  (⟨"PlantKeeper$Tokens", "skip", "()V"⟩, prog_18_method_9_code, 3, none),
  (⟨"PlantKeeper$Tokens", "peek", "(I)I"⟩, prog_18_method_3_code, 2, some .int),
  (⟨"PlantKeeper$Tokens", "remark", "()V"⟩, prog_18_method_10_code, 1, none),
  (⟨"PlantKeeper$Tokens", "fail", "(I)V"⟩, prog_18_method_8_code, 2, none),
  (⟨"PlantKeeper$Tokens", "great", "(I)I"⟩, prog_18_method_4_code, 1, some .int),
  (⟨"PlantKeeper$Tokens", "time", "()V"⟩, prog_18_method_18_code, 7, none),
  (⟨"PlantKeeper$Tokens", "digits", "(I)J"⟩, prog_18_method_15_code, 4, some .long),
  (⟨"PlantKeeper$Tokens", "digit", "(I)I"⟩, prog_18_method_14_code, 1, some .int),
  (⟨"PlantKeeper$Tokens", "isDigit", "(I)Z"⟩, prog_18_method_5_code, 1, some .boolean),
  (⟨"PlantKeeper$Tokens", "take", "(J)V"⟩, prog_18_method_16_code, 3, none),
  (⟨"PlantKeeper$Tokens", "isPart", "(I)Z"⟩, prog_18_method_7_code, 1, some .boolean),
  (⟨"PlantKeeper$Tokens", "isLetter", "(I)Z"⟩, prog_18_method_6_code, 1, some .boolean),
  (⟨"PlantKeeper$Tokens", "name", "()V"⟩, prog_18_method_12_code, 2, none),
  (⟨"PlantKeeper$Tokens", "word", "(I)I"⟩, prog_18_method_13_code, 5, some .int),
  (⟨"PlantKeeper$Names", "number", "([BI)I"⟩, prog_11_method_5_code, 6, some .int),
  (⟨"PlantKeeper$Names", "size", "(I)I"⟩, prog_11_method_3_code, 2, some .int),
  (⟨"PlantKeeper$Tokens", "number", "()V"⟩, prog_18_method_17_code, 3, none),
  (⟨"PlantKeeper$Tokens", "place", "()V"⟩, prog_18_method_19_code, 4, none),
  (⟨"PlantKeeper$Tokens", "sign", "(I)V"⟩, prog_18_method_20_code, 6, none),
  (⟨"PlantKeeper$Reader", "check", "()V"⟩, prog_14_method_3_code, 1, none),
  (⟨"PlantKeeper$Nodes", "add", "(III)I"⟩, prog_12_method_2_code, 5, some .int),
  (⟨"PlantKeeper$Reader", "block", "(I)V"⟩, prog_14_method_15_code, 6, none),
  (⟨"PlantKeeper$Reader", "fail", "(I)V"⟩, prog_14_method_4_code, 2, none),
  (⟨"PlantKeeper$Reader", "add", "(III)I"⟩, prog_14_method_14_code, 5, some .int),
  (⟨"PlantKeeper$Nodes", "put", "(II)V"⟩, prog_12_method_3_code, 3, none),
  (⟨"PlantKeeper$Reader", "next", "()V"⟩, prog_14_method_5_code, 1, none),
  (⟨"PlantKeeper$Reader", "name", "()I"⟩, prog_14_method_12_code, 2, some .int),
  (⟨"PlantKeeper$Reader", "isKind", "(I)Z"⟩, prog_14_method_8_code, 2, some .boolean),
  (⟨"PlantKeeper$Reader", "sign", "(I)V"⟩, prog_14_method_10_code, 2, none),
  (⟨"PlantKeeper$Reader", "isSign", "(I)Z"⟩, prog_14_method_7_code, 2, some .boolean),
  (⟨"PlantKeeper$Reader", "simple", "(I)V"⟩, prog_14_method_18_code, 3, none),
  (⟨"PlantKeeper$Reader", "isWord", "(I)Z"⟩, prog_14_method_6_code, 2, some .boolean),
  (⟨"PlantKeeper$Reader", "section", "(I)I"⟩, prog_14_method_16_code, 4, some .int),
  (⟨"PlantKeeper$Reader", "declaration", "(I)V"⟩, prog_14_method_17_code, 4, none),
  (⟨"PlantKeeper$Reader", "takes", "(I)Z"⟩, prog_14_method_11_code, 3, some .boolean),
  (⟨"PlantKeeper$Reader", "type", "(I)V"⟩, prog_14_method_19_code, 3, none),
  (⟨"PlantKeeper$Reader", "constant", "(I)V"⟩, prog_14_method_20_code, 5, none),
  (⟨"PlantKeeper$Reader", "word", "(I)V"⟩, prog_14_method_9_code, 2, none),
  (⟨"PlantKeeper$Reader", "ladder", "(I)V"⟩, prog_14_method_38_code, 4, none),
  (⟨"PlantKeeper$Reader", "row", "(I)V"⟩, prog_14_method_39_code, 4, none),
  (⟨"PlantKeeper$Reader", "cell", "(I)V"⟩, prog_14_method_40_code, 6, none),
  (⟨"PlantKeeper$Reader", "output", "(II)I"⟩, prog_14_method_36_code, 5, some .int),
  (⟨"PlantKeeper$Reader", "body", "(II)V"⟩, prog_14_method_21_code, 5, none),
  (⟨"PlantKeeper$Reader", "statement", "(I)Z"⟩, prog_14_method_22_code, 3, some .boolean),
  (⟨"PlantKeeper$Reader", "named", "(I)V"⟩, prog_14_method_23_code, 6, none),
  (⟨"PlantKeeper$Reader", "invoke", "(I)V"⟩, prog_14_method_25_code, 4, none),
  (⟨"PlantKeeper$Reader", "open", "()V"⟩, prog_14_method_13_code, 1, none),
  (⟨"PlantKeeper$Reader", "expression", "()I"⟩, prog_14_method_33_code, 5, some .int),
  (⟨"PlantKeeper$Reader", "operand", "()I"⟩, prog_14_method_34_code, 3, some .int),
  (⟨"PlantKeeper$Reader", "simpleOperand", "()I"⟩, prog_14_method_35_code, 4, some .int),
  (⟨"PlantKeeper$Reader", "index", "(I)V"⟩, prog_14_method_24_code, 2, none),
  (⟨"PlantKeeper$Reader", "arguments", "(I)V"⟩, prog_14_method_37_code, 2, none),
  (⟨"PlantKeeper$Reader", "operator", "()I"⟩, prog_14_method_31_code, 1, some .int),
  (⟨"PlantKeeper$Reader", "reduce", "()V"⟩, prog_14_method_32_code, 2, none),
  (⟨"PlantKeeper$Reader", "choose", "(I)V"⟩, prog_14_method_26_code, 4, none),
  (⟨"PlantKeeper$Reader", "otherwise", "(I)V"⟩, prog_14_method_27_code, 3, none),
  (⟨"PlantKeeper$Reader", "select", "(I)V"⟩, prog_14_method_29_code, 5, none),
  (⟨"PlantKeeper$Reader", "isConstant", "()Z"⟩, prog_14_method_28_code, 1, some .boolean),
  (⟨"PlantKeeper$Reader", "repeat", "(I)V"⟩, prog_14_method_30_code, 4, none),
  (⟨"PlantKeeper$Nodes", "settle", "(I)V"⟩, prog_12_method_7_code, 4, none),
  (⟨"PlantKeeper$Nodes", "following", "(I)I"⟩, prog_12_method_5_code, 3, some .int),
  (⟨"PlantKeeper$Nodes", "move", "([IZ)V"⟩, prog_12_method_6_code, 4, none),
  (⟨"PlantKeeper", "fail", "(II)I"⟩, prog_1_method_7_code, 3, some .int),
  (⟨"PlantKeeper$Rules", "judge", "()I"⟩, prog_15_method_11_code, 3, some .int),
  (⟨"PlantKeeper$Rules", "find", "([BI)I"⟩, prog_15_method_2_code, 7, some .int),
  (⟨"PlantKeeper$Names", "get", "(II)I"⟩, prog_11_method_4_code, 3, some .int),
  (⟨"PlantKeeper$Rules", "leave", "(I)V"⟩, prog_15_method_13_code, 5, none),
  (⟨"PlantKeeper$Rules", "leaveText", "(I)V"⟩, prog_15_method_14_code, 4, none),
  (⟨"PlantKeeper$Rules", "rule", "(ZII)V"⟩, prog_15_method_4_code, 4, none),
  (⟨"PlantKeeper$Rules", "fail", "(II)V"⟩, prog_15_method_3_code, 3, none),
  (⟨"PlantKeeper$Rules", "leaveBlock", "(I)V"⟩, prog_15_method_16_code, 6, none),
  (⟨"PlantKeeper$Rules", "end", "(I)I"⟩, prog_15_method_15_code, 3, some .int),
  (⟨"PlantKeeper$Rules", "blockKind", "()I"⟩, prog_15_method_7_code, 1, some .int),
  (⟨"PlantKeeper$Rules", "leaveDeclaration", "(I)V"⟩, prog_15_method_19_code, 11, none),
  (⟨"PlantKeeper$Rules", "blockNamed", "(II)I"⟩, prog_15_method_8_code, 5, some .int),
  (⟨"PlantKeeper$Rules", "isRightConstant", "(IIII)Z"⟩, prog_15_method_20_code, 6, some .boolean),
  (⟨"PlantKeeper$Rules", "cellsOf", "(I)I"⟩, prog_15_method_18_code, 2, some .int),
  (⟨"PlantKeeper$Rules", "leaveName", "(I)V"⟩, prog_15_method_21_code, 5, none),
  (⟨"PlantKeeper$Rules", "parentKind", "(I)I"⟩, prog_15_method_6_code, 2, some .int),
  (⟨"PlantKeeper$Rules", "kind", "(I)I"⟩, prog_15_method_5_code, 2, some .int),
  (⟨"PlantKeeper$Rules", "variable", "(I)I"⟩, prog_15_method_9_code, 3, some .int),
  (⟨"PlantKeeper$Rules", "addVariable", "(II)I"⟩, prog_15_method_10_code, 3, some .int),
  (⟨"PlantKeeper$Rules", "named", "(II)I"⟩, prog_15_method_22_code, 4, some .int),
  (⟨"PlantKeeper$Rules", "leaveArray", "(I)V"⟩, prog_15_method_17_code, 5, none),
  (⟨"PlantKeeper$Rules", "leaveStatement", "(I)V"⟩, prog_15_method_27_code, 6, none),
  (⟨"PlantKeeper$Rules", "assigned", "(II)V"⟩, prog_15_method_29_code, 4, none),
  (⟨"PlantKeeper$Rules", "isIn", "(II)Z"⟩, prog_15_method_28_code, 5, some .boolean),
  (⟨"PlantKeeper$Rules", "fits", "(II)Z"⟩, prog_15_method_25_code, 2, some .boolean),
  (⟨"PlantKeeper$Rules", "leaveParameter", "(I)V"⟩, prog_15_method_31_code, 6, none),
  (⟨"PlantKeeper$Rules", "part", "(IIZ)I"⟩, prog_15_method_30_code, 6, some .int),
  (⟨"PlantKeeper$Rules", "isNumber", "(I)Z"⟩, prog_15_method_23_code, 1, some .boolean),
  (⟨"PlantKeeper$Rules", "leaveFor", "(I)V"⟩, prog_15_method_32_code, 3, none),
  (⟨"PlantKeeper$Rules", "times", "(II)J"⟩, prog_15_method_34_code, 10, some .long),
  (⟨"PlantKeeper$Rules", "isWithin", "(II)Z"⟩, prog_15_method_33_code, 3, some .boolean),
  (⟨"PlantKeeper$Rules", "leaveExpression", "(I)V"⟩, prog_15_method_35_code, 7, none),
  (⟨"PlantKeeper$Rules", "leaveCall", "(I)V"⟩, prog_15_method_37_code, 6, none),
  (⟨"PlantKeeper$Nodes", "children", "(I)I"⟩, prog_12_method_4_code, 4, some .int),
  (⟨"PlantKeeper$Rules", "leaveOwnCall", "(III)V"⟩, prog_15_method_39_code, 8, none),
  (⟨"PlantKeeper$Rules", "standardType", "(II)I"⟩, prog_15_method_38_code, 8, some .int),
  (⟨"PlantKeeper$Rules", "wider", "(II)I"⟩, prog_15_method_24_code, 2, some .int),
  (⟨"PlantKeeper$Rules", "both", "(II)I"⟩, prog_15_method_26_code, 2, some .int),
  (⟨"PlantKeeper$Rules", "two", "(III)I"⟩, prog_15_method_36_code, 5, some .int),
  (⟨"PlantKeeper$Rules", "leaveRung", "(II)V"⟩, prog_15_method_41_code, 4, none),
  (⟨"PlantKeeper$Rules", "width", "(I)I"⟩, prog_15_method_40_code, 4, some .int),
  (⟨"PlantKeeper$Rules", "enter", "(I)V"⟩, prog_15_method_12_code, 5, none),
  (⟨"PlantKeeper$Maker", "make", "()Z"⟩, prog_10_method_2_code, 2, some .boolean),
  (⟨"PlantKeeper$Code", "clear", "(I)V"⟩, prog_4_method_2_code, 2, none),
  (⟨"PlantKeeper$Maker", "block", "(I)V"⟩, prog_10_method_10_code, 5, none),
  (⟨"PlantKeeper$Code", "unit", "(II)I"⟩, prog_4_method_3_code, 3, some .int),
  (⟨"PlantKeeper$Maker", "put", "(IIII)V"⟩, prog_10_method_3_code, 6, none),
  (⟨"PlantKeeper$Code", "add", "(IIII)I"⟩, prog_4_method_6_code, 5, some .int),
  (⟨"PlantKeeper$Code", "set", "(IIIII)V"⟩, prog_4_method_5_code, 6, none),
  (⟨"PlantKeeper$Code", "length", "(I)I"⟩, prog_4_method_4_code, 2, some .int),
  (⟨"PlantKeeper$Maker", "locals", "(I)V"⟩, prog_10_method_12_code, 4, none),
  (⟨"PlantKeeper$Maker", "constant", "(I)I"⟩, prog_10_method_11_code, 3, some .int),
  (⟨"PlantKeeper$Maker", "rung", "(II)V"⟩, prog_10_method_35_code, 10, none),
  (⟨"PlantKeeper$Grid", "begin", "(II)V"⟩, prog_6_method_2_code, 4, none),
  (⟨"PlantKeeper$Grid", "at", "(II)I"⟩, prog_6_method_3_code, 3, some .int),
  (⟨"PlantKeeper$Maker", "cell", "(III)V"⟩, prog_10_method_36_code, 5, none),
  (⟨"PlantKeeper$Grid", "set", "(IIIII)V"⟩, prog_6_method_4_code, 7, none),
  (⟨"PlantKeeper$Grid", "plan", "(LPlantKeeper$Sink;I)V"⟩, prog_6_method_9_code, 5, none),
  (⟨"PlantKeeper$Grid", "head", "(II)I"⟩, prog_6_method_6_code, 4, some .int),
  (⟨"PlantKeeper$Grid", "isLinked", "(II)Z"⟩, prog_6_method_5_code, 3, some .boolean),
  (⟨"PlantKeeper$Grid", "hasPoint", "(II)Z"⟩, prog_6_method_8_code, 3, some .boolean),
  (⟨"PlantKeeper$Grid", "isCoil", "(I)Z"⟩, prog_6_method_7_code, 2, some .boolean),
  (⟨"PlantKeeper$Grid", "group", "(LPlantKeeper$Sink;III)V"⟩, prog_6_method_11_code, 7, none),
  (⟨"PlantKeeper$Grid", "term", "(LPlantKeeper$Sink;III)V"⟩, prog_6_method_13_code, 6, none),
  (⟨"PlantKeeper$Grid", "before", "(LPlantKeeper$Sink;III)V"⟩, prog_6_method_12_code, 5, none),
  (⟨"PlantKeeper$Maker", "add", "(II)V"⟩, prog_10_method_5_code, 3, none),
  (⟨"PlantKeeper$Grid", "power", "(III)I"⟩, prog_6_method_10_code, 4, some .int),
  (⟨"PlantKeeper$Grid", "coil", "(LPlantKeeper$Sink;II)V"⟩, prog_6_method_14_code, 5, none),
  (⟨"PlantKeeper$Maker", "body", "(I)V"⟩, prog_10_method_17_code, 3, none),
  (⟨"PlantKeeper$Maker", "statement", "(I)V"⟩, prog_10_method_18_code, 5, none),
  (⟨"PlantKeeper$Maker", "assign", "(II)V"⟩, prog_10_method_20_code, 4, none),
  (⟨"PlantKeeper$Maker", "expression", "(I)V"⟩, prog_10_method_32_code, 4, none),
  (⟨"PlantKeeper$Maker", "isConstant", "(I)Z"⟩, prog_10_method_27_code, 5, some .boolean),
  (⟨"PlantKeeper$Maker", "two", "(I)I"⟩, prog_10_method_28_code, 2, some .int),
  (⟨"PlantKeeper$Maker", "value", "(I)I"⟩, prog_10_method_30_code, 3, some .int),
  (⟨"PlantKeeper$Maker", "one", "(I)I"⟩, prog_10_method_29_code, 2, some .int),
  (⟨"PlantKeeper$Alu", "one", "(II)I"⟩, prog_2_method_7_code, 2, some .int),
  (⟨"PlantKeeper$Alu", "wide16", "(I)I"⟩, prog_2_method_2_code, 1, some .int),
  (⟨"PlantKeeper$Alu", "two", "(III)I"⟩, prog_2_method_4_code, 3, some .int),
  (⟨"PlantKeeper$Alu", "compare", "(III)I"⟩, prog_2_method_5_code, 4, some .int),
  (⟨"PlantKeeper$Alu", "shift", "(III)I"⟩, prog_2_method_6_code, 3, some .int),
  (⟨"PlantKeeper$Maker", "standard", "(II)I"⟩, prog_10_method_31_code, 6, some .int),
  (⟨"PlantKeeper$Alu", "isZero", "(II)Z"⟩, prog_2_method_3_code, 2, some .boolean),
  (⟨"PlantKeeper$Maker", "named", "(I)I"⟩, prog_10_method_19_code, 2, some .int),
  (⟨"PlantKeeper$Maker", "variable", "(II)I"⟩, prog_10_method_16_code, 4, some .int),
  (⟨"PlantKeeper$Maker", "call", "(II)V"⟩, prog_10_method_33_code, 6, none),
  (⟨"PlantKeeper$Maker", "callOwn", "(II)V"⟩, prog_10_method_34_code, 5, none),
  (⟨"PlantKeeper$Maker", "choose", "(I)V"⟩, prog_10_method_21_code, 5, none),
  (⟨"PlantKeeper$Maker", "branch", "(I)I"⟩, prog_10_method_22_code, 4, some .int),
  (⟨"PlantKeeper$Maker", "goes", "(I)I"⟩, prog_10_method_6_code, 3, some .int),
  (⟨"PlantKeeper$Maker", "here", "()I"⟩, prog_10_method_4_code, 1, some .int),
  (⟨"PlantKeeper$Maker", "arrive", "(I)V"⟩, prog_10_method_7_code, 2, none),
  (⟨"PlantKeeper$Maker", "close", "(II)V"⟩, prog_10_method_23_code, 3, none),
  (⟨"PlantKeeper$Maker", "select", "(II)V"⟩, prog_10_method_24_code, 7, none),
  (⟨"PlantKeeper$Maker", "ranges", "(II)I"⟩, prog_10_method_25_code, 6, some .int),
  (⟨"PlantKeeper$Maker", "repeat", "(II)V"⟩, prog_10_method_26_code, 10, none),
  (⟨"PlantKeeper$Maker", "arriveAll", "(I)V"⟩, prog_10_method_9_code, 2, none),
  (⟨"PlantKeeper$Maker", "later", "(I)V"⟩, prog_10_method_8_code, 2, none),
  (⟨"PlantKeeper$Prover", "prove", "()I"⟩, prog_13_method_2_code, 3, some .int),
  (⟨"PlantKeeper$Prover", "proveUnit", "(I)I"⟩, prog_13_method_3_code, 4, some .int),
  (⟨"PlantKeeper$Prover", "isBadPlace", "(I)Z"⟩, prog_13_method_4_code, 7, some .boolean),
  (⟨"PlantKeeper$Prover", "form", "(II)I"⟩, prog_13_method_11_code, 5, some .int),
  (⟨"PlantKeeper$Prover", "a", "(II)I"⟩, prog_13_method_6_code, 3, some .int),
  (⟨"PlantKeeper$Code", "get", "(III)I"⟩, prog_4_method_7_code, 4, some .int),
  (⟨"PlantKeeper$Prover", "b", "(II)I"⟩, prog_13_method_7_code, 3, some .int),
  (⟨"PlantKeeper$Prover", "op", "(II)I"⟩, prog_13_method_5_code, 3, some .int),
  (⟨"PlantKeeper$Prover", "cells", "(III)I"⟩, prog_13_method_10_code, 4, some .int),
  (⟨"PlantKeeper$Prover", "isIn", "(III)Z"⟩, prog_13_method_9_code, 3, some .boolean),
  (⟨"PlantKeeper$Prover", "hasCounter", "(III)Z"⟩, prog_13_method_8_code, 7, some .boolean),
  (⟨"PlantKeeper$Prover", "formBehind", "(IIII)I"⟩, prog_13_method_12_code, 5, some .int),
  (⟨"PlantKeeper$Code", "blockCells", "(I)I"⟩, prog_4_method_8_code, 1, some .int),
  (⟨"PlantKeeper$Prover", "isBadLoop", "(II)Z"⟩, prog_13_method_15_code, 6, some .boolean),
  (⟨"PlantKeeper$Prover", "isOp", "(III)Z"⟩, prog_13_method_13_code, 4, some .boolean),
  (⟨"PlantKeeper$Prover", "isEnclosed", "(IIZI)Z"⟩, prog_13_method_16_code, 7, some .boolean),
  (⟨"PlantKeeper$Prover", "isInLoop", "(III)Z"⟩, prog_13_method_14_code, 4, some .boolean),
  (⟨"PlantKeeper$Prover", "goesInto", "(III)Z"⟩, prog_13_method_17_code, 6, some .boolean),
  (⟨"PlantKeeper$Prover", "stack", "(I)I"⟩, prog_13_method_18_code, 5, some .int),
  (⟨"PlantKeeper$Prover", "flow", "(III)I"⟩, prog_13_method_19_code, 10, some .int),
  (⟨"PlantKeeper$Prover", "comes", "(II)Z"⟩, prog_13_method_20_code, 3, some .boolean),
  (⟨"PlantKeeper$Prover", "reckon", "(I)J"⟩, prog_13_method_22_code, 4, some .long),
  (⟨"PlantKeeper$Prover", "reckonLoop", "(II)V"⟩, prog_13_method_27_code, 11, none),
  (⟨"PlantKeeper$Prover", "addEdge", "(IIJ)V"⟩, prog_13_method_26_code, 5, none),
  (⟨"PlantKeeper$Prover", "cap", "(J)J"⟩, prog_13_method_21_code, 2, some .long),
  (⟨"PlantKeeper$Prover", "go", "(III)V"⟩, prog_13_method_23_code, 6, none),
  (⟨"PlantKeeper$Prover", "follow", "(IIII)V"⟩, prog_13_method_25_code, 9, none),
  (⟨"PlantKeeper$Prover", "reach", "(IIJ)V"⟩, prog_13_method_24_code, 5, none),
  (⟨"PlantKeeper", "placeOf", "(I)I"⟩, prog_1_method_8_code, 2, some .int),
  (⟨"PlantKeeper", "bound", "()I"⟩, prog_1_method_9_code, 1, some .int),
  (⟨"PlantKeeper", "begin", "()V"⟩, prog_1_method_11_code, 1, none),
  (⟨"PlantKeeper$Machine", "clear", "()V"⟩, prog_9_method_2_code, 2, none),
  (⟨"PlantKeeper$Maker", "fillAll", "([I)V"⟩, prog_10_method_13_code, 3, none),
  (⟨"PlantKeeper$Maker", "fill", "([III)V"⟩, prog_10_method_14_code, 8, none),
  (⟨"PlantKeeper$Maker", "fillDeclaration", "([IIII)I"⟩, prog_10_method_15_code, 10, some .int),
  (⟨"PlantKeeper$Images", "publish", "(Z)V"⟩, prog_7_method_7_code, 2, none),
  (⟨"PlantKeeper$Images", "cell", "(I)I"⟩, prog_7_method_2_code, 1, some .int),
  (⟨"PlantKeeper", "restart", "()I"⟩, prog_1_method_12_code, 1, some .int),
  (⟨"PlantKeeper", "put", "(III)I"⟩, prog_1_method_17_code, 4, some .int),
  (⟨"PlantKeeper", "isPlace", "(II)Z"⟩, prog_1_method_13_code, 2, some .boolean),
  (⟨"PlantKeeper$Images", "many", "(I)I"⟩, prog_7_method_3_code, 1, some .int),
  (⟨"PlantKeeper", "isOutput", "(I)Z"⟩, prog_1_method_16_code, 1, some .boolean),
  (⟨"PlantKeeper", "isValue", "(II)Z"⟩, prog_1_method_14_code, 2, some .boolean),
  (⟨"PlantKeeper", "isInput", "(I)Z"⟩, prog_1_method_15_code, 1, some .boolean),
  (⟨"PlantKeeper$Images", "put", "(III)V"⟩, prog_7_method_5_code, 4, none),
  (⟨"PlantKeeper", "get", "(II)I"⟩, prog_1_method_18_code, 3, some .int),
  (⟨"PlantKeeper$Images", "place", "(II)I"⟩, prog_7_method_4_code, 3, some .int),
  (⟨"PlantKeeper", "safe", "(III)I"⟩, prog_1_method_19_code, 4, some .int),
  (⟨"PlantKeeper", "scan", "(I)I"⟩, prog_1_method_20_code, 3, some .int),
  (⟨"PlantKeeper$Images", "latch", "()V"⟩, prog_7_method_6_code, 1, none),
  (⟨"PlantKeeper$Machine", "run", "(I)I"⟩, prog_9_method_6_code, 5, some .int),
  (⟨"PlantKeeper$Machine", "enter", "(II)V"⟩, prog_9_method_5_code, 3, none),
  (⟨"PlantKeeper$Machine", "step", "(III)I"⟩, prog_9_method_7_code, 6, some .int),
  (⟨"PlantKeeper$Machine", "push", "(I)V"⟩, prog_9_method_3_code, 2, none),
  (⟨"PlantKeeper$Machine", "pop", "()I"⟩, prog_9_method_4_code, 1, some .int),
  (⟨"PlantKeeper$Machine", "take", "(III)I"⟩, prog_9_method_9_code, 5, some .int),
  (⟨"PlantKeeper$Machine", "find", "(IIII)I"⟩, prog_9_method_8_code, 6, some .int),
  (⟨"PlantKeeper$Machine", "put", "(III)I"⟩, prog_9_method_10_code, 6, some .int),
  (⟨"PlantKeeper$Machine", "two", "(I)I"⟩, prog_9_method_11_code, 4, some .int),
  (⟨"PlantKeeper$Machine", "choose", "()V"⟩, prog_9_method_12_code, 3, none),
  (⟨"PlantKeeper$Machine", "go", "(III)V"⟩, prog_9_method_13_code, 7, none),
  (⟨"PlantKeeper$Machine", "block", "(II)V"⟩, prog_9_method_16_code, 3, none),
  (⟨"PlantKeeper$Machine", "timer", "(II)V"⟩, prog_9_method_20_code, 5, none),
  (⟨"PlantKeeper$Machine", "is", "(I)Z"⟩, prog_9_method_14_code, 2, some .boolean),
  (⟨"PlantKeeper$Machine", "delayOn", "(IZZ)V"⟩, prog_9_method_21_code, 4, none),
  (⟨"PlantKeeper$Machine", "grow", "(I)V"⟩, prog_9_method_18_code, 4, none),
  (⟨"PlantKeeper$Machine", "bound", "(I)I"⟩, prog_9_method_17_code, 2, some .int),
  (⟨"PlantKeeper$Machine", "isOver", "(I)Z"⟩, prog_9_method_19_code, 2, some .boolean),
  (⟨"PlantKeeper$Machine", "set", "(IZ)V"⟩, prog_9_method_15_code, 3, none),
  (⟨"PlantKeeper$Machine", "delayOff", "(IZZ)V"⟩, prog_9_method_22_code, 4, none),
  (⟨"PlantKeeper$Machine", "pulse", "(IZZ)V"⟩, prog_9_method_23_code, 4, none),
  (⟨"PlantKeeper$Machine", "count", "(ZI)V"⟩, prog_9_method_24_code, 5, none),
  (⟨"PlantKeeper$Machine", "latch", "(ZI)V"⟩, prog_9_method_25_code, 6, none),
  (⟨"PlantKeeper", "watch", "()I"⟩, prog_1_method_29_code, 6, some .int),
  (⟨"PlantKeeper", "nameAt", "(I)I"⟩, prog_1_method_21_code, 3, some .int),
  (⟨"PlantKeeper", "variable", "(II)I"⟩, prog_1_method_22_code, 7, some .int),
  (⟨"PlantKeeper", "tell", "(II)I"⟩, prog_1_method_25_code, 3, some .int),
  (⟨"PlantKeeper", "element", "(III)I"⟩, prog_1_method_27_code, 11, some .int),
  (⟨"PlantKeeper", "takes", "(II)Z"⟩, prog_1_method_26_code, 4, some .boolean),
  (⟨"PlantKeeper", "standardPart", "(III)I"⟩, prog_1_method_28_code, 6, some .int),
  (⟨"PlantKeeper", "part", "(II)I"⟩, prog_1_method_23_code, 4, some .int),
  (⟨"PlantKeeper", "isWord", "(II)Z"⟩, prog_1_method_24_code, 7, some .boolean),
  (⟨"PlantKeeper", "watched", "()I"⟩, prog_1_method_30_code, 1, some .int),
  (⟨"PlantKeeper", "frame", "()I"⟩, prog_1_method_31_code, 4, some .int),
  (⟨"PlantKeeper$Line", "hear", "(I)I"⟩, prog_8_method_3_code, 2, some .int),
  (⟨"PlantKeeper$Check", "next", "(II)I"⟩, prog_3_method_2_code, 3, some .int),
  (⟨"PlantKeeper$Line", "get", "(I)I"⟩, prog_8_method_6_code, 2, some .int),
  (⟨"PlantKeeper$Line", "isGood", "()Z"⟩, prog_8_method_5_code, 1, some .boolean),
  (⟨"PlantKeeper$Desk", "take", "(LPlantKeeper$Line;Z)I"⟩, prog_5_method_11_code, 4, some .int),
  (⟨"PlantKeeper$Desk", "fault", "()I"⟩, prog_5_method_10_code, 1, some .int),
  (⟨"PlantKeeper$Desk", "isFunction", "()Z"⟩, prog_5_method_5_code, 1, some .boolean),
  (⟨"PlantKeeper$Desk", "isRow", "()Z"⟩, prog_5_method_4_code, 1, some .boolean),
  (⟨"PlantKeeper$Desk", "isForm", "()Z"⟩, prog_5_method_6_code, 1, some .boolean),
  (⟨"PlantKeeper$Desk", "data", "(I)I"⟩, prog_5_method_2_code, 2, some .int),
  (⟨"PlantKeeper$Desk", "two", "(I)I"⟩, prog_5_method_3_code, 2, some .int),
  (⟨"PlantKeeper$Desk", "isNumber", "()Z"⟩, prog_5_method_7_code, 1, some .boolean),
  (⟨"PlantKeeper$Desk", "arePlaces", "()Z"⟩, prog_5_method_9_code, 2, some .boolean),
  (⟨"PlantKeeper$Desk", "table", "()I"⟩, prog_5_method_8_code, 1, some .int),
  (⟨"PlantKeeper$Images", "size", "(I)I"⟩, prog_7_method_8_code, 2, some .int),
  (⟨"PlantKeeper$Desk", "write", "()V"⟩, prog_5_method_12_code, 2, none),
  (⟨"PlantKeeper$Images", "set", "(III)V"⟩, prog_7_method_10_code, 4, none),
  (⟨"PlantKeeper$Desk", "answer", "(I)V"⟩, prog_5_method_14_code, 4, none),
  (⟨"PlantKeeper$Desk", "put", "(I)V"⟩, prog_5_method_13_code, 2, none),
  (⟨"PlantKeeper$Desk", "putBits", "()V"⟩, prog_5_method_15_code, 3, none),
  (⟨"PlantKeeper$Images", "get", "(II)I"⟩, prog_7_method_9_code, 3, some .int),
  (⟨"PlantKeeper", "station", "(I)I"⟩, prog_1_method_32_code, 3, some .int),
  (⟨"PlantKeeper", "byteAt", "(I)I"⟩, prog_1_method_33_code, 2, some .int),
  (⟨"PlantKeeper", "count", "(I)I"⟩, prog_1_method_34_code, 2, some .int),
  (⟨"PlantKeeperModel", "feed", "(IIIII)I"⟩, prog_20_method_162_code, 6, some .int),
  (⟨"PlantKeeperModel", "bring", "(I)V"⟩, prog_20_method_161_code, 3, none),
  (⟨"PlantKeeperModel", "end", "(I)I"⟩, prog_20_method_163_code, 2, some .int),
  (⟨"PlantKeeperModel", "load", "(I)I"⟩, prog_20_method_165_code, 3, some .int),
  (⟨"PlantKeeperModel", "useTape", "()I"⟩, prog_20_method_164_code, 2, some .int),
  (⟨"PlantKeeperModel", "judge", "()I"⟩, prog_20_method_80_code, 2, some .int),
  (⟨"PlantKeeperModel", "readText", "()I"⟩, prog_20_method_31_code, 2, some .int),
  (⟨"PlantKeeperModel", "next", "()V"⟩, prog_20_method_10_code, 2, none),
  (⟨"PlantKeeperModel", "skip", "(I)I"⟩, prog_20_method_9_code, 5, some .int),
  (⟨"PlantKeeperModel", "byteOf", "(I)I"⟩, prog_20_method_3_code, 2, some .int),
  (⟨"PlantKeeperModel", "fail", "(II)V"⟩, prog_20_method_8_code, 3, none),
  (⟨"PlantKeeperModel", "great", "(I)I"⟩, prog_20_method_4_code, 3, some .int),
  (⟨"PlantKeeperModel", "readTime", "()V"⟩, prog_20_method_18_code, 5, none),
  (⟨"PlantKeeperModel", "digits", "(II)J"⟩, prog_20_method_15_code, 5, some .long),
  (⟨"PlantKeeperModel", "digit", "(I)I"⟩, prog_20_method_14_code, 1, some .int),
  (⟨"PlantKeeperModel", "isDigit", "(I)Z"⟩, prog_20_method_5_code, 1, some .boolean),
  (⟨"PlantKeeperModel", "settle", "(J)V"⟩, prog_20_method_16_code, 3, none),
  (⟨"PlantKeeperModel", "goesOn", "(I)Z"⟩, prog_20_method_7_code, 2, some .boolean),
  (⟨"PlantKeeperModel", "isLetter", "(I)Z"⟩, prog_20_method_6_code, 1, some .boolean),
  (⟨"PlantKeeperModel", "readName", "()V"⟩, prog_20_method_11_code, 1, none),
  (⟨"PlantKeeperModel", "wordAt", "()I"⟩, prog_20_method_12_code, 5, some .int),
  (⟨"PlantKeeperModel", "nameAt", "()I"⟩, prog_20_method_13_code, 5, some .int),
  (⟨"PlantKeeperModel", "readNumber", "()V"⟩, prog_20_method_17_code, 3, none),
  (⟨"PlantKeeperModel", "readPlace", "()V"⟩, prog_20_method_19_code, 4, none),
  (⟨"PlantKeeperModel", "readSign", "()V"⟩, prog_20_method_20_code, 5, none),
  (⟨"PlantKeeperModel", "node", "(III)I"⟩, prog_20_method_28_code, 5, some .int),
  (⟨"PlantKeeperModel", "readBlock", "(I)V"⟩, prog_20_method_34_code, 6, none),
  (⟨"PlantKeeperModel", "wrong", "()V"⟩, prog_20_method_23_code, 1, none),
  (⟨"PlantKeeperModel", "add", "(IIII)I"⟩, prog_20_method_30_code, 6, some .int),
  (⟨"PlantKeeperModel", "hang", "(II)V"⟩, prog_20_method_29_code, 3, none),
  (⟨"PlantKeeperModel", "name", "()I"⟩, prog_20_method_33_code, 2, some .int),
  (⟨"PlantKeeperModel", "want", "(Z)V"⟩, prog_20_method_24_code, 2, none),
  (⟨"PlantKeeperModel", "wantSign", "(I)V"⟩, prog_20_method_26_code, 2, none),
  (⟨"PlantKeeperModel", "isSign", "(I)Z"⟩, prog_20_method_22_code, 2, some .boolean),
  (⟨"PlantKeeperModel", "simple", "(I)V"⟩, prog_20_method_35_code, 4, none),
  (⟨"PlantKeeperModel", "isWord", "(I)Z"⟩, prog_20_method_21_code, 2, some .boolean),
  (⟨"PlantKeeperModel", "declaration", "(I)V"⟩, prog_20_method_37_code, 5, none),
  (⟨"PlantKeeperModel", "readType", "(I)V"⟩, prog_20_method_38_code, 3, none),
  (⟨"PlantKeeperModel", "constant", "(I)V"⟩, prog_20_method_36_code, 6, none),
  (⟨"PlantKeeperModel", "wantWord", "(I)V"⟩, prog_20_method_25_code, 2, none),
  (⟨"PlantKeeperModel", "ladder", "(I)V"⟩, prog_20_method_59_code, 4, none),
  (⟨"PlantKeeperModel", "row", "(I)V"⟩, prog_20_method_60_code, 4, none),
  (⟨"PlantKeeperModel", "readCell", "(I)V"⟩, prog_20_method_61_code, 6, none),
  (⟨"PlantKeeperModel", "contact", "(I)V"⟩, prog_20_method_62_code, 7, none),
  (⟨"PlantKeeperModel", "statements", "(I)V"⟩, prog_20_method_39_code, 3, none),
  (⟨"PlantKeeperModel", "named", "(I)V"⟩, prog_20_method_46_code, 6, none),
  (⟨"PlantKeeperModel", "invoke", "(I)V"⟩, prog_20_method_48_code, 5, none),
  (⟨"PlantKeeperModel", "open", "()V"⟩, prog_20_method_27_code, 1, none),
  (⟨"PlantKeeperModel", "expression", "(I)V"⟩, prog_20_method_51_code, 5, none),
  (⟨"PlantKeeperModel", "operand", "()V"⟩, prog_20_method_55_code, 2, none),
  (⟨"PlantKeeperModel", "next2", "()V"⟩, prog_20_method_52_code, 1, none),
  (⟨"PlantKeeperModel", "keep", "(I)V"⟩, prog_20_method_54_code, 2, none),
  (⟨"PlantKeeperModel", "bracket", "()V"⟩, prog_20_method_56_code, 2, none),
  (⟨"PlantKeeperModel", "nameOperand", "()V"⟩, prog_20_method_57_code, 5, none),
  (⟨"PlantKeeperModel", "element", "(I)V"⟩, prog_20_method_47_code, 2, none),
  (⟨"PlantKeeperModel", "call", "(I)V"⟩, prog_20_method_58_code, 3, none),
  (⟨"PlantKeeperModel", "signAt", "()I"⟩, prog_20_method_50_code, 1, some .int),
  (⟨"PlantKeeperModel", "split", "(II)I"⟩, prog_20_method_53_code, 5, some .int),
  (⟨"PlantKeeperModel", "closeness", "(I)I"⟩, prog_20_method_49_code, 1, some .int),
  (⟨"PlantKeeperModel", "opened", "(I)V"⟩, prog_20_method_40_code, 3, none),
  (⟨"PlantKeeperModel", "choose", "(I)V"⟩, prog_20_method_42_code, 4, none),
  (⟨"PlantKeeperModel", "body", "(IZ)V"⟩, prog_20_method_41_code, 4, none),
  (⟨"PlantKeeperModel", "cases", "(I)V"⟩, prog_20_method_44_code, 6, none),
  (⟨"PlantKeeperModel", "beginsConstant", "()Z"⟩, prog_20_method_43_code, 1, some .boolean),
  (⟨"PlantKeeperModel", "loop", "(I)V"⟩, prog_20_method_45_code, 3, none),
  (⟨"PlantKeeperModel", "number", "()V"⟩, prog_20_method_32_code, 3, none),
  (⟨"PlantKeeperModel", "look", "(I)V"⟩, prog_20_method_81_code, 3, none),
  (⟨"PlantKeeperModel", "lookAlone", "(I)V"⟩, prog_20_method_82_code, 4, none),
  (⟨"PlantKeeperModel", "beginBlock", "(I)V"⟩, prog_20_method_83_code, 3, none),
  (⟨"PlantKeeperModel", "rule", "(ZII)V"⟩, prog_20_method_64_code, 4, none),
  (⟨"PlantKeeperModel", "breaks", "(II)V"⟩, prog_20_method_63_code, 3, none),
  (⟨"PlantKeeperModel", "isStandard", "(I)Z"⟩, prog_20_method_66_code, 2, some .boolean),
  (⟨"PlantKeeperModel", "wordOf", "(Ljava/lang/String;I)I"⟩, prog_20_method_65_code, 7, some .int),
  (⟨"PlantKeeperModel", "blockNamed", "(II)I"⟩, prog_20_method_67_code, 4, some .int),
  (⟨"PlantKeeperModel", "addVariable", "(I)I"⟩, prog_20_method_84_code, 2, some .int),
  (⟨"PlantKeeperModel", "layOut", "(IIII)V"⟩, prog_20_method_85_code, 5, none),
  (⟨"PlantKeeperModel", "lookAtBlocks", "(I)V"⟩, prog_20_method_86_code, 3, none),
  (⟨"PlantKeeperModel", "lookAtText", "(I)V"⟩, prog_20_method_94_code, 4, none),
  (⟨"PlantKeeperModel", "inputs", "(I)I"⟩, prog_20_method_77_code, 4, some .int),
  (⟨"PlantKeeperModel", "endBlock", "(I)V"⟩, prog_20_method_92_code, 2, none),
  (⟨"PlantKeeperModel", "give", "(IZ)V"⟩, prog_20_method_93_code, 6, none),
  (⟨"PlantKeeperModel", "lookAtDeclaration", "(I)V"⟩, prog_20_method_90_code, 11, none),
  (⟨"PlantKeeperModel", "blockOf", "(I)I"⟩, prog_20_method_91_code, 3, some .int),
  (⟨"PlantKeeperModel", "instanceCells", "(I)I"⟩, prog_20_method_79_code, 2, some .int),
  (⟨"PlantKeeperModel", "lookAtName", "(I)V"⟩, prog_20_method_89_code, 5, none),
  (⟨"PlantKeeperModel", "variable", "(II)I"⟩, prog_20_method_68_code, 4, some .int),
  (⟨"PlantKeeperModel", "isPlaceTaken", "(I)Z"⟩, prog_20_method_87_code, 4, some .boolean),
  (⟨"PlantKeeperModel", "lookAtArray", "(I)V"⟩, prog_20_method_88_code, 5, none),
  (⟨"PlantKeeperModel", "lookAtStatements", "(I)V"⟩, prog_20_method_97_code, 4, none),
  (⟨"PlantKeeperModel", "lookAtAssigned", "(II)V"⟩, prog_20_method_96_code, 5, none),
  (⟨"PlantKeeperModel", "isLoops", "(II)Z"⟩, prog_20_method_95_code, 5, some .boolean),
  (⟨"PlantKeeperModel", "fits", "(II)Z"⟩, prog_20_method_71_code, 2, some .boolean),
  (⟨"PlantKeeperModel", "lookAtInstance", "(I)V"⟩, prog_20_method_98_code, 3, none),
  (⟨"PlantKeeperModel", "lookAtParameter", "(I)V"⟩, prog_20_method_99_code, 5, none),
  (⟨"PlantKeeperModel", "pin", "(IZI)I"⟩, prog_20_method_74_code, 6, some .int),
  (⟨"PlantKeeperModel", "standardName", "(IZI)Ljava/lang/String;"⟩, prog_20_method_72_code, 6, some (.object "java/lang/String")),
  (⟨"PlantKeeperModel", "isNamed", "(ILjava/lang/String;)Z"⟩, prog_20_method_73_code, 5, some .boolean),
  (⟨"PlantKeeperModel", "pinType", "(IZI)I"⟩, prog_20_method_75_code, 5, some .int),
  (⟨"PlantKeeperModel", "pinCell", "(IZI)I"⟩, prog_20_method_76_code, 4, some .int),
  (⟨"PlantKeeperModel", "isNumber", "(I)Z"⟩, prog_20_method_69_code, 1, some .boolean),
  (⟨"PlantKeeperModel", "lookAtLoop", "(I)V"⟩, prog_20_method_100_code, 12, none),
  (⟨"PlantKeeperModel", "lookAtRungs", "(I)V"⟩, prog_20_method_102_code, 5, none),
  (⟨"PlantKeeperModel", "cellsIn", "(I)I"⟩, prog_20_method_101_code, 4, some .int),
  (⟨"PlantKeeperModel", "lookAtExpressions", "(I)V"⟩, prog_20_method_103_code, 2, none),
  (⟨"PlantKeeperModel", "lookAtElement", "(I)V"⟩, prog_20_method_104_code, 3, none),
  (⟨"PlantKeeperModel", "lookAtOutput", "(I)V"⟩, prog_20_method_105_code, 4, none),
  (⟨"PlantKeeperModel", "lookAtCall", "(I)V"⟩, prog_20_method_107_code, 10, none),
  (⟨"PlantKeeperModel", "wider", "(II)I"⟩, prog_20_method_70_code, 2, some .int),
  (⟨"PlantKeeperModel", "callOwn", "(III)V"⟩, prog_20_method_108_code, 6, none),
  (⟨"PlantKeeperModel", "input", "(II)I"⟩, prog_20_method_78_code, 5, some .int),
  (⟨"PlantKeeperModel", "lookAtTwo", "(I)V"⟩, prog_20_method_106_code, 7, none),
  (⟨"PlantKeeperModel", "generate", "()Z"⟩, prog_20_method_112_code, 3, some .boolean),
  (⟨"PlantKeeperModel", "beginFunction", "(I)V"⟩, prog_20_method_113_code, 4, none),
  (⟨"PlantKeeperModel", "emit", "(IIII)I"⟩, prog_20_method_109_code, 5, some .int),
  (⟨"PlantKeeperModel", "endOf", "(I)I"⟩, prog_20_method_114_code, 2, some .int),
  (⟨"PlantKeeperModel", "bodyCode", "(I)V"⟩, prog_20_method_115_code, 3, none),
  (⟨"PlantKeeperModel", "statementCode", "(I)V"⟩, prog_20_method_116_code, 4, none),
  (⟨"PlantKeeperModel", "assignmentCode", "(I)V"⟩, prog_20_method_118_code, 5, none),
  (⟨"PlantKeeperModel", "expressionCode", "(I)V"⟩, prog_20_method_129_code, 4, none),
  (⟨"PlantKeeperModel", "isConstant", "(I)Z"⟩, prog_20_method_123_code, 4, some .boolean),
  (⟨"PlantKeeperModel", "valueOf", "(I)I"⟩, prog_20_method_124_code, 4, some .int),
  (⟨"PlantKeeperModel", "valueAlone", "(I)I"⟩, prog_20_method_125_code, 6, some .int),
  (⟨"PlantKeeperModel", "oneCode", "(I)I"⟩, prog_20_method_128_code, 2, some .int),
  (⟨"PlantKeeperModel", "one", "(II)I"⟩, prog_20_method_151_code, 2, some .int),
  (⟨"PlantKeeperModel", "narrow", "(I)I"⟩, prog_20_method_149_code, 2, some .int),
  (⟨"PlantKeeperModel", "standard", "(IIII)I"⟩, prog_20_method_126_code, 6, some .int),
  (⟨"PlantKeeperModel", "two", "(III)I"⟩, prog_20_method_150_code, 3, some .int),
  (⟨"PlantKeeperModel", "signCode", "(I)I"⟩, prog_20_method_127_code, 3, some .int),
  (⟨"PlantKeeperModel", "operandCode", "(I)V"⟩, prog_20_method_130_code, 4, none),
  (⟨"PlantKeeperModel", "callCode", "(I)V"⟩, prog_20_method_131_code, 7, none),
  (⟨"PlantKeeperModel", "isOwn", "(I)Z"⟩, prog_20_method_117_code, 2, some .boolean),
  (⟨"PlantKeeperModel", "choiceCode", "(III)V"⟩, prog_20_method_119_code, 9, none),
  (⟨"PlantKeeperModel", "rangesCode", "(II)V"⟩, prog_20_method_120_code, 6, none),
  (⟨"PlantKeeperModel", "here", "()I"⟩, prog_20_method_110_code, 1, some .int),
  (⟨"PlantKeeperModel", "aim", "(II)V"⟩, prog_20_method_111_code, 4, none),
  (⟨"PlantKeeperModel", "loopCode", "(I)V"⟩, prog_20_method_122_code, 8, none),
  (⟨"PlantKeeperModel", "times", "(I)I"⟩, prog_20_method_121_code, 8, some .int),
  (⟨"PlantKeeperModel", "ladderCode", "(I)V"⟩, prog_20_method_132_code, 3, none),
  (⟨"PlantKeeperModel", "rungCode", "(I)V"⟩, prog_20_method_138_code, 7, none),
  (⟨"PlantKeeperModel", "rowOf", "(II)I"⟩, prog_20_method_133_code, 5, some .int),
  (⟨"PlantKeeperModel", "cellOf", "(II)I"⟩, prog_20_method_134_code, 5, some .int),
  (⟨"PlantKeeperModel", "leastRow", "(III)I"⟩, prog_20_method_136_code, 5, some .int),
  (⟨"PlantKeeperModel", "isLinked", "(II)Z"⟩, prog_20_method_135_code, 5, some .boolean),
  (⟨"PlantKeeperModel", "groupCode", "(IIII)V"⟩, prog_20_method_139_code, 9, none),
  (⟨"PlantKeeperModel", "powerCell", "(III)I"⟩, prog_20_method_137_code, 4, some .int),
  (⟨"PlantKeeperModel", "contactCode", "(I)V"⟩, prog_20_method_140_code, 6, none),
  (⟨"PlantKeeperModel", "coilCode", "(II)V"⟩, prog_20_method_141_code, 6, none),
  (⟨"PlantKeeperModel", "refuse", "(II)V"⟩, prog_20_method_166_code, 3, none),
  (⟨"PlantKeeperModel", "isDeep", "(I)Z"⟩, prog_20_method_144_code, 7, some .boolean),
  (⟨"PlantKeeperModel", "sizeOf", "(I)I"⟩, prog_20_method_142_code, 2, some .int),
  (⟨"PlantKeeperModel", "target", "(II)I"⟩, prog_20_method_143_code, 4, some .int),
  (⟨"PlantKeeperModel", "sumOf", "(I)J"⟩, prog_20_method_145_code, 6, some .long),
  (⟨"PlantKeeperModel", "greatest", "(IIII)J"⟩, prog_20_method_147_code, 6, some .long),
  (⟨"PlantKeeperModel", "greatestFrom", "(IIII)J"⟩, prog_20_method_148_code, 15, some .long),
  (⟨"PlantKeeperModel", "more", "(JJ)J"⟩, prog_20_method_146_code, 4, some .long),
  (⟨"PlantKeeperModel", "anew", "()V"⟩, prog_20_method_167_code, 1, none),
  (⟨"PlantKeeperModel", "fillAll", "()V"⟩, prog_20_method_153_code, 2, none),
  (⟨"PlantKeeperModel", "fill", "(II)V"⟩, prog_20_method_152_code, 6, none),
  (⟨"PlantKeeperModel", "publishSafe", "()V"⟩, prog_20_method_168_code, 2, none),
  (⟨"PlantKeeperModel", "restart", "()I"⟩, prog_20_method_169_code, 1, some .int),
  (⟨"PlantKeeperModel", "put", "(III)I"⟩, prog_20_method_173_code, 4, some .int),
  (⟨"PlantKeeperModel", "noPlace", "(II)Z"⟩, prog_20_method_170_code, 2, some .boolean),
  (⟨"PlantKeeperModel", "noValue", "(II)Z"⟩, prog_20_method_171_code, 2, some .boolean),
  (⟨"PlantKeeperModel", "spot", "(II)I"⟩, prog_20_method_172_code, 2, some .int),
  (⟨"PlantKeeperModel", "get", "(II)I"⟩, prog_20_method_174_code, 3, some .int),
  (⟨"PlantKeeperModel", "safe", "(III)I"⟩, prog_20_method_175_code, 4, some .int),
  (⟨"PlantKeeperModel", "scan", "(I)I"⟩, prog_20_method_176_code, 3, some .int),
  (⟨"PlantKeeperModel", "go", "(II)V"⟩, prog_20_method_155_code, 4, none),
  (⟨"PlantKeeperModel", "step", "(III)I"⟩, prog_20_method_156_code, 11, some .int),
  (⟨"PlantKeeperModel", "lay", "(I)V"⟩, prog_20_method_154_code, 2, none),
  (⟨"PlantKeeperModel", "timers", "(II)V"⟩, prog_20_method_160_code, 7, none),
  (⟨"PlantKeeperModel", "on", "(I)Z"⟩, prog_20_method_157_code, 2, some .boolean),
  (⟨"PlantKeeperModel", "grown", "(II)I"⟩, prog_20_method_159_code, 5, some .int),
  (⟨"PlantKeeperModel", "turn", "(IZ)V"⟩, prog_20_method_158_code, 3, none),
  (⟨"PlantKeeperModel", "watch", "()I"⟩, prog_20_method_182_code, 6, some .int),
  (⟨"PlantKeeperModel", "readPathName", "()Z"⟩, prog_20_method_178_code, 1, some .boolean),
  (⟨"PlantKeeperModel", "tapeGreat", "(I)I"⟩, prog_20_method_177_code, 3, some .int),
  (⟨"PlantKeeperModel", "variableOnPath", "(I)I"⟩, prog_20_method_183_code, 3, some .int),
  (⟨"PlantKeeperModel", "isPathName", "(I)Z"⟩, prog_20_method_179_code, 4, some .boolean),
  (⟨"PlantKeeperModel", "passes", "(I)Z"⟩, prog_20_method_181_code, 3, some .boolean),
  (⟨"PlantKeeperModel", "watchPin", "(II)I"⟩, prog_20_method_186_code, 6, some .int),
  (⟨"PlantKeeperModel", "isPathWord", "(Ljava/lang/String;)Z"⟩, prog_20_method_180_code, 4, some .boolean),
  (⟨"PlantKeeperModel", "see", "(II)I"⟩, prog_20_method_184_code, 3, some .int),
  (⟨"PlantKeeperModel", "readIndex", "()I"⟩, prog_20_method_185_code, 6, some .int),
  (⟨"PlantKeeperModel", "watched", "()I"⟩, prog_20_method_187_code, 1, some .int),
  (⟨"PlantKeeperModel", "frame", "()I"⟩, prog_20_method_192_code, 6, some .int),
  (⟨"PlantKeeperModel", "heard", "(I)I"⟩, prog_20_method_189_code, 2, some .int),
  (⟨"PlantKeeperModel", "summed", "(II)I"⟩, prog_20_method_188_code, 4, some .int),
  (⟨"PlantKeeperModel", "refusal", "(II)I"⟩, prog_20_method_194_code, 5, some .int),
  (⟨"PlantKeeperModel", "dataTwo", "(I)I"⟩, prog_20_method_190_code, 2, some .int),
  (⟨"PlantKeeperModel", "tableSize", "(I)I"⟩, prog_20_method_193_code, 1, some .int),
  (⟨"PlantKeeperModel", "obey", "(I)V"⟩, prog_20_method_195_code, 5, none),
  (⟨"PlantKeeperModel", "reply", "(II)V"⟩, prog_20_method_197_code, 8, none),
  (⟨"PlantKeeperModel", "answer", "(I)V"⟩, prog_20_method_191_code, 2, none),
  (⟨"PlantKeeperModel", "told", "(II)I"⟩, prog_20_method_196_code, 3, some .int),
  (⟨"PlantKeeperModel", "station", "(I)I"⟩, prog_20_method_198_code, 3, some .int),
  (⟨"PlantKeeperModel", "byteAt", "(I)I"⟩, prog_20_method_199_code, 2, some .int),
  (⟨"PlantKeeperModel", "count", "(I)I"⟩, prog_20_method_200_code, 2, some .int),
  (⟨"java/lang/Math", "max", "(JJ)J"⟩, prog_23_method_66_code, 4, some .long),
  (⟨"java/lang/Math", "min", "(JJ)J"⟩, prog_23_method_70_code, 4, some .long),
  (⟨"java/lang/Math", "max", "(II)I"⟩, prog_23_method_65_code, 2, some .int),
  (⟨"java/lang/Math", "min", "(II)I"⟩, prog_23_method_69_code, 2, some .int),
  (⟨"java/lang/String", "length", "()I"⟩, prog_24_method_54_code, 1, some .int),
  (⟨"java/lang/String", "charAt", "(I)C"⟩, prog_24_method_56_code, 2, some .char),
  (⟨"java/lang/String", "indexOf", "(I)I"⟩, prog_24_method_79_code, 2, some .int),
  (⟨"java/lang/String", "indexOf", "(II)I"⟩, prog_24_method_80_code, 3, some .int),
  (⟨"java/lang/String", "substring", "(II)Ljava/lang/String;"⟩, prog_24_method_92_code, 5, some (.object "java/lang/String")),
  (⟨"PlantKeeperLaw", "law", "([I)Z"⟩, code, 4, some .boolean)]
abbrev m_Line_clear : Nat := 0
abbrev m_K_feed : Nat := 1
abbrev m_K_add : Nat := 2
abbrev m_K_end : Nat := 3
abbrev m_K_within : Nat := 4
abbrev m_K_load : Nat := 5
abbrev m_K_take : Nat := 6
abbrev m_Reader_read : Nat := 7
abbrev m_Names_clear : Nat := 8
abbrev m_Tokens_begin : Nat := 9
abbrev m_Tokens_next : Nat := 10
abbrev m_Tokens_skip : Nat := 11
abbrev m_Tokens_peek : Nat := 12
abbrev m_Tokens_remark : Nat := 13
abbrev m_Tokens_fail : Nat := 14
abbrev m_Tokens_great : Nat := 15
abbrev m_Tokens_time : Nat := 16
abbrev m_Tokens_digits : Nat := 17
abbrev m_Tokens_digit : Nat := 18
abbrev m_Tokens_isDigit : Nat := 19
abbrev m_Tokens_take : Nat := 20
abbrev m_Tokens_isPart : Nat := 21
abbrev m_Tokens_isLetter : Nat := 22
abbrev m_Tokens_name : Nat := 23
abbrev m_Tokens_word : Nat := 24
abbrev m_Names_number : Nat := 25
abbrev m_Names_size : Nat := 26
abbrev m_Tokens_number : Nat := 27
abbrev m_Tokens_place : Nat := 28
abbrev m_Tokens_sign : Nat := 29
abbrev m_Reader_check : Nat := 30
abbrev m_Nodes_add : Nat := 31
abbrev m_Reader_block : Nat := 32
abbrev m_Reader_fail : Nat := 33
abbrev m_Reader_add : Nat := 34
abbrev m_Nodes_put : Nat := 35
abbrev m_Reader_next : Nat := 36
abbrev m_Reader_name : Nat := 37
abbrev m_Reader_isKind : Nat := 38
abbrev m_Reader_sign : Nat := 39
abbrev m_Reader_isSign : Nat := 40
abbrev m_Reader_simple : Nat := 41
abbrev m_Reader_isWord : Nat := 42
abbrev m_Reader_section : Nat := 43
abbrev m_Reader_declaration : Nat := 44
abbrev m_Reader_takes : Nat := 45
abbrev m_Reader_type : Nat := 46
abbrev m_Reader_constant : Nat := 47
abbrev m_Reader_word : Nat := 48
abbrev m_Reader_ladder : Nat := 49
abbrev m_Reader_row : Nat := 50
abbrev m_Reader_cell : Nat := 51
abbrev m_Reader_output : Nat := 52
abbrev m_Reader_body : Nat := 53
abbrev m_Reader_statement : Nat := 54
abbrev m_Reader_named : Nat := 55
abbrev m_Reader_invoke : Nat := 56
abbrev m_Reader_open : Nat := 57
abbrev m_Reader_expression : Nat := 58
abbrev m_Reader_operand : Nat := 59
abbrev m_Reader_simpleOperand : Nat := 60
abbrev m_Reader_index : Nat := 61
abbrev m_Reader_arguments : Nat := 62
abbrev m_Reader_operator : Nat := 63
abbrev m_Reader_reduce : Nat := 64
abbrev m_Reader_choose : Nat := 65
abbrev m_Reader_otherwise : Nat := 66
abbrev m_Reader_select : Nat := 67
abbrev m_Reader_isConstant : Nat := 68
abbrev m_Reader_repeat : Nat := 69
abbrev m_Nodes_settle : Nat := 70
abbrev m_Nodes_following : Nat := 71
abbrev m_Nodes_move : Nat := 72
abbrev m_K_fail : Nat := 73
abbrev m_Rules_judge : Nat := 74
abbrev m_Rules_find : Nat := 75
abbrev m_Names_get : Nat := 76
abbrev m_Rules_leave : Nat := 77
abbrev m_Rules_leaveText : Nat := 78
abbrev m_Rules_rule : Nat := 79
abbrev m_Rules_fail : Nat := 80
abbrev m_Rules_leaveBlock : Nat := 81
abbrev m_Rules_end : Nat := 82
abbrev m_Rules_blockKind : Nat := 83
abbrev m_Rules_leaveDeclaration : Nat := 84
abbrev m_Rules_blockNamed : Nat := 85
abbrev m_Rules_isRightConstant : Nat := 86
abbrev m_Rules_cellsOf : Nat := 87
abbrev m_Rules_leaveName : Nat := 88
abbrev m_Rules_parentKind : Nat := 89
abbrev m_Rules_kind : Nat := 90
abbrev m_Rules_variable : Nat := 91
abbrev m_Rules_addVariable : Nat := 92
abbrev m_Rules_named : Nat := 93
abbrev m_Rules_leaveArray : Nat := 94
abbrev m_Rules_leaveStatement : Nat := 95
abbrev m_Rules_assigned : Nat := 96
abbrev m_Rules_isIn : Nat := 97
abbrev m_Rules_fits : Nat := 98
abbrev m_Rules_leaveParameter : Nat := 99
abbrev m_Rules_part : Nat := 100
abbrev m_Rules_isNumber : Nat := 101
abbrev m_Rules_leaveFor : Nat := 102
abbrev m_Rules_times : Nat := 103
abbrev m_Rules_isWithin : Nat := 104
abbrev m_Rules_leaveExpression : Nat := 105
abbrev m_Rules_leaveCall : Nat := 106
abbrev m_Nodes_children : Nat := 107
abbrev m_Rules_leaveOwnCall : Nat := 108
abbrev m_Rules_standardType : Nat := 109
abbrev m_Rules_wider : Nat := 110
abbrev m_Rules_both : Nat := 111
abbrev m_Rules_two : Nat := 112
abbrev m_Rules_leaveRung : Nat := 113
abbrev m_Rules_width : Nat := 114
abbrev m_Rules_enter : Nat := 115
abbrev m_Maker_make : Nat := 116
abbrev m_Code_clear : Nat := 117
abbrev m_Maker_block : Nat := 118
abbrev m_Code_unit : Nat := 119
abbrev m_Maker_put : Nat := 120
abbrev m_Code_add : Nat := 121
abbrev m_Code_set : Nat := 122
abbrev m_Code_length : Nat := 123
abbrev m_Maker_locals : Nat := 124
abbrev m_Maker_constant : Nat := 125
abbrev m_Maker_rung : Nat := 126
abbrev m_Grid_begin : Nat := 127
abbrev m_Grid_at : Nat := 128
abbrev m_Maker_cell : Nat := 129
abbrev m_Grid_set : Nat := 130
abbrev m_Grid_plan : Nat := 131
abbrev m_Grid_head : Nat := 132
abbrev m_Grid_isLinked : Nat := 133
abbrev m_Grid_hasPoint : Nat := 134
abbrev m_Grid_isCoil : Nat := 135
abbrev m_Grid_group : Nat := 136
abbrev m_Grid_term : Nat := 137
abbrev m_Grid_before : Nat := 138
abbrev m_Maker_add : Nat := 139
abbrev m_Grid_power : Nat := 140
abbrev m_Grid_coil : Nat := 141
abbrev m_Maker_body : Nat := 142
abbrev m_Maker_statement : Nat := 143
abbrev m_Maker_assign : Nat := 144
abbrev m_Maker_expression : Nat := 145
abbrev m_Maker_isConstant : Nat := 146
abbrev m_Maker_two : Nat := 147
abbrev m_Maker_value : Nat := 148
abbrev m_Maker_one : Nat := 149
abbrev m_Alu_one : Nat := 150
abbrev m_Alu_wide16 : Nat := 151
abbrev m_Alu_two : Nat := 152
abbrev m_Alu_compare : Nat := 153
abbrev m_Alu_shift : Nat := 154
abbrev m_Maker_standard : Nat := 155
abbrev m_Alu_isZero : Nat := 156
abbrev m_Maker_named : Nat := 157
abbrev m_Maker_variable : Nat := 158
abbrev m_Maker_call : Nat := 159
abbrev m_Maker_callOwn : Nat := 160
abbrev m_Maker_choose : Nat := 161
abbrev m_Maker_branch : Nat := 162
abbrev m_Maker_goes : Nat := 163
abbrev m_Maker_here : Nat := 164
abbrev m_Maker_arrive : Nat := 165
abbrev m_Maker_close : Nat := 166
abbrev m_Maker_select : Nat := 167
abbrev m_Maker_ranges : Nat := 168
abbrev m_Maker_repeat : Nat := 169
abbrev m_Maker_arriveAll : Nat := 170
abbrev m_Maker_later : Nat := 171
abbrev m_Prover_prove : Nat := 172
abbrev m_Prover_proveUnit : Nat := 173
abbrev m_Prover_isBadPlace : Nat := 174
abbrev m_Prover_form : Nat := 175
abbrev m_Prover_a : Nat := 176
abbrev m_Code_get : Nat := 177
abbrev m_Prover_b : Nat := 178
abbrev m_Prover_op : Nat := 179
abbrev m_Prover_cells : Nat := 180
abbrev m_Prover_isIn : Nat := 181
abbrev m_Prover_hasCounter : Nat := 182
abbrev m_Prover_formBehind : Nat := 183
abbrev m_Code_blockCells : Nat := 184
abbrev m_Prover_isBadLoop : Nat := 185
abbrev m_Prover_isOp : Nat := 186
abbrev m_Prover_isEnclosed : Nat := 187
abbrev m_Prover_isInLoop : Nat := 188
abbrev m_Prover_goesInto : Nat := 189
abbrev m_Prover_stack : Nat := 190
abbrev m_Prover_flow : Nat := 191
abbrev m_Prover_comes : Nat := 192
abbrev m_Prover_reckon : Nat := 193
abbrev m_Prover_reckonLoop : Nat := 194
abbrev m_Prover_addEdge : Nat := 195
abbrev m_Prover_cap : Nat := 196
abbrev m_Prover_go : Nat := 197
abbrev m_Prover_follow : Nat := 198
abbrev m_Prover_reach : Nat := 199
abbrev m_K_placeOf : Nat := 200
abbrev m_K_bound : Nat := 201
abbrev m_K_begin : Nat := 202
abbrev m_Machine_clear : Nat := 203
abbrev m_Maker_fillAll : Nat := 204
abbrev m_Maker_fill : Nat := 205
abbrev m_Maker_fillDeclaration : Nat := 206
abbrev m_Images_publish : Nat := 207
abbrev m_Images_cell : Nat := 208
abbrev m_K_restart : Nat := 209
abbrev m_K_put : Nat := 210
abbrev m_K_isPlace : Nat := 211
abbrev m_Images_many : Nat := 212
abbrev m_K_isOutput : Nat := 213
abbrev m_K_isValue : Nat := 214
abbrev m_K_isInput : Nat := 215
abbrev m_Images_put : Nat := 216
abbrev m_K_get : Nat := 217
abbrev m_Images_place : Nat := 218
abbrev m_K_safe : Nat := 219
abbrev m_K_scan : Nat := 220
abbrev m_Images_latch : Nat := 221
abbrev m_Machine_run : Nat := 222
abbrev m_Machine_enter : Nat := 223
abbrev m_Machine_step : Nat := 224
abbrev m_Machine_push : Nat := 225
abbrev m_Machine_pop : Nat := 226
abbrev m_Machine_take : Nat := 227
abbrev m_Machine_find : Nat := 228
abbrev m_Machine_put : Nat := 229
abbrev m_Machine_two : Nat := 230
abbrev m_Machine_choose : Nat := 231
abbrev m_Machine_go : Nat := 232
abbrev m_Machine_block : Nat := 233
abbrev m_Machine_timer : Nat := 234
abbrev m_Machine_is : Nat := 235
abbrev m_Machine_delayOn : Nat := 236
abbrev m_Machine_grow : Nat := 237
abbrev m_Machine_bound : Nat := 238
abbrev m_Machine_isOver : Nat := 239
abbrev m_Machine_set : Nat := 240
abbrev m_Machine_delayOff : Nat := 241
abbrev m_Machine_pulse : Nat := 242
abbrev m_Machine_count : Nat := 243
abbrev m_Machine_latch : Nat := 244
abbrev m_K_watch : Nat := 245
abbrev m_K_nameAt : Nat := 246
abbrev m_K_variable : Nat := 247
abbrev m_K_tell : Nat := 248
abbrev m_K_element : Nat := 249
abbrev m_K_takes : Nat := 250
abbrev m_K_standardPart : Nat := 251
abbrev m_K_part : Nat := 252
abbrev m_K_isWord : Nat := 253
abbrev m_K_watched : Nat := 254
abbrev m_K_frame : Nat := 255
abbrev m_Line_hear : Nat := 256
abbrev m_Check_next : Nat := 257
abbrev m_Line_get : Nat := 258
abbrev m_Line_isGood : Nat := 259
abbrev m_Desk_take : Nat := 260
abbrev m_Desk_fault : Nat := 261
abbrev m_Desk_isFunction : Nat := 262
abbrev m_Desk_isRow : Nat := 263
abbrev m_Desk_isForm : Nat := 264
abbrev m_Desk_data : Nat := 265
abbrev m_Desk_two : Nat := 266
abbrev m_Desk_isNumber : Nat := 267
abbrev m_Desk_arePlaces : Nat := 268
abbrev m_Desk_table : Nat := 269
abbrev m_Images_size : Nat := 270
abbrev m_Desk_write : Nat := 271
abbrev m_Images_set : Nat := 272
abbrev m_Desk_answer : Nat := 273
abbrev m_Desk_put : Nat := 274
abbrev m_Desk_putBits : Nat := 275
abbrev m_Images_get : Nat := 276
abbrev m_K_station : Nat := 277
abbrev m_K_byteAt : Nat := 278
abbrev m_K_count : Nat := 279
abbrev m_M_feed : Nat := 280
abbrev m_M_bring : Nat := 281
abbrev m_M_end : Nat := 282
abbrev m_M_load : Nat := 283
abbrev m_M_useTape : Nat := 284
abbrev m_M_judge : Nat := 285
abbrev m_M_readText : Nat := 286
abbrev m_M_next : Nat := 287
abbrev m_M_skip : Nat := 288
abbrev m_M_byteOf : Nat := 289
abbrev m_M_fail : Nat := 290
abbrev m_M_great : Nat := 291
abbrev m_M_readTime : Nat := 292
abbrev m_M_digits : Nat := 293
abbrev m_M_digit : Nat := 294
abbrev m_M_isDigit : Nat := 295
abbrev m_M_settle : Nat := 296
abbrev m_M_goesOn : Nat := 297
abbrev m_M_isLetter : Nat := 298
abbrev m_M_readName : Nat := 299
abbrev m_M_wordAt : Nat := 300
abbrev m_M_nameAt : Nat := 301
abbrev m_M_readNumber : Nat := 302
abbrev m_M_readPlace : Nat := 303
abbrev m_M_readSign : Nat := 304
abbrev m_M_node : Nat := 305
abbrev m_M_readBlock : Nat := 306
abbrev m_M_wrong : Nat := 307
abbrev m_M_add : Nat := 308
abbrev m_M_hang : Nat := 309
abbrev m_M_name : Nat := 310
abbrev m_M_want : Nat := 311
abbrev m_M_wantSign : Nat := 312
abbrev m_M_isSign : Nat := 313
abbrev m_M_simple : Nat := 314
abbrev m_M_isWord : Nat := 315
abbrev m_M_declaration : Nat := 316
abbrev m_M_readType : Nat := 317
abbrev m_M_constant : Nat := 318
abbrev m_M_wantWord : Nat := 319
abbrev m_M_ladder : Nat := 320
abbrev m_M_row : Nat := 321
abbrev m_M_readCell : Nat := 322
abbrev m_M_contact : Nat := 323
abbrev m_M_statements : Nat := 324
abbrev m_M_named : Nat := 325
abbrev m_M_invoke : Nat := 326
abbrev m_M_open : Nat := 327
abbrev m_M_expression : Nat := 328
abbrev m_M_operand : Nat := 329
abbrev m_M_next2 : Nat := 330
abbrev m_M_keep : Nat := 331
abbrev m_M_bracket : Nat := 332
abbrev m_M_nameOperand : Nat := 333
abbrev m_M_element : Nat := 334
abbrev m_M_call : Nat := 335
abbrev m_M_signAt : Nat := 336
abbrev m_M_split : Nat := 337
abbrev m_M_closeness : Nat := 338
abbrev m_M_opened : Nat := 339
abbrev m_M_choose : Nat := 340
abbrev m_M_body : Nat := 341
abbrev m_M_cases : Nat := 342
abbrev m_M_beginsConstant : Nat := 343
abbrev m_M_loop : Nat := 344
abbrev m_M_number : Nat := 345
abbrev m_M_look : Nat := 346
abbrev m_M_lookAlone : Nat := 347
abbrev m_M_beginBlock : Nat := 348
abbrev m_M_rule : Nat := 349
abbrev m_M_breaks : Nat := 350
abbrev m_M_isStandard : Nat := 351
abbrev m_M_wordOf : Nat := 352
abbrev m_M_blockNamed : Nat := 353
abbrev m_M_addVariable : Nat := 354
abbrev m_M_layOut : Nat := 355
abbrev m_M_lookAtBlocks : Nat := 356
abbrev m_M_lookAtText : Nat := 357
abbrev m_M_inputs : Nat := 358
abbrev m_M_endBlock : Nat := 359
abbrev m_M_give : Nat := 360
abbrev m_M_lookAtDeclaration : Nat := 361
abbrev m_M_blockOf : Nat := 362
abbrev m_M_instanceCells : Nat := 363
abbrev m_M_lookAtName : Nat := 364
abbrev m_M_variable : Nat := 365
abbrev m_M_isPlaceTaken : Nat := 366
abbrev m_M_lookAtArray : Nat := 367
abbrev m_M_lookAtStatements : Nat := 368
abbrev m_M_lookAtAssigned : Nat := 369
abbrev m_M_isLoops : Nat := 370
abbrev m_M_fits : Nat := 371
abbrev m_M_lookAtInstance : Nat := 372
abbrev m_M_lookAtParameter : Nat := 373
abbrev m_M_pin : Nat := 374
abbrev m_M_standardName : Nat := 375
abbrev m_M_isNamed : Nat := 376
abbrev m_M_pinType : Nat := 377
abbrev m_M_pinCell : Nat := 378
abbrev m_M_isNumber : Nat := 379
abbrev m_M_lookAtLoop : Nat := 380
abbrev m_M_lookAtRungs : Nat := 381
abbrev m_M_cellsIn : Nat := 382
abbrev m_M_lookAtExpressions : Nat := 383
abbrev m_M_lookAtElement : Nat := 384
abbrev m_M_lookAtOutput : Nat := 385
abbrev m_M_lookAtCall : Nat := 386
abbrev m_M_wider : Nat := 387
abbrev m_M_callOwn : Nat := 388
abbrev m_M_input : Nat := 389
abbrev m_M_lookAtTwo : Nat := 390
abbrev m_M_generate : Nat := 391
abbrev m_M_beginFunction : Nat := 392
abbrev m_M_emit : Nat := 393
abbrev m_M_endOf : Nat := 394
abbrev m_M_bodyCode : Nat := 395
abbrev m_M_statementCode : Nat := 396
abbrev m_M_assignmentCode : Nat := 397
abbrev m_M_expressionCode : Nat := 398
abbrev m_M_isConstant : Nat := 399
abbrev m_M_valueOf : Nat := 400
abbrev m_M_valueAlone : Nat := 401
abbrev m_M_oneCode : Nat := 402
abbrev m_M_one : Nat := 403
abbrev m_M_narrow : Nat := 404
abbrev m_M_standard : Nat := 405
abbrev m_M_two : Nat := 406
abbrev m_M_signCode : Nat := 407
abbrev m_M_operandCode : Nat := 408
abbrev m_M_callCode : Nat := 409
abbrev m_M_isOwn : Nat := 410
abbrev m_M_choiceCode : Nat := 411
abbrev m_M_rangesCode : Nat := 412
abbrev m_M_here : Nat := 413
abbrev m_M_aim : Nat := 414
abbrev m_M_loopCode : Nat := 415
abbrev m_M_times : Nat := 416
abbrev m_M_ladderCode : Nat := 417
abbrev m_M_rungCode : Nat := 418
abbrev m_M_rowOf : Nat := 419
abbrev m_M_cellOf : Nat := 420
abbrev m_M_leastRow : Nat := 421
abbrev m_M_isLinked : Nat := 422
abbrev m_M_groupCode : Nat := 423
abbrev m_M_powerCell : Nat := 424
abbrev m_M_contactCode : Nat := 425
abbrev m_M_coilCode : Nat := 426
abbrev m_M_refuse : Nat := 427
abbrev m_M_isDeep : Nat := 428
abbrev m_M_sizeOf : Nat := 429
abbrev m_M_target : Nat := 430
abbrev m_M_sumOf : Nat := 431
abbrev m_M_greatest : Nat := 432
abbrev m_M_greatestFrom : Nat := 433
abbrev m_M_more : Nat := 434
abbrev m_M_anew : Nat := 435
abbrev m_M_fillAll : Nat := 436
abbrev m_M_fill : Nat := 437
abbrev m_M_publishSafe : Nat := 438
abbrev m_M_restart : Nat := 439
abbrev m_M_put : Nat := 440
abbrev m_M_noPlace : Nat := 441
abbrev m_M_noValue : Nat := 442
abbrev m_M_spot : Nat := 443
abbrev m_M_get : Nat := 444
abbrev m_M_safe : Nat := 445
abbrev m_M_scan : Nat := 446
abbrev m_M_go : Nat := 447
abbrev m_M_step : Nat := 448
abbrev m_M_lay : Nat := 449
abbrev m_M_timers : Nat := 450
abbrev m_M_on : Nat := 451
abbrev m_M_grown : Nat := 452
abbrev m_M_turn : Nat := 453
abbrev m_M_watch : Nat := 454
abbrev m_M_readPathName : Nat := 455
abbrev m_M_tapeGreat : Nat := 456
abbrev m_M_variableOnPath : Nat := 457
abbrev m_M_isPathName : Nat := 458
abbrev m_M_passes : Nat := 459
abbrev m_M_watchPin : Nat := 460
abbrev m_M_isPathWord : Nat := 461
abbrev m_M_see : Nat := 462
abbrev m_M_readIndex : Nat := 463
abbrev m_M_watched : Nat := 464
abbrev m_M_frame : Nat := 465
abbrev m_M_heard : Nat := 466
abbrev m_M_summed : Nat := 467
abbrev m_M_refusal : Nat := 468
abbrev m_M_dataTwo : Nat := 469
abbrev m_M_tableSize : Nat := 470
abbrev m_M_obey : Nat := 471
abbrev m_M_reply : Nat := 472
abbrev m_M_answer : Nat := 473
abbrev m_M_told : Nat := 474
abbrev m_M_station : Nat := 475
abbrev m_M_byteAt : Nat := 476
abbrev m_M_count : Nat := 477
abbrev m_Math_max_JJJ : Nat := 478
abbrev m_Math_min_JJJ : Nat := 479
abbrev m_Math_max_III : Nat := 480
abbrev m_Math_min_III : Nat := 481
abbrev m_Str_length : Nat := 482
abbrev m_Str_charAt : Nat := 483
abbrev m_Str_indexOf_II : Nat := 484
abbrev m_Str_indexOf_III : Nat := 485
abbrev m_Str_substring : Nat := 486
abbrev m_Law_law : Nat := 487
def gd (w : Cond) : Bool := (w.onTables && w.keeps) || (match w with | .arrayClass _ => true | _ => false)
def nsP (w : Cond) : Bool := match w with | .fieldLinkNest .. => true | .methodLinkNest .. => true | .declares .. => true | _ => false
def gtbl : List Cond := lw_tbl.filter gd
def ntbl : List Cond := lw_tbl.filter nsP
def tblLs : List (List Cond) := [tables_1_1, tables_1_2, tables_1_3, tables_1_4, tables_1_5, tables_1_6, tables_1_7, tables_1_8, tables_1_9, tables_1_10, tables_1_11, tables_1_12, tables_1_13, tables_1_14, k2_sels lw_privs_1, k2_sels lw_privs_2, k2_sels lw_privs_3, k2_sels lw_privs_4, k2_sels lw_privs_5, k2_sels lw_privs_6, k2_sels lw_privs_7, k2_sels lw_privs_8, k2_sels lw_privs_9, k2_sels lw_privs_10, k2_sels lw_privs_11, k2_sels lw_privs_12, k2_sels lw_privs_13, k2_sels lw_privs_14, k2_sels lw_privs_15, k2_sels lw_privs_16, k2_sels lw_privs_17, k2_sels lw_privs_18, k2_sels lw_privs_19, k2_sels lw_privs_20, k2_sels lw_privs_21, k2_sels lw_privs_22, k2_sels lw_privs_23]
def tbG (p : Nat) : Option Cond := (tblLs.getD (p / 1000) [])[p % 1000]?
def tb (p : Nat) (w : Cond) : Bool := decide ((tblLs.getD (p / 1000) [])[p % 1000]? = some w)
-- of each method: where its code and its class stand in the tables
set_option maxRecDepth 20000 in
def mthP : List (Nat × Nat) := [(2084, 16), (2230, 1), (2234, 1), (2238, 1), (3001, 1), (3005, 1), (3010, 1), (3014, 5), (3018, 2), (3022, 3), (3026, 3), (3030, 3), (3034, 3), (3038, 3), (3042, 3), (3045, 3), (3049, 3), (3053, 3), (3057, 3), (3060, 3), (3074, 3), (3078, 3), (3081, 3), (3085, 3), (3089, 3), (3095, 2), (3099, 2), (3106, 3), (3112, 3), (3120, 3), (3126, 5), (3130, 4), (3134, 5), (3138, 5), (3142, 5), (3146, 4), (3150, 5), (3155, 5), (3159, 5), (3163, 5), (3167, 5), (3171, 5), (3175, 5), (3179, 5), (3183, 5), (3187, 5), (3191, 5), (3195, 5), (3199, 5), (3203, 5), (3207, 5), (3211, 5), (3215, 5), (3219, 5), (3223, 5), (3227, 5), (3231, 5), (3235, 5), (3239, 5), (4003, 5), (4007, 5), (4011, 5), (4015, 5), (4019, 5), (4025, 5), (4029, 5), (4033, 5), (4037, 5), (4041, 5), (4045, 5), (4049, 4), (4053, 4), (4057, 4), (4061, 1), (4065, 6), (4071, 6), (4076, 2), (4082, 6), (4086, 6), (4090, 6), (4094, 6), (4098, 6), (4102, 6), (4106, 6), (4110, 6), (4114, 6), (4118, 6), (4122, 6), (4128, 6), (4132, 6), (4136, 6), (4140, 6), (4144, 6), (4148, 6), (4152, 6), (4157, 6), (4161, 6), (4165, 6), (4168, 6), (4172, 6), (4176, 6), (4181, 6), (4185, 6), (4189, 6), (4193, 6), (4199, 6), (4203, 6), (4207, 4), (4211, 6), (4215, 6), (4218, 6), (4221, 6), (4224, 6), (4228, 6), (4232, 6), (4236, 6), (5000, 9), (5004, 7), (5008, 9), (5012, 7), (5016, 9), (5020, 7), (5024, 7), (5028, 7), (5032, 9), (5036, 9), (5040, 9), (5045, 10), (5049, 10), (5053, 9), (5057, 10), (5062, 10), (5066, 10), (5070, 10), (5074, 10), (5078, 10), (5082, 10), (5086, 10), (5090, 10), (5096, 9), (5100, 10), (5104, 10), (5108, 9), (5112, 9), (5116, 9), (5120, 9), (5124, 9), (5128, 9), (5136, 9), (5140, 9), (5143, 21), (5146, 21), (5149, 21), (5152, 21), (5155, 21), (5166, 9), (5169, 21), (5173, 9), (5177, 9), (5181, 9), (5185, 9), (5189, 9), (5193, 9), (5197, 9), (5201, 9), (5206, 9), (5210, 9), (5214, 9), (5218, 9), (5222, 9), (5227, 9), (5231, 9), (5235, 11), (5239, 11), (6003, 11), (6008, 11), (6012, 11), (6016, 7), (6020, 11), (6024, 11), (6028, 11), (6031, 11), (6035, 11), (6040, 11), (6044, 7), (6048, 11), (6052, 11), (6056, 11), (6060, 11), (6064, 11), (6068, 11), (6072, 11), (6081, 11), (6085, 11), (6089, 11), (6093, 11), (6096, 11), (6102, 11), (6107, 11), (6111, 11), (6118, 1), (6122, 1), (6126, 1), (6130, 12), (6134, 9), (6138, 9), (6142, 9), (6146, 14), (6149, 14), (6154, 1), (6158, 1), (6161, 1), (6164, 14), (6167, 1), (6170, 1), (6173, 1), (6177, 14), (6181, 1), (6185, 14), (6189, 1), (6193, 1), (6197, 14), (6201, 12), (6205, 12), (6210, 12), (6215, 12), (6220, 12), (6224, 12), (6227, 12), (6231, 12), (6235, 12), (7002, 12), (7006, 12), (7010, 12), (7014, 12), (7018, 12), (7022, 12), (7026, 12), (7030, 12), (7035, 12), (7039, 12), (7043, 12), (7047, 12), (7051, 12), (7055, 12), (7059, 1), (7063, 1), (7070, 1), (7076, 1), (7080, 1), (7084, 1), (7092, 1), (7096, 1), (7101, 1), (7106, 1), (7110, 1), (7115, 16), (7119, 15), (7125, 16), (7129, 16), (7133, 17), (7138, 17), (7142, 17), (7147, 17), (7151, 17), (7155, 17), (7159, 17), (7163, 17), (7168, 17), (7172, 17), (7178, 14), (7182, 17), (7188, 14), (7194, 17), (7198, 17), (7202, 17), (7208, 14), (7216, 1), (7220, 1), (7224, 1), (9045, 18), (9049, 18), (9053, 18), (9057, 18), (9062, 18), (9066, 18), (9070, 18), (9074, 18), (9078, 18), (9082, 18), (9086, 18), (9090, 18), (9094, 18), (9098, 18), (9102, 18), (9105, 18), (9113, 18), (9117, 18), (9120, 18), (9124, 18), (9128, 18), (9181, 18), (9185, 18), (9191, 18), (9198, 18), (10018, 18), (10022, 18), (10026, 18), (10030, 18), (10034, 18), (10038, 18), (10042, 18), (10046, 18), (10050, 18), (10054, 18), (10058, 18), (10062, 18), (10066, 18), (10070, 18), (10074, 18), (10078, 18), (10082, 18), (10086, 18), (10090, 18), (10094, 18), (10098, 18), (10102, 18), (10106, 18), (10110, 18), (10114, 18), (10118, 18), (10122, 18), (10126, 18), (10130, 18), (10134, 18), (10138, 18), (10142, 18), (10146, 18), (10149, 18), (10153, 18), (10157, 18), (10161, 18), (10165, 18), (10169, 18), (10173, 18), (10177, 18), (10181, 18), (10185, 18), (10189, 18), (10193, 18), (10197, 18), (10201, 18), (10206, 18), (10211, 18), (10215, 18), (10219, 18), (10223, 18), (10227, 18), (10231, 18), (10235, 18), (10239, 18), (11003, 18), (11007, 18), (11011, 18), (11016, 18), (11020, 18), (11024, 18), (11028, 18), (11032, 18), (11036, 18), (11040, 18), (11043, 18), (11047, 18), (11051, 18), (11055, 18), (11058, 18), (11150, 18), (11154, 18), (11158, 18), (11161, 18), (11165, 18), (11170, 18), (11174, 18), (11178, 18), (11182, 18), (11186, 18), (11190, 18), (11193, 18), (11197, 18), (11201, 18), (11205, 18), (11209, 18), (11213, 18), (11217, 18), (11221, 18), (11225, 18), (11229, 18), (11233, 18), (11237, 18), (12001, 18), (12005, 18), (12009, 18), (12013, 18), (12016, 18), (12019, 18), (12025, 18), (12028, 18), (12033, 18), (12037, 18), (12041, 18), (12045, 18), (12049, 18), (12053, 18), (12057, 18), (12061, 18), (12065, 18), (12069, 18), (12073, 18), (12077, 18), (12081, 18), (12085, 18), (12089, 18), (12093, 18), (12097, 18), (12101, 18), (12105, 18), (12109, 18), (12113, 18), (12117, 18), (12121, 18), (12129, 18), (12133, 18), (12137, 18), (12141, 18), (12144, 18), (12152, 18), (12156, 18), (12160, 18), (12164, 18), (12168, 18), (12172, 18), (12175, 18), (12178, 18), (12181, 18), (12185, 18), (12189, 18), (12193, 18), (12197, 18), (12201, 18), (12205, 18), (12209, 18), (12213, 18), (12217, 18), (12221, 18), (12225, 18), (12229, 18), (12233, 18), (12237, 18), (13001, 18), (13005, 18), (13009, 18), (13013, 18), (13017, 18), (13021, 18), (13029, 18), (13033, 18), (13037, 18), (13040, 18), (13045, 18), (13049, 18), (13053, 18), (13057, 18), (13061, 18), (13065, 18), (13069, 18), (13073, 18), (13077, 18), (13081, 18), (3063, 19), (3067, 19), (5162, 19), (5159, 19), (9133, 22), (9143, 22), (9203, 22), (9207, 22), (11076, 22), (0, 0)]
def mthOk (q : MI × (Nat × Nat)) : Bool := tb q.2.2 (.initialized q.1.1.cls) && (plainName q.1.1.cls || decide (q.1.1.cls = "java/lang/String" ∨ q.1.1.cls = "java/lang/Math")) && decide (q.1.1.cls ≠ "java/lang/invoke/MethodHandle" ∧ q.1.1.cls ≠ "java/lang/invoke/VarHandle") && decide (q.1.2.2.1 ≤ 40)
def layOk (q : vw_C × List Nat) : Bool := decide (q.2.length = q.1.2.2) && (List.range q.1.2.2).all (fun k => tb (q.2.getD k 0) (u_lay q.1.1 q.1.2.1 k) && (parseFieldDescriptor (q.1.2.1 k).2.2.1).isSome && (List.range q.1.2.2).all (fun j => decide (j = k) || decide ((q.1.2.1 j).2.1 ≠ (q.1.2.1 k).2.1)))
/-- fields of cells: kinds agree with what the class says -/
def kdOk (q : Kd) : Bool := match q with | .inl o => (match classes[o.1]? with | some c => decide (o.2.length = c.2.2) && o.2.zipIdx.all (fun z => if z.1 = 0 then decide (parseFieldDescriptor (c.2.1 z.2).2.2.1 = some .int) else if z.1 = 1 then decide (parseFieldDescriptor (c.2.1 z.2).2.2.1 = some .boolean) else decide (10 ≤ z.1) && (match parseFieldDescriptor (c.2.1 z.2).2.2.1 with | some (.object _) => true | some (.array _) => true | _ => false)) | none => false) | .inr a => decide (a.1 < 5 ∧ a.2 < 2 ^ 30)
-- links of fields: who asks, entry, number of the class, of the field, where the link stands, whether by the nest
set_option maxRecDepth 20000 in
def fldT : List (String × Nat × Nat × Nat × Nat × Nat) := [("PlantKeeper$Names", 7, 1, 0, 42, 0),
  ("PlantKeeper$Names", 13, 1, 1, 43, 0),
  ("PlantKeeper$Names", 17, 1, 2, 44, 0),
  ("PlantKeeper$Rules", 124, 1, 2, 45, 1),
  ("PlantKeeper$Tokens", 13, 2, 0, 61, 0),
  ("PlantKeeper$Tokens", 16, 2, 1, 62, 0),
  ("PlantKeeper$Reader", 48, 2, 1, 63, 1),
  ("PlantKeeper$Tokens", 7, 2, 2, 64, 0),
  ("PlantKeeper$Tokens", 20, 2, 3, 65, 0),
  ("PlantKeeper$Tokens", 24, 2, 4, 66, 0),
  ("PlantKeeper$Reader", 70, 2, 5, 67, 1),
  ("PlantKeeper$Tokens", 44, 2, 5, 68, 0),
  ("PlantKeeper$Reader", 80, 2, 6, 69, 1),
  ("PlantKeeper$Tokens", 53, 2, 6, 70, 0),
  ("PlantKeeper$Reader", 89, 2, 7, 71, 1),
  ("PlantKeeper$Tokens", 86, 2, 7, 72, 0),
  ("PlantKeeper$Tokens", 27, 2, 8, 73, 0),
  ("PlantKeeper$Reader", 79, 2, 8, 74, 1),
  ("PlantKeeper$Nodes", 7, 3, 0, 101, 0),
  ("PlantKeeper$Rules", 100, 3, 0, 102, 1),
  ("PlantKeeper$Maker", 116, 3, 0, 103, 1),
  ("PlantKeeper$Nodes", 13, 3, 1, 104, 0),
  ("PlantKeeper$Rules", 90, 3, 1, 105, 1),
  ("PlantKeeper", 150, 3, 1, 106, 1),
  ("PlantKeeper$Reader", 149, 3, 1, 107, 1),
  ("PlantKeeper$Nodes", 16, 3, 2, 108, 0),
  ("PlantKeeper$Rules", 112, 3, 2, 109, 1),
  ("PlantKeeper$Maker", 119, 3, 2, 110, 1),
  ("PlantKeeper$Reader", 111, 3, 2, 111, 1),
  ("PlantKeeper$Nodes", 19, 3, 3, 112, 0),
  ("PlantKeeper$Rules", 103, 3, 3, 113, 1),
  ("PlantKeeper$Nodes", 22, 3, 4, 114, 0),
  ("PlantKeeper$Maker", 113, 3, 4, 115, 1),
  ("PlantKeeper$Rules", 156, 3, 4, 116, 1),
  ("PlantKeeper$Nodes", 25, 3, 5, 117, 0),
  ("PlantKeeper$Nodes", 28, 3, 6, 118, 0),
  ("PlantKeeper$Maker", 125, 3, 6, 119, 1),
  ("PlantKeeper$Rules", 181, 3, 6, 120, 1),
  ("PlantKeeper$Nodes", 31, 3, 7, 121, 0),
  ("PlantKeeper$Nodes", 34, 3, 8, 122, 0),
  ("PlantKeeper$Nodes", 37, 3, 9, 123, 0),
  ("PlantKeeper$Reader", 43, 3, 9, 124, 1),
  ("PlantKeeper$Rules", 138, 3, 9, 125, 1),
  ("PlantKeeper$Reader", 19, 4, 0, 153, 0),
  ("PlantKeeper$Reader", 23, 4, 1, 154, 0),
  ("PlantKeeper$Reader", 27, 4, 2, 155, 0),
  ("PlantKeeper$Reader", 83, 4, 3, 156, 0),
  ("PlantKeeper", 177, 4, 3, 157, 1),
  ("PlantKeeper$Reader", 31, 4, 4, 158, 0),
  ("PlantKeeper$Reader", 34, 4, 5, 159, 0),
  ("PlantKeeper$Reader", 7, 4, 6, 160, 0),
  ("PlantKeeper$Reader", 13, 4, 7, 161, 0),
  ("PlantKeeper$Reader", 16, 4, 8, 162, 0),
  ("PlantKeeper$Reader", 37, 4, 9, 163, 0),
  ("PlantKeeper$Reader", 40, 4, 10, 164, 0),
  ("PlantKeeper$Rules", 13, 5, 0, 194, 0),
  ("PlantKeeper$Rules", 17, 5, 1, 195, 0),
  ("PlantKeeper$Rules", 86, 5, 2, 196, 0),
  ("PlantKeeper$Rules", 93, 5, 3, 197, 0),
  ("PlantKeeper", 187, 5, 3, 198, 1),
  ("PlantKeeper$Rules", 21, 5, 4, 199, 0),
  ("PlantKeeper$Rules", 25, 5, 5, 200, 0),
  ("PlantKeeper$Rules", 28, 5, 6, 201, 0),
  ("PlantKeeper$Maker", 232, 5, 6, 202, 1),
  ("PlantKeeper$Rules", 31, 5, 7, 203, 0),
  ("PlantKeeper$Maker", 138, 5, 7, 204, 1),
  ("PlantKeeper$Rules", 34, 5, 8, 205, 0),
  ("PlantKeeper$Maker", 173, 5, 8, 206, 1),
  ("PlantKeeper$Rules", 37, 5, 9, 207, 0),
  ("PlantKeeper$Maker", 161, 5, 9, 208, 1),
  ("PlantKeeper", 285, 5, 9, 209, 1),
  ("PlantKeeper$Rules", 40, 5, 10, 210, 0),
  ("PlantKeeper$Maker", 152, 5, 10, 211, 1),
  ("PlantKeeper", 347, 5, 10, 212, 1),
  ("PlantKeeper$Rules", 43, 5, 11, 213, 0),
  ("PlantKeeper$Maker", 158, 5, 11, 214, 1),
  ("PlantKeeper", 326, 5, 11, 215, 1),
  ("PlantKeeper$Rules", 46, 5, 12, 216, 0),
  ("PlantKeeper$Maker", 259, 5, 12, 217, 1),
  ("PlantKeeper$Rules", 49, 5, 13, 218, 0),
  ("PlantKeeper", 329, 5, 13, 219, 1),
  ("PlantKeeper$Maker", 262, 5, 13, 220, 1),
  ("PlantKeeper$Rules", 52, 5, 14, 221, 0),
  ("PlantKeeper$Maker", 197, 5, 14, 222, 1),
  ("PlantKeeper", 320, 5, 14, 223, 1),
  ("PlantKeeper$Rules", 55, 5, 15, 224, 0),
  ("PlantKeeper$Maker", 155, 5, 15, 225, 1),
  ("PlantKeeper", 323, 5, 15, 226, 1),
  ("PlantKeeper$Rules", 58, 5, 16, 227, 0),
  ("PlantKeeper$Rules", 115, 5, 17, 228, 0),
  ("PlantKeeper$Rules", 61, 5, 18, 229, 0),
  ("PlantKeeper", 154, 5, 18, 230, 1),
  ("PlantKeeper$Maker", 101, 5, 18, 231, 1),
  ("PlantKeeper$Rules", 64, 5, 19, 232, 0),
  ("PlantKeeper$Maker", 145, 5, 19, 233, 1),
  ("PlantKeeper", 282, 5, 19, 234, 1),
  ("PlantKeeper$Rules", 67, 5, 20, 235, 0),
  ("PlantKeeper$Maker", 104, 5, 20, 236, 1),
  ("PlantKeeper$Rules", 70, 5, 21, 237, 0),
  ("PlantKeeper$Maker", 107, 5, 21, 238, 1),
  ("PlantKeeper$Maker", 54, 5, 22, 239, 1),
  ("PlantKeeper$Rules", 118, 5, 22, 1000, 0),
  ("PlantKeeper", 341, 5, 22, 1001, 1),
  ("PlantKeeper$Maker", 44, 5, 23, 1002, 1),
  ("PlantKeeper$Rules", 121, 5, 23, 1003, 0),
  ("PlantKeeper", 377, 5, 23, 1004, 1),
  ("PlantKeeper$Rules", 109, 5, 24, 1005, 0),
  ("PlantKeeper$Rules", 153, 5, 25, 1006, 0),
  ("PlantKeeper$Rules", 162, 5, 26, 1007, 0),
  ("PlantKeeper$Rules", 7, 5, 27, 1008, 0),
  ("PlantKeeper$Rules", 73, 5, 28, 1009, 0),
  ("PlantKeeper$Rules", 242, 5, 29, 1010, 0),
  ("PlantKeeper$Code", 19, 6, 0, 1079, 0),
  ("PlantKeeper$Maker", 92, 6, 0, 1080, 1),
  ("PlantKeeper$Code", 7, 6, 1, 1081, 0),
  ("PlantKeeper$Maker", 95, 6, 1, 1082, 1),
  ("PlantKeeper$Code", 13, 6, 2, 1083, 0),
  ("PlantKeeper$Prover", 82, 6, 2, 1084, 1),
  ("PlantKeeper$Code", 16, 6, 3, 1085, 0),
  ("PlantKeeper$Prover", 79, 6, 3, 1086, 1),
  ("PlantKeeper$Machine", 84, 6, 3, 1087, 1),
  ("PlantKeeper$Code", 26, 6, 4, 1088, 0),
  ("PlantKeeper$Prover", 39, 6, 4, 1089, 1),
  ("PlantKeeper$Machine", 51, 6, 4, 1090, 1),
  ("PlantKeeper", 161, 6, 4, 1091, 1),
  ("PlantKeeper$Code", 29, 6, 5, 1092, 0),
  ("PlantKeeper$Maker", 70, 6, 5, 1093, 1),
  ("PlantKeeper", 376, 6, 5, 1094, 1),
  ("PlantKeeper$Code", 22, 6, 6, 1095, 0),
  ("PlantKeeper$Prover", 85, 6, 6, 1096, 1),
  ("PlantKeeper$Grid", 7, 8, 0, 1127, 0),
  ("PlantKeeper$Grid", 13, 8, 1, 1128, 0),
  ("PlantKeeper$Grid", 17, 8, 2, 1129, 0),
  ("PlantKeeper$Grid", 20, 8, 3, 1130, 0),
  ("PlantKeeper$Grid", 23, 8, 4, 1131, 0),
  ("PlantKeeper$Maker", 271, 8, 4, 1132, 1),
  ("PlantKeeper$Grid", 27, 8, 5, 1133, 0),
  ("PlantKeeper$Grid", 30, 8, 6, 1134, 0),
  ("PlantKeeper$Maker", 18, 7, 0, 1150, 0),
  ("PlantKeeper$Maker", 22, 7, 1, 1151, 0),
  ("PlantKeeper$Maker", 26, 7, 2, 1152, 0),
  ("PlantKeeper$Maker", 30, 7, 3, 1153, 0),
  ("PlantKeeper$Maker", 34, 7, 4, 1154, 0),
  ("PlantKeeper$Maker", 12, 7, 5, 1155, 0),
  ("PlantKeeper$Maker", 37, 7, 6, 1156, 0),
  ("PlantKeeper$Maker", 61, 7, 7, 1157, 0),
  ("PlantKeeper$Maker", 41, 7, 8, 1158, 0),
  ("PlantKeeper$Maker", 64, 7, 9, 1159, 0),
  ("PlantKeeper$Maker", 57, 7, 10, 1160, 0),
  ("PlantKeeper$Maker", 77, 7, 11, 1161, 0),
  ("PlantKeeper$Prover", 17, 9, 0, 1193, 0),
  ("PlantKeeper$Prover", 49, 9, 1, 1194, 0),
  ("PlantKeeper", 195, 9, 1, 1195, 1),
  ("PlantKeeper$Prover", 52, 9, 2, 1196, 0),
  ("PlantKeeper$Prover", 7, 9, 3, 1197, 0),
  ("PlantKeeper", 157, 9, 3, 1198, 1),
  ("PlantKeeper$Prover", 13, 9, 4, 1199, 0),
  ("PlantKeeper$Prover", 21, 9, 5, 1200, 0),
  ("PlantKeeper$Prover", 24, 9, 6, 1201, 0),
  ("PlantKeeper$Prover", 27, 9, 7, 1202, 0),
  ("PlantKeeper$Prover", 30, 9, 8, 1203, 0),
  ("PlantKeeper$Prover", 33, 9, 9, 1204, 0),
  ("PlantKeeper$Prover", 36, 9, 10, 1205, 0),
  ("PlantKeeper$Prover", 159, 9, 11, 1206, 0),
  ("PlantKeeper$Machine", 22, 10, 0, 1239, 0),
  ("PlantKeeper$Machine", 26, 10, 1, 2000, 0),
  ("PlantKeeper$Images", 28, 10, 1, 2001, 1),
  ("PlantKeeper", 221, 10, 1, 2002, 1),
  ("PlantKeeper$Machine", 7, 10, 2, 2003, 0),
  ("PlantKeeper$Machine", 36, 10, 3, 2004, 0),
  ("PlantKeeper$Machine", 13, 10, 4, 2005, 0),
  ("PlantKeeper$Machine", 16, 10, 5, 2006, 0),
  ("PlantKeeper$Machine", 19, 10, 6, 2007, 0),
  ("PlantKeeper$Machine", 45, 10, 7, 2008, 0),
  ("PlantKeeper$Machine", 48, 10, 8, 2009, 0),
  ("PlantKeeper$Machine", 29, 10, 9, 2010, 0),
  ("PlantKeeper", 271, 10, 9, 2011, 1),
  ("PlantKeeper$Machine", 33, 10, 10, 2012, 0),
  ("PlantKeeper$Images", 24, 11, 0, 2045, 0),
  ("PlantKeeper$Images", 9, 11, 1, 2046, 0),
  ("PlantKeeper$Images", 15, 11, 2, 2047, 0),
  ("PlantKeeper$Images", 18, 11, 3, 2048, 0),
  ("PlantKeeper", 259, 11, 3, 2049, 1),
  ("PlantKeeper$Images", 21, 11, 4, 2050, 0),
  ("PlantKeeper", 262, 11, 4, 2051, 1),
  ("PlantKeeper$Check", 7, 12, 0, 2070, 0),
  ("PlantKeeper$Line", 13, 13, 0, 2086, 0),
  ("PlantKeeper$Line", 7, 13, 1, 2087, 0),
  ("PlantKeeper$Line", 20, 13, 2, 2088, 0),
  ("PlantKeeper$Desk", 84, 13, 2, 2089, 1),
  ("PlantKeeper$Line", 27, 13, 3, 2090, 0),
  ("PlantKeeper$Line", 30, 13, 4, 2091, 0),
  ("PlantKeeper$Line", 33, 13, 5, 2092, 0),
  ("PlantKeeper$Desk", 13, 14, 0, 2112, 0),
  ("PlantKeeper$Desk", 17, 14, 1, 2113, 0),
  ("PlantKeeper$Desk", 7, 14, 2, 2114, 0),
  ("PlantKeeper", 373, 14, 2, 2115, 1),
  ("PlantKeeper$Desk", 82, 14, 3, 2116, 0),
  ("PlantKeeper", 372, 14, 3, 2117, 1),
  ("PlantKeeper$Desk", 21, 14, 4, 2118, 0),
  ("PlantKeeper$Desk", 34, 14, 5, 2119, 0),
  ("PlantKeeper$Desk", 57, 14, 6, 2120, 0),
  ("PlantKeeper$Desk", 51, 14, 7, 2121, 0),
  ("PlantKeeper$Desk", 48, 14, 8, 2122, 0),
  ("PlantKeeper", 7, 0, 0, 2142, 0),
  ("PlantKeeper", 137, 0, 1, 2143, 0),
  ("PlantKeeper", 18, 0, 2, 2144, 0),
  ("PlantKeeper", 27, 0, 3, 2145, 0),
  ("PlantKeeper", 37, 0, 4, 2146, 0),
  ("PlantKeeper", 46, 0, 5, 2147, 0),
  ("PlantKeeper", 55, 0, 6, 2148, 0),
  ("PlantKeeper", 62, 0, 7, 2149, 0),
  ("PlantKeeper", 71, 0, 8, 2150, 0),
  ("PlantKeeper", 80, 0, 9, 2151, 0),
  ("PlantKeeper", 89, 0, 10, 2152, 0),
  ("PlantKeeper", 98, 0, 11, 2153, 0),
  ("PlantKeeper", 105, 0, 12, 2154, 0),
  ("PlantKeeper", 114, 0, 13, 2155, 0),
  ("PlantKeeper", 123, 0, 14, 2156, 0),
  ("PlantKeeper", 127, 0, 15, 2157, 0),
  ("PlantKeeper", 357, 0, 16, 2158, 0),
  ("PlantKeeper", 165, 0, 17, 2159, 0),
  ("PlantKeeper", 232, 0, 18, 2160, 0),
  ("PlantKeeper", 147, 0, 19, 2161, 0),
  ("PlantKeeper", 131, 0, 20, 2162, 0),
  ("PlantKeeper", 204, 0, 21, 2163, 0),
  ("PlantKeeper", 207, 0, 22, 2164, 0),
  ("PlantKeeper", 210, 0, 23, 2165, 0),
  ("PlantKeeper", 213, 0, 24, 2166, 0),
  ("PlantKeeper", 302, 0, 25, 2167, 0),
  ("PlantKeeper", 134, 0, 26, 2168, 0),
  ("PlantKeeper", 272, 0, 27, 2169, 0),
  ("PlantKeeperModel", 184, 15, 1, 7234, 0),
  ("PlantKeeperModel", 7, 15, 2, 7235, 0),
  ("PlantKeeperModel", 259, 15, 3, 7236, 0),
  ("PlantKeeperModel", 14, 15, 4, 7237, 0),
  ("PlantKeeperModel", 17, 15, 5, 7238, 0),
  ("PlantKeeperModel", 217, 15, 6, 7239, 0),
  ("PlantKeeperModel", 214, 15, 7, 8000, 0),
  ("PlantKeeperModel", 208, 15, 8, 8001, 0),
  ("PlantKeeperModel", 242, 15, 9, 8002, 0),
  ("PlantKeeperModel", 201, 15, 10, 8003, 0),
  ("PlantKeeperModel", 178, 15, 11, 8004, 0),
  ("PlantKeeperModel", 312, 15, 12, 8005, 0),
  ("PlantKeeperModel", 328, 15, 13, 8006, 0),
  ("PlantKeeperModel", 315, 15, 14, 8007, 0),
  ("PlantKeeperModel", 22, 15, 15, 8008, 0),
  ("PlantKeeperModel", 25, 15, 16, 8009, 0),
  ("PlantKeeperModel", 28, 15, 17, 8010, 0),
  ("PlantKeeperModel", 31, 15, 18, 8011, 0),
  ("PlantKeeperModel", 34, 15, 19, 8012, 0),
  ("PlantKeeperModel", 37, 15, 20, 8013, 0),
  ("PlantKeeperModel", 40, 15, 21, 8014, 0),
  ("PlantKeeperModel", 331, 15, 22, 8015, 0),
  ("PlantKeeperModel", 43, 15, 23, 8016, 0),
  ("PlantKeeperModel", 46, 15, 24, 8017, 0),
  ("PlantKeeperModel", 325, 15, 25, 8018, 0),
  ("PlantKeeperModel", 49, 15, 26, 8019, 0),
  ("PlantKeeperModel", 52, 15, 27, 8020, 0),
  ("PlantKeeperModel", 55, 15, 28, 8021, 0),
  ("PlantKeeperModel", 445, 15, 29, 8022, 0),
  ("PlantKeeperModel", 448, 15, 30, 8023, 0),
  ("PlantKeeperModel", 513, 15, 31, 8024, 0),
  ("PlantKeeperModel", 516, 15, 32, 8025, 0),
  ("PlantKeeperModel", 462, 15, 33, 8026, 0),
  ("PlantKeeperModel", 58, 15, 34, 8027, 0),
  ("PlantKeeperModel", 61, 15, 35, 8028, 0),
  ("PlantKeeperModel", 64, 15, 36, 8029, 0),
  ("PlantKeeperModel", 67, 15, 37, 8030, 0),
  ("PlantKeeperModel", 70, 15, 38, 8031, 0),
  ("PlantKeeperModel", 73, 15, 39, 8032, 0),
  ("PlantKeeperModel", 76, 15, 40, 8033, 0),
  ("PlantKeeperModel", 465, 15, 41, 8034, 0),
  ("PlantKeeperModel", 79, 15, 42, 8035, 0),
  ("PlantKeeperModel", 82, 15, 43, 8036, 0),
  ("PlantKeeperModel", 85, 15, 44, 8037, 0),
  ("PlantKeeperModel", 88, 15, 45, 8038, 0),
  ("PlantKeeperModel", 91, 15, 46, 8039, 0),
  ("PlantKeeperModel", 94, 15, 47, 8040, 0),
  ("PlantKeeperModel", 97, 15, 48, 8041, 0),
  ("PlantKeeperModel", 100, 15, 49, 8042, 0),
  ("PlantKeeperModel", 103, 15, 50, 8043, 0),
  ("PlantKeeperModel", 106, 15, 51, 8044, 0),
  ("PlantKeeperModel", 109, 15, 52, 8045, 0),
  ("PlantKeeperModel", 112, 15, 53, 8046, 0),
  ("PlantKeeperModel", 550, 15, 54, 8047, 0),
  ("PlantKeeperModel", 590, 15, 55, 8048, 0),
  ("PlantKeeperModel", 652, 15, 56, 8049, 0),
  ("PlantKeeperModel", 115, 15, 57, 8050, 0),
  ("PlantKeeperModel", 658, 15, 58, 8051, 0),
  ("PlantKeeperModel", 118, 15, 59, 8052, 0),
  ("PlantKeeperModel", 121, 15, 60, 8053, 0),
  ("PlantKeeperModel", 124, 15, 61, 8054, 0),
  ("PlantKeeperModel", 127, 15, 62, 8055, 0),
  ("PlantKeeperModel", 130, 15, 63, 8056, 0),
  ("PlantKeeperModel", 655, 15, 64, 8057, 0),
  ("PlantKeeperModel", 133, 15, 65, 8058, 0),
  ("PlantKeeperModel", 697, 15, 66, 8059, 0),
  ("PlantKeeperModel", 137, 15, 67, 8060, 0),
  ("PlantKeeperModel", 694, 15, 68, 8061, 0),
  ("PlantKeeperModel", 140, 15, 69, 8062, 0),
  ("PlantKeeperModel", 143, 15, 70, 8063, 0),
  ("PlantKeeperModel", 147, 15, 71, 8064, 0),
  ("PlantKeeperModel", 150, 15, 72, 8065, 0),
  ("PlantKeeperModel", 832, 15, 73, 8066, 0),
  ("PlantKeeperModel", 817, 15, 74, 8067, 0),
  ("PlantKeeperModel", 814, 15, 75, 8068, 0),
  ("PlantKeeperModel", 811, 15, 76, 8069, 0),
  ("PlantKeeperModel", 153, 15, 77, 8070, 0),
  ("PlantKeeperModel", 844, 15, 78, 8071, 0),
  ("PlantKeeperModel", 156, 15, 79, 8072, 0),
  ("PlantKeeperModel", 856, 15, 80, 8073, 0),
  ("PlantKeeperModel", 159, 15, 81, 8074, 0),
  ("PlantKeeperModel", 874, 15, 82, 8075, 0),
  ("PlantKeeperModel", 163, 15, 83, 8076, 0),
  ("PlantKeeperModel", 877, 15, 84, 8077, 0),
  ("PlantKeeperModel", 880, 15, 85, 8078, 0),
  ("PlantKeeperModel", 892, 15, 86, 8079, 0),
  ("PlantKeeperModel", 937, 15, 87, 8080, 0),
  ("PlantKeeperModel", 956, 15, 88, 8081, 0),
  ("PlantKeeperModel", 166, 15, 89, 8082, 0),
  ("PlantKeeperModel", 169, 15, 90, 8083, 0),
  ("PlantKeeperModel", 172, 15, 91, 8084, 0),
  ("PlantKeeperModel", 175, 15, 92, 8085, 0),
  ("PlantKeeperModel", 907, 15, 93, 8086, 0),
  ("PlantKeeperModel", 904, 15, 94, 8087, 0),
  ("PlantKeeperModel", 910, 15, 95, 8088, 0)]
def fldOk (q : String × Nat × Nat × Nat × Nat × Nat) : Bool := match classes[q.2.2.1]? with | some c => decide (q.2.2.2.1 < c.2.2) && decide ((c.2.1 q.2.2.2.1).1 = c.1) && (if q.2.2.2.2.2 = 0 then tb q.2.2.2.2.1 (.fieldLink q.1 q.2.1 c.1 (c.2.1 q.2.2.2.1).2.1 (c.2.1 q.2.2.2.1).2.2.1) else tb q.2.2.2.2.1 (.fieldLinkNest q.1 q.2.1 c.1 (c.2.1 q.2.2.2.1).2.1 (c.2.1 q.2.2.2.1).2.2.1 "PlantKeeper")) | none => false
/-- rows outside: class, name, kind of places, contents -/
def extT : List (String × String × Nat × List Int32) := [("PlantKeeper$Tokens", "WORDS", 1, [70, 85, 78, 67, 84, 73, 79, 78, 32, 69, 78, 68, 95, 70, 85, 78, 67, 84, 73, 79, 78, 32, 70, 85, 78, 67, 84, 73, 79, 78, 95, 66, 76, 79, 67, 75, 32, 69, 78, 68, 95, 70, 85, 78, 67, 84, 73, 79, 78, 95, 66, 76, 79, 67, 75, 32, 80, 82, 79, 71, 82, 65, 77, 32, 69, 78, 68, 95, 80, 82, 79, 71, 82, 65, 77, 32, 86, 65, 82, 32, 86, 65, 82, 95, 73, 78, 80, 85, 84, 32, 86, 65, 82, 95, 79, 85, 84, 80, 85, 84, 32, 69, 78, 68, 95, 86, 65, 82, 32, 65, 84, 32, 66, 79, 79, 76, 32, 73, 78, 84, 32, 68, 73, 78, 84, 32, 65, 82, 82, 65, 89, 32, 79, 70, 32, 73, 70, 32, 84, 72, 69, 78, 32, 69, 76, 83, 73, 70, 32, 69, 76, 83, 69, 32, 69, 78, 68, 95, 73, 70, 32, 67, 65, 83, 69, 32, 69, 78, 68, 95, 67, 65, 83, 69, 32, 70, 79, 82, 32, 84, 79, 32, 66, 89, 32, 68, 79, 32, 69, 78, 68, 95, 70, 79, 82, 32, 69, 88, 73, 84, 32, 82, 69, 84, 85, 82, 78, 32, 79, 82, 32, 88, 79, 82, 32, 65, 78, 68, 32, 77, 79, 68, 32, 78, 79, 84, 32, 84, 82, 85, 69, 32, 70, 65, 76, 83, 69, 32, 76, 65, 68, 68, 69, 82, 32, 69, 78, 68, 95, 76, 65, 68, 68, 69, 82, 32, 82, 85, 78, 71, 32, 69, 78, 68, 95, 82, 85, 78, 71, 32]),
  ("PlantKeeper$Tokens", "PLACES", 1, [73, 88, 81, 88, 77, 88, 73, 87, 81, 87, 77, 87]),
  ("PlantKeeper$Tokens", "SIGNS", 1, [40, 41, 91, 93, 44, 59, 58, 46, 43, 45, 42, 47, 61, 60, 62, 38, 124]),
  ("PlantKeeper$Reader", "BINDS", 1, [0, 1, 2, 3, 3, 4, 4, 4, 4, 5, 5, 6, 6, 6]),
  ("PlantKeeper$Rules", "STANDARDS", 1, [84, 79, 78, 32, 84, 79, 70, 32, 84, 80, 32, 67, 84, 85, 32, 67, 84, 68, 32, 82, 95, 84, 82, 73, 71, 32, 70, 95, 84, 82, 73, 71, 32, 83, 82, 32, 82, 83, 32, 65, 66, 83, 32, 77, 73, 78, 32, 77, 65, 88, 32, 76, 73, 77, 73, 84, 32, 83, 69, 76, 32, 83, 72, 76, 32, 83, 72, 82, 32, 84, 79, 95, 73, 78, 84, 32, 84, 79, 95, 68, 73, 78, 84, 32, 84, 79, 95, 66, 79, 79, 76, 32]),
  ("PlantKeeper$Rules", "PARTS", 1, [73, 78, 32, 80, 84, 32, 81, 32, 69, 84, 32, 67, 85, 32, 82, 32, 80, 86, 32, 67, 86, 32, 67, 68, 32, 76, 68, 32, 67, 76, 75, 32, 83, 49, 32, 81, 49, 32, 83, 32, 82, 49, 32]),
  ("PlantKeeper$Rules", "PLACES", 0, [0, 256, 512, 768, 832, 896]),
  ("PlantKeeper$Rules", "TABLE", 0, [0, 0, 0, 0, 1, 0, 1, 2, 1, 1, 0, 2, 0, 2, 0, 0, 3, 2, 3, 0, 1, 0, 0, 0, 1, 1, 1, 2, 1, 1, 1, 2, 0, 2, 0, 1, 3, 2, 3, 0, 2, 0, 0, 0, 1, 2, 1, 2, 1, 1, 2, 2, 0, 2, 0, 2, 3, 2, 3, 0, 3, 4, 0, 0, 1, 3, 5, 0, 1, 1, 3, 6, 1, 2, 1, 3, 2, 0, 3, 0, 3, 7, 1, 4, 0, 4, 8, 0, 0, 1, 4, 9, 0, 1, 1, 4, 6, 1, 2, 1, 4, 2, 0, 3, 0, 4, 7, 1, 4, 0, 5, 10, 0, 0, 1, 5, 2, 0, 1, 0, 6, 10, 0, 0, 1, 6, 2, 0, 1, 0, 7, 11, 0, 0, 1, 7, 5, 0, 1, 1, 7, 12, 0, 2, 0, 8, 13, 0, 0, 1, 8, 14, 0, 1, 1, 8, 12, 0, 2, 0]),
  ("PlantKeeper$Maker", "TWOS", 1, [11, 12, 10, 13, 14, 15, 16, 17, 18, 0, 1, 2, 3, 4]),
  ("PlantKeeper$Maker", "WIDE_TWOS", 1, [11, 12, 10, 13, 14, 15, 16, 17, 18, 5, 6, 7, 8, 9]),
  ("PlantKeeper$Prover", "TAKEN", 0, [0, 0, 1, 1, 2, 0, 1, 2, 1, 3, 0, 1, 0, 0, 0, 0, 0, 0, 0]),
  ("PlantKeeper$Prover", "LEFT", 0, [1, 1, 0, 1, 0, 1, 0, 1, 1, 1, 0, 0, 0, 0, 0, 0, 0, 0, 0]),
  ("PlantKeeperModel", "TAKEN", 0, [0, 0, 1, 1, 2, 0, 1, 2, 1, 3, 0, 1, 0, 0, 0, 0, 0, 0, 0]),
  ("PlantKeeperModel", "LEFT", 0, [1, 1, 0, 1, 0, 1, 0, 1, 1, 1, 0, 0, 0, 0, 0, 0, 0, 0, 0])]
def staT : List (String × Nat × Nat × Nat × Nat) := [("PlantKeeper$Tokens", 92, 0, 3090, 0), ("PlantKeeper$Tokens", 131, 1, 3113, 0), ("PlantKeeper$Tokens", 138, 2, 3121, 0), ("PlantKeeper$Reader", 190, 3, 4020, 0), ("PlantKeeper$Rules", 127, 4, 4066, 0), ("PlantKeeper$Rules", 135, 5, 4077, 0), ("PlantKeeper$Rules", 201, 6, 4123, 0), ("PlantKeeper$Rules", 239, 7, 4177, 0), ("PlantKeeper$Maker", 235, 8, 5129, 0), ("PlantKeeper$Maker", 239, 9, 5131, 0), ("PlantKeeper$Prover", 139, 10, 6073, 0), ("PlantKeeper$Prover", 142, 11, 6075, 0), ("PlantKeeper", 293, 7, 7097, 1), ("PlantKeeper", 299, 5, 7102, 1), ("PlantKeeperModel", 771, 12, 12122, 0), ("PlantKeeperModel", 774, 13, 12124, 0)]
def staOk (q : String × Nat × Nat × Nat × Nat) : Bool := match extT[q.2.2.1]? with | some x => (if q.2.2.2.2 = 0 then tb q.2.2.2.1 (.fieldLink q.1 q.2.1 x.1 x.2.1 (if x.2.2.1 = 1 then "[B" else "[I")) else tb q.2.2.2.1 (.fieldLinkNest q.1 q.2.1 x.1 x.2.1 (if x.2.2.1 = 1 then "[B" else "[I") "PlantKeeper")) | none => false
def strT : List (String × Nat × String × List Int32 × Nat) := [("PlantKeeperModel", 248, " FUNCTION END_FUNCTION FUNCTION_BLOCK END_FUNCTION_BLOCK PROGRAM END_PROGRAM VAR VAR_INPUT VAR_OUTPUT END_VAR AT BOOL INT DINT ARRAY OF IF THEN ELSIF ELSE END_IF CASE END_CASE FOR TO BY DO END_FOR EXIT RETURN OR XOR AND MOD NOT TRUE FALSE LADDER END_LADDER RUNG END_RUNG ", [32, 70, 85, 78, 67, 84, 73, 79, 78, 32, 69, 78, 68, 95, 70, 85, 78, 67, 84, 73, 79, 78, 32, 70, 85, 78, 67, 84, 73, 79, 78, 95, 66, 76, 79, 67, 75, 32, 69, 78, 68, 95, 70, 85, 78, 67, 84, 73, 79, 78, 95, 66, 76, 79, 67, 75, 32, 80, 82, 79, 71, 82, 65, 77, 32, 69, 78, 68, 95, 80, 82, 79, 71, 82, 65, 77, 32, 86, 65, 82, 32, 86, 65, 82, 95, 73, 78, 80, 85, 84, 32, 86, 65, 82, 95, 79, 85, 84, 80, 85, 84, 32, 69, 78, 68, 95, 86, 65, 82, 32, 65, 84, 32, 66, 79, 79, 76, 32, 73, 78, 84, 32, 68, 73, 78, 84, 32, 65, 82, 82, 65, 89, 32, 79, 70, 32, 73, 70, 32, 84, 72, 69, 78, 32, 69, 76, 83, 73, 70, 32, 69, 76, 83, 69, 32, 69, 78, 68, 95, 73, 70, 32, 67, 65, 83, 69, 32, 69, 78, 68, 95, 67, 65, 83, 69, 32, 70, 79, 82, 32, 84, 79, 32, 66, 89, 32, 68, 79, 32, 69, 78, 68, 95, 70, 79, 82, 32, 69, 88, 73, 84, 32, 82, 69, 84, 85, 82, 78, 32, 79, 82, 32, 88, 79, 82, 32, 65, 78, 68, 32, 77, 79, 68, 32, 78, 79, 84, 32, 84, 82, 85, 69, 32, 70, 65, 76, 83, 69, 32, 76, 65, 68, 68, 69, 82, 32, 69, 78, 68, 95, 76, 65, 68, 68, 69, 82, 32, 82, 85, 78, 71, 32, 69, 78, 68, 95, 82, 85, 78, 71, 32], 9129),
  ("PlantKeeperModel", 285, "IXQXMXIWQWMW", [73, 88, 81, 88, 77, 88, 73, 87, 81, 87, 77, 87], 9192),
  ("PlantKeeperModel", 291, "()[],;:.+-*/=<>&|", [40, 41, 91, 93, 44, 59, 58, 46, 43, 45, 42, 47, 61, 60, 62, 38, 124], 9199),
  ("PlantKeeperModel", 454, " TON TOF TP CTU CTD R_TRIG F_TRIG SR RS ", [32, 84, 79, 78, 32, 84, 79, 70, 32, 84, 80, 32, 67, 84, 85, 32, 67, 84, 68, 32, 82, 95, 84, 82, 73, 71, 32, 70, 95, 84, 82, 73, 71, 32, 83, 82, 32, 82, 83, 32], 10202),
  ("PlantKeeperModel", 460, " ABS MIN MAX LIMIT SEL SHL SHR TO_INT TO_DINT TO_BOOL ", [32, 65, 66, 83, 32, 77, 73, 78, 32, 77, 65, 88, 32, 76, 73, 77, 73, 84, 32, 83, 69, 76, 32, 83, 72, 76, 32, 83, 72, 82, 32, 84, 79, 95, 73, 78, 84, 32, 84, 79, 95, 68, 73, 78, 84, 32, 84, 79, 95, 66, 79, 79, 76, 32], 10207),
  ("PlantKeeperModel", 469, "IN PT ", [73, 78, 32, 80, 84, 32], 11060),
  ("PlantKeeperModel", 471, "CU R PV ", [67, 85, 32, 82, 32, 80, 86, 32], 11061),
  ("PlantKeeperModel", 474, "CD LD PV ", [67, 68, 32, 76, 68, 32, 80, 86, 32], 11063),
  ("PlantKeeperModel", 477, "CLK ", [67, 76, 75, 32], 11065),
  ("PlantKeeperModel", 479, "S1 R ", [83, 49, 32, 82, 32], 11066),
  ("PlantKeeperModel", 481, "S R1 ", [83, 32, 82, 49, 32], 11067),
  ("PlantKeeperModel", 483, "Q ET ", [81, 32, 69, 84, 32], 11068),
  ("PlantKeeperModel", 486, "Q CV ", [81, 32, 67, 86, 32], 11069),
  ("PlantKeeperModel", 488, "Q ", [81, 32], 11070),
  ("PlantKeeperModel", 490, "Q1 ", [81, 49, 32], 11071)]
-- calls: who, entry, method, kind (0 of no object, 1 the same by the nest, 2 of an object, 3 by a word above), how many arguments, where the words stand; what the link names
set_option maxRecDepth 20000 in
def calT : List (String × Nat × Nat × Nat × Nat × List Nat × MethodName) := [("PlantKeeper", 140, 2, 2, 1, [2231, 2233, 14000], ⟨"PlantKeeper", "add", "(I)V"⟩),
  ("PlantKeeper", 143, 4, 0, 3, [2239, 3000], ⟨"PlantKeeper", "within", "(III)Z"⟩),
  ("PlantKeeper", 169, 6, 2, 0, [3007, 3009, 14001], ⟨"PlantKeeper", "take", "()I"⟩),
  ("PlantKeeper", 173, 7, 2, 1, [3011, 3012, 3013], ⟨"PlantKeeper$Reader", "read", "(I)I"⟩),
  ("PlantKeeper", 180, 73, 2, 2, [4058, 4060, 17006], ⟨"PlantKeeper", "fail", "(II)I"⟩),
  ("PlantKeeper", 184, 74, 2, 0, [4062, 4063, 4064], ⟨"PlantKeeper$Rules", "judge", "()I"⟩),
  ("PlantKeeper", 188, 116, 2, 0, [4237, 4238, 4239], ⟨"PlantKeeper$Maker", "make", "()Z"⟩),
  ("PlantKeeper", 192, 172, 2, 0, [5232, 5233, 5234], ⟨"PlantKeeper$Prover", "prove", "()I"⟩),
  ("PlantKeeper", 198, 200, 2, 1, [6115, 6117, 23002], ⟨"PlantKeeper", "placeOf", "(I)I"⟩),
  ("PlantKeeper", 201, 201, 2, 0, [6119, 6121, 23003], ⟨"PlantKeeper", "bound", "()I"⟩),
  ("PlantKeeper", 215, 202, 2, 0, [6123, 6125, 23004], ⟨"PlantKeeper", "begin", "()V"⟩),
  ("PlantKeeper$Reader", 54, 8, 2, 0, [3015, 3016, 3017], ⟨"PlantKeeper$Names", "clear", "()V"⟩),
  ("PlantKeeper$Reader", 59, 9, 2, 1, [3019, 3020, 3021], ⟨"PlantKeeper$Tokens", "begin", "(I)V"⟩),
  ("PlantKeeper$Reader", 63, 30, 2, 0, [3123, 3125, 14014], ⟨"PlantKeeper$Reader", "check", "()V"⟩),
  ("PlantKeeper$Reader", 66, 31, 2, 3, [3127, 3128, 3129], ⟨"PlantKeeper$Nodes", "add", "(III)I"⟩),
  ("PlantKeeper$Reader", 73, 32, 2, 1, [3131, 3133, 14015], ⟨"PlantKeeper$Reader", "block", "(I)V"⟩),
  ("PlantKeeper$Reader", 76, 70, 2, 1, [4046, 4047, 4048], ⟨"PlantKeeper$Nodes", "settle", "(I)V"⟩),
  ("PlantKeeper$Tokens", 30, 10, 2, 0, [3023, 3024, 3025], ⟨"PlantKeeper$Tokens", "next", "()V"⟩),
  ("PlantKeeper$Tokens", 60, 11, 2, 0, [3027, 3029, 14002], ⟨"PlantKeeper$Tokens", "skip", "()V"⟩),
  ("PlantKeeper$Tokens", 47, 12, 2, 1, [3031, 3033, 14003], ⟨"PlantKeeper$Tokens", "peek", "(I)I"⟩),
  ("PlantKeeper$Tokens", 33, 15, 0, 1, [3043, 3044], ⟨"PlantKeeper$Tokens", "great", "(I)I"⟩),
  ("PlantKeeper$Tokens", 63, 16, 2, 0, [3046, 3048, 14006], ⟨"PlantKeeper$Tokens", "time", "()V"⟩),
  ("PlantKeeper$Tokens", 37, 22, 0, 1, [3079, 3080], ⟨"PlantKeeper$Tokens", "isLetter", "(I)Z"⟩),
  ("PlantKeeper$Tokens", 66, 23, 2, 0, [3082, 3084, 14009], ⟨"PlantKeeper$Tokens", "name", "()V"⟩),
  ("PlantKeeper$Tokens", 41, 19, 0, 1, [3058, 3059], ⟨"PlantKeeper$Tokens", "isDigit", "(I)Z"⟩),
  ("PlantKeeper$Tokens", 69, 27, 2, 0, [3103, 3105, 14011], ⟨"PlantKeeper$Tokens", "number", "()V"⟩),
  ("PlantKeeper$Tokens", 72, 28, 2, 0, [3109, 3111, 14012], ⟨"PlantKeeper$Tokens", "place", "()V"⟩),
  ("PlantKeeper$Tokens", 75, 29, 2, 1, [3117, 3119, 14013], ⟨"PlantKeeper$Tokens", "sign", "(I)V"⟩),
  ("PlantKeeper$Tokens", 50, 13, 2, 0, [3035, 3037, 14004], ⟨"PlantKeeper$Tokens", "remark", "()V"⟩),
  ("PlantKeeper$Tokens", 56, 14, 2, 1, [3039, 3041, 14005], ⟨"PlantKeeper$Tokens", "fail", "(I)V"⟩),
  ("PlantKeeper$Tokens", 113, 17, 2, 1, [3050, 3052, 14007], ⟨"PlantKeeper$Tokens", "digits", "(I)J"⟩),
  ("PlantKeeper$Tokens", 121, 20, 2, 1, [3071, 3073, 14008], ⟨"PlantKeeper$Tokens", "take", "(J)V"⟩),
  ("PlantKeeper$Tokens", 97, 18, 0, 1, [3055, 3056], ⟨"PlantKeeper$Tokens", "digit", "(I)I"⟩),
  ("PlantKeeper$Tokens", 100, 478, 0, 2, [3061, 3062], ⟨"java/lang/Math", "max", "(JJ)J"⟩),
  ("PlantKeeper$Tokens", 108, 479, 0, 2, [3065, 3066], ⟨"java/lang/Math", "min", "(JJ)J"⟩),
  ("PlantKeeper$Tokens", 78, 21, 0, 1, [3076, 3077], ⟨"PlantKeeper$Tokens", "isPart", "(I)Z"⟩),
  ("PlantKeeper$Tokens", 83, 24, 2, 1, [3086, 3088, 14010], ⟨"PlantKeeper$Tokens", "word", "(I)I"⟩),
  ("PlantKeeper$Tokens", 89, 25, 2, 2, [3092, 3093, 3094], ⟨"PlantKeeper$Names", "number", "([BI)I"⟩),
  ("PlantKeeper$Names", 21, 26, 2, 1, [3096, 3097, 3098], ⟨"PlantKeeper$Names", "size", "(I)I"⟩),
  ("PlantKeeper$Reader", 97, 33, 2, 1, [3135, 3137, 15000], ⟨"PlantKeeper$Reader", "fail", "(I)V"⟩),
  ("PlantKeeper$Reader", 110, 34, 2, 3, [3139, 3141, 15001], ⟨"PlantKeeper$Reader", "add", "(III)I"⟩),
  ("PlantKeeper$Reader", 96, 36, 2, 0, [3147, 3149, 15002], ⟨"PlantKeeper$Reader", "next", "()V"⟩),
  ("PlantKeeper$Reader", 114, 37, 2, 0, [3152, 3154, 15003], ⟨"PlantKeeper$Reader", "name", "()I"⟩),
  ("PlantKeeper$Reader", 118, 39, 2, 1, [3160, 3162, 15005], ⟨"PlantKeeper$Reader", "sign", "(I)V"⟩),
  ("PlantKeeper$Reader", 121, 41, 2, 1, [3168, 3170, 15007], ⟨"PlantKeeper$Reader", "simple", "(I)V"⟩),
  ("PlantKeeper$Reader", 92, 42, 2, 1, [3172, 3174, 15008], ⟨"PlantKeeper$Reader", "isWord", "(I)Z"⟩),
  ("PlantKeeper$Reader", 124, 43, 2, 1, [3176, 3178, 15009], ⟨"PlantKeeper$Reader", "section", "(I)I"⟩),
  ("PlantKeeper$Reader", 128, 49, 2, 1, [3200, 3202, 15015], ⟨"PlantKeeper$Reader", "ladder", "(I)V"⟩),
  ("PlantKeeper$Reader", 131, 53, 2, 2, [3216, 3218, 16003], ⟨"PlantKeeper$Reader", "body", "(II)V"⟩),
  ("PlantKeeper$Reader", 134, 48, 2, 1, [3196, 3198, 15014], ⟨"PlantKeeper$Reader", "word", "(I)V"⟩),
  ("PlantKeeper$Reader", 106, 35, 2, 2, [3143, 3144, 3145], ⟨"PlantKeeper$Nodes", "put", "(II)V"⟩),
  ("PlantKeeper$Reader", 86, 10, 2, 0, [3151, 3024, 3025], ⟨"PlantKeeper$Tokens", "next", "()V"⟩),
  ("PlantKeeper$Reader", 103, 38, 2, 1, [3156, 3158, 15004], ⟨"PlantKeeper$Reader", "isKind", "(I)Z"⟩),
  ("PlantKeeper$Reader", 100, 40, 2, 1, [3164, 3166, 15006], ⟨"PlantKeeper$Reader", "isSign", "(I)Z"⟩),
  ("PlantKeeper$Reader", 137, 44, 2, 1, [3180, 3182, 15010], ⟨"PlantKeeper$Reader", "declaration", "(I)V"⟩),
  ("PlantKeeper$Reader", 140, 45, 2, 1, [3184, 3186, 15011], ⟨"PlantKeeper$Reader", "takes", "(I)Z"⟩),
  ("PlantKeeper$Reader", 143, 46, 2, 1, [3188, 3190, 15012], ⟨"PlantKeeper$Reader", "type", "(I)V"⟩),
  ("PlantKeeper$Reader", 146, 47, 2, 1, [3192, 3194, 15013], ⟨"PlantKeeper$Reader", "constant", "(I)V"⟩),
  ("PlantKeeper$Reader", 207, 50, 2, 1, [3204, 3206, 16000], ⟨"PlantKeeper$Reader", "row", "(I)V"⟩),
  ("PlantKeeper$Reader", 210, 51, 2, 1, [3208, 3210, 16001], ⟨"PlantKeeper$Reader", "cell", "(I)V"⟩),
  ("PlantKeeper$Reader", 203, 52, 2, 2, [3212, 3214, 16002], ⟨"PlantKeeper$Reader", "output", "(II)I"⟩),
  ("PlantKeeper$Reader", 150, 54, 2, 1, [3220, 3222, 16004], ⟨"PlantKeeper$Reader", "statement", "(I)Z"⟩),
  ("PlantKeeper$Reader", 153, 55, 2, 1, [3224, 3226, 16005], ⟨"PlantKeeper$Reader", "named", "(I)V"⟩),
  ("PlantKeeper$Reader", 156, 65, 2, 1, [4026, 4028, 16015], ⟨"PlantKeeper$Reader", "choose", "(I)V"⟩),
  ("PlantKeeper$Reader", 159, 67, 2, 1, [4034, 4036, 17001], ⟨"PlantKeeper$Reader", "select", "(I)V"⟩),
  ("PlantKeeper$Reader", 162, 69, 2, 1, [4042, 4044, 17003], ⟨"PlantKeeper$Reader", "repeat", "(I)V"⟩),
  ("PlantKeeper$Reader", 165, 56, 2, 1, [3228, 3230, 16006], ⟨"PlantKeeper$Reader", "invoke", "(I)V"⟩),
  ("PlantKeeper$Reader", 168, 61, 2, 1, [4008, 4010, 16011], ⟨"PlantKeeper$Reader", "index", "(I)V"⟩),
  ("PlantKeeper$Reader", 171, 58, 2, 0, [3236, 3238, 16008], ⟨"PlantKeeper$Reader", "expression", "()I"⟩),
  ("PlantKeeper$Reader", 174, 57, 2, 0, [3232, 3234, 16007], ⟨"PlantKeeper$Reader", "open", "()V"⟩),
  ("PlantKeeper$Reader", 184, 59, 2, 0, [4000, 4002, 16009], ⟨"PlantKeeper$Reader", "operand", "()I"⟩),
  ("PlantKeeper$Reader", 187, 63, 2, 0, [4016, 4018, 16013], ⟨"PlantKeeper$Reader", "operator", "()I"⟩),
  ("PlantKeeper$Reader", 194, 64, 2, 0, [4022, 4024, 16014], ⟨"PlantKeeper$Reader", "reduce", "()V"⟩),
  ("PlantKeeper$Reader", 197, 60, 2, 0, [4004, 4006, 16010], ⟨"PlantKeeper$Reader", "simpleOperand", "()I"⟩),
  ("PlantKeeper$Reader", 200, 62, 2, 1, [4012, 4014, 16012], ⟨"PlantKeeper$Reader", "arguments", "(I)V"⟩),
  ("PlantKeeper$Reader", 177, 66, 2, 1, [4030, 4032, 17000], ⟨"PlantKeeper$Reader", "otherwise", "(I)V"⟩),
  ("PlantKeeper$Reader", 180, 68, 2, 0, [4038, 4040, 17002], ⟨"PlantKeeper$Reader", "isConstant", "()Z"⟩),
  ("PlantKeeper$Nodes", 41, 71, 2, 1, [4050, 4052, 17004], ⟨"PlantKeeper$Nodes", "following", "(I)I"⟩),
  ("PlantKeeper$Nodes", 45, 72, 2, 2, [4054, 4056, 17005], ⟨"PlantKeeper$Nodes", "move", "([IZ)V"⟩),
  ("PlantKeeper$Rules", 131, 75, 2, 2, [4068, 4070, 17007], ⟨"PlantKeeper$Rules", "find", "([BI)I"⟩),
  ("PlantKeeper$Rules", 139, 77, 2, 1, [4079, 4081, 17008], ⟨"PlantKeeper$Rules", "leave", "(I)V"⟩),
  ("PlantKeeper$Rules", 143, 115, 2, 1, [4233, 4235, 19007], ⟨"PlantKeeper$Rules", "enter", "(I)V"⟩),
  ("PlantKeeper$Rules", 76, 26, 2, 1, [4072, 3097, 3098], ⟨"PlantKeeper$Names", "size", "(I)I"⟩),
  ("PlantKeeper$Rules", 82, 76, 2, 2, [4073, 4074, 4075], ⟨"PlantKeeper$Names", "get", "(II)I"⟩),
  ("PlantKeeper$Rules", 165, 78, 2, 1, [4083, 4085, 17009], ⟨"PlantKeeper$Rules", "leaveText", "(I)V"⟩),
  ("PlantKeeper$Rules", 168, 81, 2, 1, [4095, 4097, 17012], ⟨"PlantKeeper$Rules", "leaveBlock", "(I)V"⟩),
  ("PlantKeeper$Rules", 171, 83, 2, 0, [4103, 4105, 17014], ⟨"PlantKeeper$Rules", "blockKind", "()I"⟩),
  ("PlantKeeper$Rules", 146, 79, 2, 3, [4087, 4089, 17010], ⟨"PlantKeeper$Rules", "rule", "(ZII)V"⟩),
  ("PlantKeeper$Rules", 175, 84, 2, 1, [4107, 4109, 17015], ⟨"PlantKeeper$Rules", "leaveDeclaration", "(I)V"⟩),
  ("PlantKeeper$Rules", 178, 88, 2, 1, [4125, 4127, 18003], ⟨"PlantKeeper$Rules", "leaveName", "(I)V"⟩),
  ("PlantKeeper$Rules", 106, 90, 2, 1, [4133, 4135, 18005], ⟨"PlantKeeper$Rules", "kind", "(I)I"⟩),
  ("PlantKeeper$Rules", 183, 94, 2, 1, [4149, 4151, 18009], ⟨"PlantKeeper$Rules", "leaveArray", "(I)V"⟩),
  ("PlantKeeper$Rules", 150, 85, 2, 2, [4111, 4113, 18000], ⟨"PlantKeeper$Rules", "blockNamed", "(II)I"⟩),
  ("PlantKeeper$Rules", 186, 95, 2, 1, [4154, 4156, 18010], ⟨"PlantKeeper$Rules", "leaveStatement", "(I)V"⟩),
  ("PlantKeeper$Rules", 96, 80, 2, 2, [4091, 4093, 17011], ⟨"PlantKeeper$Rules", "fail", "(II)V"⟩),
  ("PlantKeeper$Rules", 189, 82, 2, 1, [4099, 4101, 17013], ⟨"PlantKeeper$Rules", "end", "(I)I"⟩),
  ("PlantKeeper$Rules", 194, 86, 2, 4, [4115, 4117, 18001], ⟨"PlantKeeper$Rules", "isRightConstant", "(IIII)Z"⟩),
  ("PlantKeeper$Rules", 198, 87, 2, 1, [4119, 4121, 18002], ⟨"PlantKeeper$Rules", "cellsOf", "(I)I"⟩),
  ("PlantKeeper$Rules", 204, 89, 2, 1, [4129, 4131, 18004], ⟨"PlantKeeper$Rules", "parentKind", "(I)I"⟩),
  ("PlantKeeper$Rules", 207, 91, 2, 1, [4137, 4139, 18006], ⟨"PlantKeeper$Rules", "variable", "(I)I"⟩),
  ("PlantKeeper$Rules", 159, 92, 2, 2, [4141, 4143, 18007], ⟨"PlantKeeper$Rules", "addVariable", "(II)I"⟩),
  ("PlantKeeper$Rules", 210, 93, 2, 2, [4145, 4147, 18008], ⟨"PlantKeeper$Rules", "named", "(II)I"⟩),
  ("PlantKeeper$Rules", 220, 96, 2, 2, [4158, 4160, 18011], ⟨"PlantKeeper$Rules", "assigned", "(II)V"⟩),
  ("PlantKeeper$Rules", 223, 98, 0, 2, [4166, 4167], ⟨"PlantKeeper$Rules", "fits", "(II)Z"⟩),
  ("PlantKeeper$Rules", 227, 99, 2, 1, [4169, 4171, 18013], ⟨"PlantKeeper$Rules", "leaveParameter", "(I)V"⟩),
  ("PlantKeeper$Rules", 213, 101, 0, 1, [4179, 4180], ⟨"PlantKeeper$Rules", "isNumber", "(I)Z"⟩),
  ("PlantKeeper$Rules", 230, 102, 2, 1, [4182, 4184, 18015], ⟨"PlantKeeper$Rules", "leaveFor", "(I)V"⟩),
  ("PlantKeeper$Rules", 233, 97, 2, 2, [4162, 4164, 18012], ⟨"PlantKeeper$Rules", "isIn", "(II)Z"⟩),
  ("PlantKeeper$Rules", 236, 105, 2, 1, [4196, 4198, 19001], ⟨"PlantKeeper$Rules", "leaveExpression", "(I)V"⟩),
  ("PlantKeeper$Rules", 245, 100, 2, 3, [4173, 4175, 18014], ⟨"PlantKeeper$Rules", "part", "(IIZ)I"⟩),
  ("PlantKeeper$Rules", 249, 103, 2, 2, [4186, 4187, 4188], ⟨"PlantKeeper$Rules", "times", "(II)J"⟩),
  ("PlantKeeper$Rules", 255, 104, 2, 2, [4190, 4192, 19000], ⟨"PlantKeeper$Rules", "isWithin", "(II)Z"⟩),
  ("PlantKeeper$Rules", 262, 106, 2, 1, [4200, 4202, 19002], ⟨"PlantKeeper$Rules", "leaveCall", "(I)V"⟩),
  ("PlantKeeper$Rules", 265, 112, 0, 3, [4222, 4223], ⟨"PlantKeeper$Rules", "two", "(III)I"⟩),
  ("PlantKeeper$Rules", 269, 113, 2, 2, [4225, 4227, 19005], ⟨"PlantKeeper$Rules", "leaveRung", "(II)V"⟩),
  ("PlantKeeper$Rules", 275, 107, 2, 1, [4204, 4205, 4206], ⟨"PlantKeeper$Nodes", "children", "(I)I"⟩),
  ("PlantKeeper$Rules", 278, 108, 2, 3, [4208, 4210, 19003], ⟨"PlantKeeper$Rules", "leaveOwnCall", "(III)V"⟩),
  ("PlantKeeper$Rules", 282, 109, 2, 2, [4212, 4214, 19004], ⟨"PlantKeeper$Rules", "standardType", "(II)I"⟩),
  ("PlantKeeper$Rules", 217, 110, 0, 2, [4216, 4217], ⟨"PlantKeeper$Rules", "wider", "(II)I"⟩),
  ("PlantKeeper$Rules", 272, 111, 0, 2, [4219, 4220], ⟨"PlantKeeper$Rules", "both", "(II)I"⟩),
  ("PlantKeeper$Rules", 285, 114, 2, 1, [4229, 4231, 19006], ⟨"PlantKeeper$Rules", "width", "(I)I"⟩),
  ("PlantKeeper$Maker", 49, 117, 2, 1, [5001, 5002, 5003], ⟨"PlantKeeper$Code", "clear", "(I)V"⟩),
  ("PlantKeeper$Maker", 67, 118, 2, 1, [5005, 5007, 19008], ⟨"PlantKeeper$Maker", "block", "(I)V"⟩),
  ("PlantKeeper$Maker", 110, 119, 2, 2, [5009, 5010, 5011], ⟨"PlantKeeper$Code", "unit", "(II)I"⟩),
  ("PlantKeeper$Maker", 84, 120, 2, 4, [5013, 5015, 19009], ⟨"PlantKeeper$Maker", "put", "(IIII)V"⟩),
  ("PlantKeeper$Maker", 122, 124, 2, 1, [5029, 5031, 19010], ⟨"PlantKeeper$Maker", "locals", "(I)V"⟩),
  ("PlantKeeper$Maker", 128, 126, 2, 2, [5037, 5039, 19012], ⟨"PlantKeeper$Maker", "rung", "(II)V"⟩),
  ("PlantKeeper$Maker", 132, 142, 2, 1, [5105, 5107, 20003], ⟨"PlantKeeper$Maker", "body", "(I)V"⟩),
  ("PlantKeeper$Maker", 73, 121, 2, 4, [5017, 5018, 5019], ⟨"PlantKeeper$Code", "add", "(IIII)I"⟩),
  ("PlantKeeper$Code", 32, 122, 2, 5, [5021, 5022, 5023], ⟨"PlantKeeper$Code", "set", "(IIIII)V"⟩),
  ("PlantKeeper$Code", 36, 123, 2, 1, [5025, 5026, 5027], ⟨"PlantKeeper$Code", "length", "(I)I"⟩),
  ("PlantKeeper$Maker", 135, 125, 2, 1, [5033, 5035, 19011], ⟨"PlantKeeper$Maker", "constant", "(I)I"⟩),
  ("PlantKeeper$Maker", 265, 107, 2, 1, [5041, 4205, 4206], ⟨"PlantKeeper$Nodes", "children", "(I)I"⟩),
  ("PlantKeeper$Maker", 268, 127, 2, 2, [5042, 5043, 5044], ⟨"PlantKeeper$Grid", "begin", "(II)V"⟩),
  ("PlantKeeper$Maker", 275, 128, 2, 2, [5046, 5047, 5048], ⟨"PlantKeeper$Grid", "at", "(II)I"⟩),
  ("PlantKeeper$Maker", 278, 129, 2, 3, [5050, 5052, 19013], ⟨"PlantKeeper$Maker", "cell", "(III)V"⟩),
  ("PlantKeeper$Maker", 282, 131, 2, 2, [5059, 5060, 5061], ⟨"PlantKeeper$Grid", "plan", "(LPlantKeeper$Sink;I)V"⟩),
  ("PlantKeeper$Maker", 286, 130, 2, 5, [5054, 5055, 5056], ⟨"PlantKeeper$Grid", "set", "(IIIII)V"⟩),
  ("PlantKeeper$Grid", 33, 128, 2, 2, [5058, 5047, 5048], ⟨"PlantKeeper$Grid", "at", "(II)I"⟩),
  ("PlantKeeper$Grid", 45, 132, 2, 2, [5063, 5064, 5065], ⟨"PlantKeeper$Grid", "head", "(II)I"⟩),
  ("PlantKeeper$Grid", 48, 134, 2, 2, [5071, 5073, 19014], ⟨"PlantKeeper$Grid", "hasPoint", "(II)Z"⟩),
  ("PlantKeeper$Grid", 51, 136, 2, 4, [5079, 5081, 19015], ⟨"PlantKeeper$Grid", "group", "(LPlantKeeper$Sink;III)V"⟩),
  ("PlantKeeper$Grid", 41, 135, 2, 1, [5075, 5076, 5077], ⟨"PlantKeeper$Grid", "isCoil", "(I)Z"⟩),
  ("PlantKeeper$Grid", 55, 141, 2, 3, [5101, 5103, 20002], ⟨"PlantKeeper$Grid", "coil", "(LPlantKeeper$Sink;II)V"⟩),
  ("PlantKeeper$Grid", 37, 133, 2, 2, [5067, 5068, 5069], ⟨"PlantKeeper$Grid", "isLinked", "(II)Z"⟩),
  ("PlantKeeper$Grid", 59, 137, 2, 4, [5083, 5085, 20000], ⟨"PlantKeeper$Grid", "term", "(LPlantKeeper$Sink;III)V"⟩),
  ("PlantKeeper$Grid", 62, 139, 3, 2, [5091, 5093, 5094, 5095, 5092], ⟨"PlantKeeper$Sink", "add", "(II)V"⟩),
  ("PlantKeeper$Grid", 68, 140, 2, 3, [5097, 5098, 5099], ⟨"PlantKeeper$Grid", "power", "(III)I"⟩),
  ("PlantKeeper$Grid", 72, 138, 2, 4, [5087, 5089, 20001], ⟨"PlantKeeper$Grid", "before", "(LPlantKeeper$Sink;III)V"⟩),
  ("PlantKeeper$Maker", 164, 143, 2, 1, [5109, 5111, 20004], ⟨"PlantKeeper$Maker", "statement", "(I)V"⟩),
  ("PlantKeeper$Maker", 167, 144, 2, 2, [5113, 5115, 20005], ⟨"PlantKeeper$Maker", "assign", "(II)V"⟩),
  ("PlantKeeper$Maker", 170, 145, 2, 1, [5117, 5119, 20006], ⟨"PlantKeeper$Maker", "expression", "(I)V"⟩),
  ("PlantKeeper$Maker", 176, 161, 2, 1, [5186, 5188, 21000], ⟨"PlantKeeper$Maker", "choose", "(I)V"⟩),
  ("PlantKeeper$Maker", 179, 167, 2, 2, [5211, 5213, 21006], ⟨"PlantKeeper$Maker", "select", "(II)V"⟩),
  ("PlantKeeper$Maker", 182, 169, 2, 2, [5219, 5221, 21008], ⟨"PlantKeeper$Maker", "repeat", "(II)V"⟩),
  ("PlantKeeper$Maker", 185, 163, 2, 1, [5194, 5196, 21002], ⟨"PlantKeeper$Maker", "goes", "(I)I"⟩),
  ("PlantKeeper$Maker", 188, 171, 2, 1, [5228, 5230, 21010], ⟨"PlantKeeper$Maker", "later", "(I)V"⟩),
  ("PlantKeeper$Maker", 194, 157, 2, 1, [5170, 5172, 20012], ⟨"PlantKeeper$Maker", "named", "(I)I"⟩),
  ("PlantKeeper$Maker", 216, 146, 2, 1, [5121, 5123, 20007], ⟨"PlantKeeper$Maker", "isConstant", "(I)Z"⟩),
  ("PlantKeeper$Maker", 223, 148, 2, 1, [5133, 5135, 20009], ⟨"PlantKeeper$Maker", "value", "(I)I"⟩),
  ("PlantKeeper$Maker", 220, 147, 2, 1, [5125, 5127, 20008], ⟨"PlantKeeper$Maker", "two", "(I)I"⟩),
  ("PlantKeeper$Maker", 242, 149, 2, 1, [5137, 5139, 20010], ⟨"PlantKeeper$Maker", "one", "(I)I"⟩),
  ("PlantKeeper$Maker", 253, 159, 2, 2, [5178, 5180, 20014], ⟨"PlantKeeper$Maker", "call", "(II)V"⟩),
  ("PlantKeeper$Maker", 226, 156, 0, 2, [5167, 5168], ⟨"PlantKeeper$Alu", "isZero", "(II)Z"⟩),
  ("PlantKeeper$Maker", 245, 150, 0, 2, [5141, 5142], ⟨"PlantKeeper$Alu", "one", "(II)I"⟩),
  ("PlantKeeper$Maker", 247, 152, 0, 3, [5147, 5148], ⟨"PlantKeeper$Alu", "two", "(III)I"⟩),
  ("PlantKeeper$Maker", 250, 155, 2, 2, [5163, 5165, 20011], ⟨"PlantKeeper$Maker", "standard", "(II)I"⟩),
  ("PlantKeeper$Alu", 9, 151, 0, 1, [5144, 5145], ⟨"PlantKeeper$Alu", "wide16", "(I)I"⟩),
  ("PlantKeeper$Alu", 13, 153, 0, 3, [5150, 5151], ⟨"PlantKeeper$Alu", "compare", "(III)I"⟩),
  ("PlantKeeper$Alu", 17, 154, 0, 3, [5153, 5154], ⟨"PlantKeeper$Alu", "shift", "(III)I"⟩),
  ("PlantKeeper$Alu", 21, 481, 0, 2, [5157, 5158], ⟨"java/lang/Math", "min", "(II)I"⟩),
  ("PlantKeeper$Alu", 27, 480, 0, 2, [5160, 5161], ⟨"java/lang/Math", "max", "(II)I"⟩),
  ("PlantKeeper$Maker", 191, 158, 2, 2, [5174, 5176, 20013], ⟨"PlantKeeper$Maker", "variable", "(II)I"⟩),
  ("PlantKeeper$Maker", 256, 160, 2, 2, [5182, 5184, 20015], ⟨"PlantKeeper$Maker", "callOwn", "(II)V"⟩),
  ("PlantKeeper$Maker", 200, 162, 2, 1, [5190, 5192, 21001], ⟨"PlantKeeper$Maker", "branch", "(I)I"⟩),
  ("PlantKeeper$Maker", 203, 166, 2, 2, [5207, 5209, 21005], ⟨"PlantKeeper$Maker", "close", "(II)V"⟩),
  ("PlantKeeper$Maker", 98, 165, 2, 1, [5203, 5205, 21004], ⟨"PlantKeeper$Maker", "arrive", "(I)V"⟩),
  ("PlantKeeper$Maker", 88, 164, 2, 0, [5198, 5200, 21003], ⟨"PlantKeeper$Maker", "here", "()I"⟩),
  ("PlantKeeper$Maker", 80, 123, 2, 1, [5202, 5026, 5027], ⟨"PlantKeeper$Code", "length", "(I)I"⟩),
  ("PlantKeeper$Maker", 206, 168, 2, 2, [5215, 5217, 21007], ⟨"PlantKeeper$Maker", "ranges", "(II)I"⟩),
  ("PlantKeeper$Maker", 209, 103, 2, 2, [5223, 4187, 4188], ⟨"PlantKeeper$Rules", "times", "(II)J"⟩),
  ("PlantKeeper$Maker", 213, 170, 2, 1, [5224, 5226, 21009], ⟨"PlantKeeper$Maker", "arriveAll", "(I)V"⟩),
  ("PlantKeeper$Prover", 45, 173, 2, 1, [5236, 5238, 21011], ⟨"PlantKeeper$Prover", "proveUnit", "(I)I"⟩),
  ("PlantKeeper$Prover", 55, 174, 2, 1, [6000, 6002, 21012], ⟨"PlantKeeper$Prover", "isBadPlace", "(I)Z"⟩),
  ("PlantKeeper$Prover", 59, 123, 2, 1, [6004, 5026, 5027], ⟨"PlantKeeper$Code", "length", "(I)I"⟩),
  ("PlantKeeper$Prover", 62, 175, 2, 2, [6005, 6007, 21013], ⟨"PlantKeeper$Prover", "form", "(II)I"⟩),
  ("PlantKeeper$Prover", 66, 185, 2, 2, [6045, 6047, 22004], ⟨"PlantKeeper$Prover", "isBadLoop", "(II)Z"⟩),
  ("PlantKeeper$Prover", 70, 190, 2, 1, [6065, 6067, 22009], ⟨"PlantKeeper$Prover", "stack", "(I)I"⟩),
  ("PlantKeeper$Prover", 73, 193, 2, 1, [6082, 6084, 22012], ⟨"PlantKeeper$Prover", "reckon", "(I)J"⟩),
  ("PlantKeeper$Prover", 95, 176, 2, 2, [6009, 6011, 21014], ⟨"PlantKeeper$Prover", "a", "(II)I"⟩),
  ("PlantKeeper$Prover", 105, 178, 2, 2, [6017, 6019, 21015], ⟨"PlantKeeper$Prover", "b", "(II)I"⟩),
  ("PlantKeeper$Prover", 92, 179, 2, 2, [6021, 6023, 22000], ⟨"PlantKeeper$Prover", "op", "(II)I"⟩),
  ("PlantKeeper$Prover", 108, 180, 2, 3, [6025, 6027, 22001], ⟨"PlantKeeper$Prover", "cells", "(III)I"⟩),
  ("PlantKeeper$Prover", 88, 177, 2, 3, [6013, 6014, 6015], ⟨"PlantKeeper$Code", "get", "(III)I"⟩),
  ("PlantKeeper$Prover", 110, 4, 1, 3, [6036, 3000], ⟨"PlantKeeper", "within", "(III)Z"⟩),
  ("PlantKeeper$Prover", 115, 183, 2, 4, [6037, 6039, 22003], ⟨"PlantKeeper$Prover", "formBehind", "(IIII)I"⟩),
  ("PlantKeeper$Prover", 98, 181, 0, 3, [6029, 6030], ⟨"PlantKeeper$Prover", "isIn", "(III)Z"⟩),
  ("PlantKeeper$Prover", 102, 182, 2, 3, [6032, 6034, 22002], ⟨"PlantKeeper$Prover", "hasCounter", "(III)Z"⟩),
  ("PlantKeeper$Prover", 120, 184, 0, 1, [6042, 6043], ⟨"PlantKeeper$Code", "blockCells", "(I)I"⟩),
  ("PlantKeeper$Prover", 123, 186, 2, 3, [6049, 6051, 22005], ⟨"PlantKeeper$Prover", "isOp", "(III)Z"⟩),
  ("PlantKeeper$Prover", 126, 187, 2, 4, [6053, 6055, 22006], ⟨"PlantKeeper$Prover", "isEnclosed", "(IIZI)Z"⟩),
  ("PlantKeeper$Prover", 130, 189, 2, 3, [6061, 6063, 22008], ⟨"PlantKeeper$Prover", "goesInto", "(III)Z"⟩),
  ("PlantKeeper$Prover", 133, 188, 2, 3, [6057, 6059, 22007], ⟨"PlantKeeper$Prover", "isInLoop", "(III)Z"⟩),
  ("PlantKeeper$Prover", 136, 191, 2, 3, [6069, 6071, 22010], ⟨"PlantKeeper$Prover", "flow", "(III)I"⟩),
  ("PlantKeeper$Prover", 145, 480, 0, 2, [6077, 5161], ⟨"java/lang/Math", "max", "(II)I"⟩),
  ("PlantKeeper$Prover", 150, 192, 2, 2, [6078, 6080, 22011], ⟨"PlantKeeper$Prover", "comes", "(II)Z"⟩),
  ("PlantKeeper$Prover", 162, 194, 2, 2, [6086, 6088, 22013], ⟨"PlantKeeper$Prover", "reckonLoop", "(II)V"⟩),
  ("PlantKeeper$Prover", 166, 197, 2, 3, [6099, 6101, 22015], ⟨"PlantKeeper$Prover", "go", "(III)V"⟩),
  ("PlantKeeper$Prover", 186, 195, 2, 3, [6090, 6092, 22014], ⟨"PlantKeeper$Prover", "addEdge", "(IIJ)V"⟩),
  ("PlantKeeper$Prover", 176, 196, 0, 1, [6094, 6095], ⟨"PlantKeeper$Prover", "cap", "(J)J"⟩),
  ("PlantKeeper$Prover", 155, 479, 0, 2, [6098, 3066], ⟨"java/lang/Math", "min", "(JJ)J"⟩),
  ("PlantKeeper$Prover", 172, 198, 2, 4, [6104, 6106, 23000], ⟨"PlantKeeper$Prover", "follow", "(IIII)V"⟩),
  ("PlantKeeper$Prover", 182, 199, 2, 3, [6108, 6110, 23001], ⟨"PlantKeeper$Prover", "reach", "(IIJ)V"⟩),
  ("PlantKeeper$Prover", 180, 478, 0, 2, [6112, 3062], ⟨"java/lang/Math", "max", "(JJ)J"⟩),
  ("PlantKeeper", 218, 203, 2, 0, [6127, 6128, 6129], ⟨"PlantKeeper$Machine", "clear", "()V"⟩),
  ("PlantKeeper", 224, 204, 2, 1, [6131, 6132, 6133], ⟨"PlantKeeper$Maker", "fillAll", "([I)V"⟩),
  ("PlantKeeper", 228, 207, 2, 1, [6143, 6144, 6145], ⟨"PlantKeeper$Images", "publish", "(Z)V"⟩),
  ("PlantKeeper$Maker", 141, 205, 2, 3, [6135, 6137, 23005], ⟨"PlantKeeper$Maker", "fill", "([III)V"⟩),
  ("PlantKeeper$Maker", 148, 206, 2, 4, [6139, 6141, 23006], ⟨"PlantKeeper$Maker", "fillDeclaration", "([IIII)I"⟩),
  ("PlantKeeper$Images", 33, 208, 0, 1, [6147, 6148], ⟨"PlantKeeper$Images", "cell", "(I)I"⟩),
  ("PlantKeeper", 238, 211, 0, 2, [6159, 6160], ⟨"PlantKeeper", "isPlace", "(II)Z"⟩),
  ("PlantKeeper", 242, 213, 0, 1, [6165, 6166], ⟨"PlantKeeper", "isOutput", "(I)Z"⟩),
  ("PlantKeeper", 246, 214, 0, 2, [6168, 6169], ⟨"PlantKeeper", "isValue", "(II)Z"⟩),
  ("PlantKeeper", 249, 215, 0, 1, [6171, 6172], ⟨"PlantKeeper", "isInput", "(I)Z"⟩),
  ("PlantKeeper", 252, 216, 2, 3, [6174, 6175, 6176], ⟨"PlantKeeper$Images", "put", "(III)V"⟩),
  ("PlantKeeper", 235, 212, 0, 1, [6162, 6163], ⟨"PlantKeeper$Images", "many", "(I)I"⟩),
  ("PlantKeeper", 256, 218, 2, 2, [6182, 6183, 6184], ⟨"PlantKeeper$Images", "place", "(II)I"⟩),
  ("PlantKeeper", 265, 221, 2, 0, [6194, 6195, 6196], ⟨"PlantKeeper$Images", "latch", "()V"⟩),
  ("PlantKeeper", 268, 222, 2, 1, [6198, 6199, 6200], ⟨"PlantKeeper$Machine", "run", "(I)I"⟩),
  ("PlantKeeper$Machine", 55, 223, 2, 2, [6202, 6204, 23007], ⟨"PlantKeeper$Machine", "enter", "(II)V"⟩),
  ("PlantKeeper$Machine", 59, 123, 2, 1, [6206, 5026, 5027], ⟨"PlantKeeper$Code", "length", "(I)I"⟩),
  ("PlantKeeper$Machine", 63, 224, 2, 3, [6207, 6209, 23008], ⟨"PlantKeeper$Machine", "step", "(III)I"⟩),
  ("PlantKeeper$Machine", 67, 177, 2, 3, [6211, 6014, 6015], ⟨"PlantKeeper$Code", "get", "(III)I"⟩),
  ("PlantKeeper$Machine", 70, 225, 2, 1, [6212, 6214, 23009], ⟨"PlantKeeper$Machine", "push", "(I)V"⟩),
  ("PlantKeeper$Machine", 74, 226, 2, 0, [6217, 6219, 23010], ⟨"PlantKeeper$Machine", "pop", "()I"⟩),
  ("PlantKeeper$Machine", 78, 227, 2, 3, [6221, 6223, 23011], ⟨"PlantKeeper$Machine", "take", "(III)I"⟩),
  ("PlantKeeper$Machine", 81, 229, 2, 3, [6228, 6230, 23012], ⟨"PlantKeeper$Machine", "put", "(III)I"⟩),
  ("PlantKeeper$Machine", 85, 230, 2, 1, [6232, 6234, 23013], ⟨"PlantKeeper$Machine", "two", "(I)I"⟩),
  ("PlantKeeper$Machine", 88, 150, 0, 2, [6238, 5142], ⟨"PlantKeeper$Alu", "one", "(II)I"⟩),
  ("PlantKeeper$Machine", 93, 231, 2, 0, [6239, 7001, 23014], ⟨"PlantKeeper$Machine", "choose", "()V"⟩),
  ("PlantKeeper$Machine", 96, 232, 2, 3, [7003, 7005, 23015], ⟨"PlantKeeper$Machine", "go", "(III)V"⟩),
  ("PlantKeeper$Machine", 39, 480, 0, 2, [6216, 5161], ⟨"java/lang/Math", "max", "(II)I"⟩),
  ("PlantKeeper$Machine", 100, 228, 0, 4, [6225, 6226], ⟨"PlantKeeper$Machine", "find", "(IIII)I"⟩),
  ("PlantKeeper$Machine", 104, 156, 0, 2, [6236, 5168], ⟨"PlantKeeper$Alu", "isZero", "(II)Z"⟩),
  ("PlantKeeper$Machine", 108, 152, 0, 3, [6237, 5148], ⟨"PlantKeeper$Alu", "two", "(III)I"⟩),
  ("PlantKeeper$Machine", 110, 233, 2, 2, [7007, 7009, 24000], ⟨"PlantKeeper$Machine", "block", "(II)V"⟩),
  ("PlantKeeper$Machine", 113, 234, 2, 2, [7011, 7013, 24001], ⟨"PlantKeeper$Machine", "timer", "(II)V"⟩),
  ("PlantKeeper$Machine", 116, 243, 2, 2, [7048, 7050, 24010], ⟨"PlantKeeper$Machine", "count", "(ZI)V"⟩),
  ("PlantKeeper$Machine", 120, 235, 2, 1, [7015, 7017, 24002], ⟨"PlantKeeper$Machine", "is", "(I)Z"⟩),
  ("PlantKeeper$Machine", 124, 240, 2, 2, [7036, 7038, 24007], ⟨"PlantKeeper$Machine", "set", "(IZ)V"⟩),
  ("PlantKeeper$Machine", 128, 244, 2, 2, [7052, 7054, 24011], ⟨"PlantKeeper$Machine", "latch", "(ZI)V"⟩),
  ("PlantKeeper$Machine", 138, 236, 2, 3, [7019, 7021, 24003], ⟨"PlantKeeper$Machine", "delayOn", "(IZZ)V"⟩),
  ("PlantKeeper$Machine", 142, 241, 2, 3, [7040, 7042, 24008], ⟨"PlantKeeper$Machine", "delayOff", "(IZZ)V"⟩),
  ("PlantKeeper$Machine", 145, 242, 2, 3, [7044, 7046, 24009], ⟨"PlantKeeper$Machine", "pulse", "(IZZ)V"⟩),
  ("PlantKeeper$Machine", 148, 237, 2, 1, [7023, 7025, 24004], ⟨"PlantKeeper$Machine", "grow", "(I)V"⟩),
  ("PlantKeeper$Machine", 151, 239, 2, 1, [7032, 7034, 24006], ⟨"PlantKeeper$Machine", "isOver", "(I)Z"⟩),
  ("PlantKeeper$Machine", 131, 238, 2, 1, [7027, 7029, 24005], ⟨"PlantKeeper$Machine", "bound", "(I)I"⟩),
  ("PlantKeeper$Machine", 134, 479, 0, 2, [7031, 3066], ⟨"java/lang/Math", "min", "(JJ)J"⟩),
  ("PlantKeeper", 335, 246, 2, 1, [7060, 7062, 24012], ⟨"PlantKeeper", "nameAt", "(I)I"⟩),
  ("PlantKeeper", 344, 247, 2, 2, [7067, 7069, 24013], ⟨"PlantKeeper", "variable", "(II)I"⟩),
  ("PlantKeeper", 332, 248, 2, 2, [7073, 7075, 24014], ⟨"PlantKeeper", "tell", "(II)I"⟩),
  ("PlantKeeper", 350, 249, 2, 3, [7077, 7079, 24015], ⟨"PlantKeeper", "element", "(III)I"⟩),
  ("PlantKeeper", 354, 251, 2, 3, [7089, 7091, 25001], ⟨"PlantKeeper", "standardPart", "(III)I"⟩),
  ("PlantKeeper", 305, 250, 2, 2, [7081, 7083, 25000], ⟨"PlantKeeper", "takes", "(II)Z"⟩),
  ("PlantKeeper", 273, 21, 1, 1, [7064, 3077], ⟨"PlantKeeper$Tokens", "isPart", "(I)Z"⟩),
  ("PlantKeeper", 276, 15, 1, 1, [7065, 3044], ⟨"PlantKeeper$Tokens", "great", "(I)I"⟩),
  ("PlantKeeper", 279, 19, 1, 1, [7066, 3059], ⟨"PlantKeeper$Tokens", "isDigit", "(I)Z"⟩),
  ("PlantKeeper", 288, 26, 2, 1, [7071, 3097, 3098], ⟨"PlantKeeper$Names", "size", "(I)I"⟩),
  ("PlantKeeper", 290, 76, 2, 2, [7072, 4074, 4075], ⟨"PlantKeeper$Names", "get", "(II)I"⟩),
  ("PlantKeeper", 314, 479, 0, 2, [7088, 3066], ⟨"java/lang/Math", "min", "(JJ)J"⟩),
  ("PlantKeeper", 338, 252, 2, 2, [7093, 7095, 25002], ⟨"PlantKeeper", "part", "(II)I"⟩),
  ("PlantKeeper", 296, 253, 2, 2, [7098, 7100, 25003], ⟨"PlantKeeper", "isWord", "(II)Z"⟩),
  ("PlantKeeper", 360, 0, 2, 0, [7111, 2082, 2083], ⟨"PlantKeeper$Line", "clear", "()V"⟩),
  ("PlantKeeper", 361, 256, 2, 1, [7112, 7113, 7114], ⟨"PlantKeeper$Line", "hear", "(I)I"⟩),
  ("PlantKeeper", 364, 258, 2, 1, [7122, 7123, 7124], ⟨"PlantKeeper$Line", "get", "(I)I"⟩),
  ("PlantKeeper", 366, 259, 2, 0, [7126, 7127, 7128], ⟨"PlantKeeper$Line", "isGood", "()Z"⟩),
  ("PlantKeeper", 369, 260, 2, 2, [7130, 7131, 7132], ⟨"PlantKeeper$Desk", "take", "(LPlantKeeper$Line;Z)I"⟩),
  ("PlantKeeper$Line", 37, 257, 2, 2, [7116, 7117, 7118], ⟨"PlantKeeper$Check", "next", "(II)I"⟩),
  ("PlantKeeper$Line", 41, 481, 0, 2, [7121, 5158], ⟨"java/lang/Math", "min", "(II)I"⟩),
  ("PlantKeeper$Desk", 25, 258, 2, 1, [7134, 7123, 7124], ⟨"PlantKeeper$Line", "get", "(I)I"⟩),
  ("PlantKeeper$Desk", 85, 261, 2, 0, [7135, 7137, 25004], ⟨"PlantKeeper$Desk", "fault", "()I"⟩),
  ("PlantKeeper$Desk", 88, 271, 2, 0, [7179, 7181, 25013], ⟨"PlantKeeper$Desk", "write", "()V"⟩),
  ("PlantKeeper$Desk", 91, 273, 2, 1, [7191, 7193, 25014], ⟨"PlantKeeper$Desk", "answer", "(I)V"⟩),
  ("PlantKeeper$Desk", 67, 262, 2, 0, [7139, 7141, 25005], ⟨"PlantKeeper$Desk", "isFunction", "()Z"⟩),
  ("PlantKeeper$Desk", 70, 264, 2, 0, [7148, 7150, 25007], ⟨"PlantKeeper$Desk", "isForm", "()Z"⟩),
  ("PlantKeeper$Desk", 73, 266, 2, 1, [7156, 7158, 25009], ⟨"PlantKeeper$Desk", "two", "(I)I"⟩),
  ("PlantKeeper$Desk", 76, 267, 2, 0, [7160, 7162, 25010], ⟨"PlantKeeper$Desk", "isNumber", "()Z"⟩),
  ("PlantKeeper$Desk", 79, 268, 2, 0, [7165, 7167, 25011], ⟨"PlantKeeper$Desk", "arePlaces", "()Z"⟩),
  ("PlantKeeper$Desk", 38, 4, 1, 3, [7143, 3000], ⟨"PlantKeeper", "within", "(III)Z"⟩),
  ("PlantKeeper$Desk", 44, 263, 2, 0, [7144, 7146, 25006], ⟨"PlantKeeper$Desk", "isRow", "()Z"⟩),
  ("PlantKeeper$Desk", 31, 265, 2, 1, [7152, 7154, 25008], ⟨"PlantKeeper$Desk", "data", "(I)I"⟩),
  ("PlantKeeper$Desk", 60, 269, 2, 0, [7169, 7171, 25012], ⟨"PlantKeeper$Desk", "table", "()I"⟩),
  ("PlantKeeper$Desk", 64, 270, 3, 1, [7173, 7175, 7176, 7177, 7174], ⟨"PlantKeeper$Tables", "size", "(I)I"⟩),
  ("PlantKeeper$Desk", 95, 272, 3, 3, [7183, 7185, 7186, 7187, 7184], ⟨"PlantKeeper$Tables", "set", "(III)V"⟩),
  ("PlantKeeper$Images", 48, 151, 0, 1, [7189, 5145], ⟨"PlantKeeper$Alu", "wide16", "(I)I"⟩),
  ("PlantKeeper$Images", 53, 216, 2, 3, [7190, 6175, 6176], ⟨"PlantKeeper$Images", "put", "(III)V"⟩),
  ("PlantKeeper$Desk", 99, 274, 2, 1, [7195, 7197, 25015], ⟨"PlantKeeper$Desk", "put", "(I)V"⟩),
  ("PlantKeeper$Desk", 102, 275, 2, 0, [7199, 7201, 26000], ⟨"PlantKeeper$Desk", "putBits", "()V"⟩),
  ("PlantKeeper$Desk", 105, 276, 3, 2, [7203, 7205, 7206, 7207, 7204], ⟨"PlantKeeper$Tables", "get", "(II)I"⟩),
  ("PlantKeeper$Desk", 111, 257, 2, 2, [7212, 7117, 7118], ⟨"PlantKeeper$Check", "next", "(II)I"⟩),
  ("PlantKeeper$Images", 43, 218, 2, 2, [7209, 6183, 6184], ⟨"PlantKeeper$Images", "place", "(II)I"⟩),
  ("PlantKeeperModel", 847, 281, 2, 1, [9046, 9048, 26001], ⟨"PlantKeeperModel", "bring", "(I)V"⟩),
  ("PlantKeeperModel", 850, 284, 2, 0, [9059, 9061, 26002], ⟨"PlantKeeperModel", "useTape", "()I"⟩),
  ("PlantKeeperModel", 853, 285, 2, 0, [9063, 9065, 26003], ⟨"PlantKeeperModel", "judge", "()I"⟩),
  ("PlantKeeperModel", 859, 391, 2, 0, [11206, 11208, 32005], ⟨"PlantKeeperModel", "generate", "()Z"⟩),
  ("PlantKeeperModel", 862, 427, 2, 2, [12110, 12112, 34006], ⟨"PlantKeeperModel", "refuse", "(II)V"⟩),
  ("PlantKeeperModel", 865, 428, 2, 1, [12114, 12116, 34007], ⟨"PlantKeeperModel", "isDeep", "(I)Z"⟩),
  ("PlantKeeperModel", 868, 431, 2, 1, [12130, 12132, 34010], ⟨"PlantKeeperModel", "sumOf", "(I)J"⟩),
  ("PlantKeeperModel", 883, 435, 2, 0, [12149, 12151, 34013], ⟨"PlantKeeperModel", "anew", "()V"⟩),
  ("PlantKeeperModel", 510, 286, 2, 0, [9067, 9069, 26004], ⟨"PlantKeeperModel", "readText", "()I"⟩),
  ("PlantKeeperModel", 519, 346, 2, 1, [10178, 10180, 29012], ⟨"PlantKeeperModel", "look", "(I)V"⟩),
  ("PlantKeeperModel", 296, 287, 2, 0, [9071, 9073, 26005], ⟨"PlantKeeperModel", "next", "()V"⟩),
  ("PlantKeeperModel", 318, 305, 2, 3, [10015, 10017, 27004], ⟨"PlantKeeperModel", "node", "(III)I"⟩),
  ("PlantKeeperModel", 335, 306, 2, 1, [10019, 10021, 27005], ⟨"PlantKeeperModel", "readBlock", "(I)V"⟩),
  ("PlantKeeperModel", 339, 345, 2, 0, [10174, 10176, 29011], ⟨"PlantKeeperModel", "number", "()V"⟩),
  ("PlantKeeperModel", 211, 288, 2, 1, [9075, 9077, 26006], ⟨"PlantKeeperModel", "skip", "(I)I"⟩),
  ("PlantKeeperModel", 191, 291, 2, 1, [9087, 9089, 26009], ⟨"PlantKeeperModel", "great", "(I)I"⟩),
  ("PlantKeeperModel", 187, 289, 2, 1, [9079, 9081, 26007], ⟨"PlantKeeperModel", "byteOf", "(I)I"⟩),
  ("PlantKeeperModel", 220, 292, 2, 0, [9091, 9093, 26010], ⟨"PlantKeeperModel", "readTime", "()V"⟩),
  ("PlantKeeperModel", 194, 298, 0, 1, [9118, 9119], ⟨"PlantKeeperModel", "isLetter", "(I)Z"⟩),
  ("PlantKeeperModel", 223, 299, 2, 0, [9121, 9123, 26014], ⟨"PlantKeeperModel", "readName", "()V"⟩),
  ("PlantKeeperModel", 198, 295, 0, 1, [9103, 9104], ⟨"PlantKeeperModel", "isDigit", "(I)Z"⟩),
  ("PlantKeeperModel", 226, 302, 2, 0, [9182, 9184, 27001], ⟨"PlantKeeperModel", "readNumber", "()V"⟩),
  ("PlantKeeperModel", 229, 303, 2, 0, [9188, 9190, 27002], ⟨"PlantKeeperModel", "readPlace", "()V"⟩),
  ("PlantKeeperModel", 232, 304, 2, 0, [9195, 9197, 27003], ⟨"PlantKeeperModel", "readSign", "()V"⟩),
  ("PlantKeeperModel", 204, 290, 2, 2, [9083, 9085, 26008], ⟨"PlantKeeperModel", "fail", "(II)V"⟩),
  ("PlantKeeperModel", 271, 293, 2, 2, [9095, 9097, 26011], ⟨"PlantKeeperModel", "digits", "(II)J"⟩),
  ("PlantKeeperModel", 279, 296, 2, 1, [9110, 9112, 26012], ⟨"PlantKeeperModel", "settle", "(J)V"⟩),
  ("PlantKeeperModel", 264, 294, 0, 1, [9100, 9101], ⟨"PlantKeeperModel", "digit", "(I)I"⟩),
  ("PlantKeeperModel", 235, 297, 2, 1, [9114, 9116, 26013], ⟨"PlantKeeperModel", "goesOn", "(I)Z"⟩),
  ("PlantKeeperModel", 238, 300, 2, 0, [9125, 9127, 26015], ⟨"PlantKeeperModel", "wordAt", "()I"⟩),
  ("PlantKeeperModel", 245, 301, 2, 0, [9178, 9180, 27000], ⟨"PlantKeeperModel", "nameAt", "()I"⟩),
  ("PlantKeeperModel", 250, 482, 2, 0, [9130, 9131, 9132], ⟨"java/lang/String", "length", "()I"⟩),
  ("PlantKeeperModel", 255, 483, 2, 1, [9140, 9141, 9142], ⟨"java/lang/String", "charAt", "(I)C"⟩),
  ("PlantKeeperModel", 293, 484, 2, 1, [9200, 9201, 9202], ⟨"java/lang/String", "indexOf", "(I)I"⟩),
  ("PlantKeeperModel", 299, 307, 2, 0, [10023, 10025, 27006], ⟨"PlantKeeperModel", "wrong", "()V"⟩),
  ("PlantKeeperModel", 342, 308, 2, 4, [10027, 10029, 27007], ⟨"PlantKeeperModel", "add", "(IIII)I"⟩),
  ("PlantKeeperModel", 346, 310, 2, 0, [10035, 10037, 27009], ⟨"PlantKeeperModel", "name", "()I"⟩),
  ("PlantKeeperModel", 349, 312, 2, 1, [10043, 10045, 27011], ⟨"PlantKeeperModel", "wantSign", "(I)V"⟩),
  ("PlantKeeperModel", 352, 314, 2, 1, [10051, 10053, 27013], ⟨"PlantKeeperModel", "simple", "(I)V"⟩),
  ("PlantKeeperModel", 302, 315, 2, 1, [10055, 10057, 27014], ⟨"PlantKeeperModel", "isWord", "(I)Z"⟩),
  ("PlantKeeperModel", 355, 316, 2, 1, [10059, 10061, 27015], ⟨"PlantKeeperModel", "declaration", "(I)V"⟩),
  ("PlantKeeperModel", 358, 319, 2, 1, [10071, 10073, 28002], ⟨"PlantKeeperModel", "wantWord", "(I)V"⟩),
  ("PlantKeeperModel", 361, 320, 2, 1, [10075, 10077, 28003], ⟨"PlantKeeperModel", "ladder", "(I)V"⟩),
  ("PlantKeeperModel", 364, 324, 2, 1, [10091, 10093, 28007], ⟨"PlantKeeperModel", "statements", "(I)V"⟩),
  ("PlantKeeperModel", 322, 309, 2, 2, [10031, 10033, 27008], ⟨"PlantKeeperModel", "hang", "(II)V"⟩),
  ("PlantKeeperModel", 305, 311, 2, 1, [10039, 10041, 27010], ⟨"PlantKeeperModel", "want", "(Z)V"⟩),
  ("PlantKeeperModel", 309, 313, 2, 1, [10047, 10049, 27012], ⟨"PlantKeeperModel", "isSign", "(I)Z"⟩),
  ("PlantKeeperModel", 367, 317, 2, 1, [10063, 10065, 28000], ⟨"PlantKeeperModel", "readType", "(I)V"⟩),
  ("PlantKeeperModel", 370, 318, 2, 1, [10067, 10069, 28001], ⟨"PlantKeeperModel", "constant", "(I)V"⟩),
  ("PlantKeeperModel", 436, 321, 2, 1, [10079, 10081, 28004], ⟨"PlantKeeperModel", "row", "(I)V"⟩),
  ("PlantKeeperModel", 439, 322, 2, 1, [10083, 10085, 28005], ⟨"PlantKeeperModel", "readCell", "(I)V"⟩),
  ("PlantKeeperModel", 442, 323, 2, 1, [10087, 10089, 28006], ⟨"PlantKeeperModel", "contact", "(I)V"⟩),
  ("PlantKeeperModel", 373, 325, 2, 1, [10095, 10097, 28008], ⟨"PlantKeeperModel", "named", "(I)V"⟩),
  ("PlantKeeperModel", 376, 339, 2, 1, [10150, 10152, 29005], ⟨"PlantKeeperModel", "opened", "(I)V"⟩),
  ("PlantKeeperModel", 402, 326, 2, 1, [10099, 10101, 28009], ⟨"PlantKeeperModel", "invoke", "(I)V"⟩),
  ("PlantKeeperModel", 405, 334, 2, 1, [10131, 10133, 29001], ⟨"PlantKeeperModel", "element", "(I)V"⟩),
  ("PlantKeeperModel", 391, 328, 2, 1, [10107, 10109, 28011], ⟨"PlantKeeperModel", "expression", "(I)V"⟩),
  ("PlantKeeperModel", 379, 327, 2, 0, [10103, 10105, 28010], ⟨"PlantKeeperModel", "open", "()V"⟩),
  ("PlantKeeperModel", 408, 329, 2, 0, [10111, 10113, 28012], ⟨"PlantKeeperModel", "operand", "()V"⟩),
  ("PlantKeeperModel", 411, 336, 2, 0, [10139, 10141, 29003], ⟨"PlantKeeperModel", "signAt", "()I"⟩),
  ("PlantKeeperModel", 414, 330, 2, 0, [10115, 10117, 28013], ⟨"PlantKeeperModel", "next2", "()V"⟩),
  ("PlantKeeperModel", 417, 337, 2, 2, [10143, 10145, 29004], ⟨"PlantKeeperModel", "split", "(II)I"⟩),
  ("PlantKeeperModel", 424, 331, 2, 1, [10119, 10121, 28014], ⟨"PlantKeeperModel", "keep", "(I)V"⟩),
  ("PlantKeeperModel", 427, 332, 2, 0, [10123, 10125, 28015], ⟨"PlantKeeperModel", "bracket", "()V"⟩),
  ("PlantKeeperModel", 430, 333, 2, 0, [10127, 10129, 29000], ⟨"PlantKeeperModel", "nameOperand", "()V"⟩),
  ("PlantKeeperModel", 433, 335, 2, 1, [10135, 10137, 29002], ⟨"PlantKeeperModel", "call", "(I)V"⟩),
  ("PlantKeeperModel", 421, 338, 0, 1, [10147, 10148], ⟨"PlantKeeperModel", "closeness", "(I)I"⟩),
  ("PlantKeeperModel", 382, 340, 2, 1, [10154, 10156, 29006], ⟨"PlantKeeperModel", "choose", "(I)V"⟩),
  ("PlantKeeperModel", 385, 342, 2, 1, [10162, 10164, 29008], ⟨"PlantKeeperModel", "cases", "(I)V"⟩),
  ("PlantKeeperModel", 388, 344, 2, 1, [10170, 10172, 29010], ⟨"PlantKeeperModel", "loop", "(I)V"⟩),
  ("PlantKeeperModel", 394, 341, 2, 2, [10158, 10160, 29007], ⟨"PlantKeeperModel", "body", "(IZ)V"⟩),
  ("PlantKeeperModel", 398, 343, 2, 0, [10166, 10168, 29009], ⟨"PlantKeeperModel", "beginsConstant", "()Z"⟩),
  ("PlantKeeperModel", 522, 347, 2, 1, [10182, 10184, 29013], ⟨"PlantKeeperModel", "lookAlone", "(I)V"⟩),
  ("PlantKeeperModel", 525, 383, 2, 1, [11175, 11177, 31014], ⟨"PlantKeeperModel", "lookAtExpressions", "(I)V"⟩),
  ("PlantKeeperModel", 528, 348, 2, 1, [10186, 10188, 29014], ⟨"PlantKeeperModel", "beginBlock", "(I)V"⟩),
  ("PlantKeeperModel", 531, 356, 2, 1, [10220, 10222, 30006], ⟨"PlantKeeperModel", "lookAtBlocks", "(I)V"⟩),
  ("PlantKeeperModel", 534, 368, 2, 1, [11029, 11031, 31002], ⟨"PlantKeeperModel", "lookAtStatements", "(I)V"⟩),
  ("PlantKeeperModel", 537, 381, 2, 1, [11167, 11169, 31012], ⟨"PlantKeeperModel", "lookAtRungs", "(I)V"⟩),
  ("PlantKeeperModel", 540, 349, 2, 3, [10190, 10192, 29015], ⟨"PlantKeeperModel", "rule", "(ZII)V"⟩),
  ("PlantKeeperModel", 544, 351, 2, 1, [10198, 10200, 30001], ⟨"PlantKeeperModel", "isStandard", "(I)Z"⟩),
  ("PlantKeeperModel", 547, 353, 2, 2, [10208, 10210, 30003], ⟨"PlantKeeperModel", "blockNamed", "(II)I"⟩),
  ("PlantKeeperModel", 553, 354, 2, 1, [10212, 10214, 30004], ⟨"PlantKeeperModel", "addVariable", "(I)I"⟩),
  ("PlantKeeperModel", 556, 355, 2, 4, [10216, 10218, 30005], ⟨"PlantKeeperModel", "layOut", "(IIII)V"⟩),
  ("PlantKeeperModel", 451, 350, 2, 2, [10194, 10196, 30000], ⟨"PlantKeeperModel", "breaks", "(II)V"⟩),
  ("PlantKeeperModel", 456, 352, 2, 2, [10203, 10205, 30002], ⟨"PlantKeeperModel", "wordOf", "(Ljava/lang/String;I)I"⟩),
  ("PlantKeeperModel", 560, 357, 2, 1, [10224, 10226, 30007], ⟨"PlantKeeperModel", "lookAtText", "(I)V"⟩),
  ("PlantKeeperModel", 563, 358, 2, 1, [10228, 10230, 30008], ⟨"PlantKeeperModel", "inputs", "(I)I"⟩),
  ("PlantKeeperModel", 566, 359, 2, 1, [10232, 10234, 30009], ⟨"PlantKeeperModel", "endBlock", "(I)V"⟩),
  ("PlantKeeperModel", 569, 361, 2, 1, [11000, 11002, 30011], ⟨"PlantKeeperModel", "lookAtDeclaration", "(I)V"⟩),
  ("PlantKeeperModel", 572, 364, 2, 1, [11013, 11015, 30014], ⟨"PlantKeeperModel", "lookAtName", "(I)V"⟩),
  ("PlantKeeperModel", 575, 366, 2, 1, [11021, 11023, 31000], ⟨"PlantKeeperModel", "isPlaceTaken", "(I)Z"⟩),
  ("PlantKeeperModel", 578, 367, 2, 1, [11025, 11027, 31001], ⟨"PlantKeeperModel", "lookAtArray", "(I)V"⟩),
  ("PlantKeeperModel", 587, 360, 2, 2, [10236, 10238, 30010], ⟨"PlantKeeperModel", "give", "(IZ)V"⟩),
  ("PlantKeeperModel", 581, 362, 2, 1, [11004, 11006, 30012], ⟨"PlantKeeperModel", "blockOf", "(I)I"⟩),
  ("PlantKeeperModel", 584, 363, 2, 1, [11008, 11010, 30013], ⟨"PlantKeeperModel", "instanceCells", "(I)I"⟩),
  ("PlantKeeperModel", 507, 365, 2, 2, [11017, 11019, 30015], ⟨"PlantKeeperModel", "variable", "(II)I"⟩),
  ("PlantKeeperModel", 597, 369, 2, 2, [11033, 11035, 31003], ⟨"PlantKeeperModel", "lookAtAssigned", "(II)V"⟩),
  ("PlantKeeperModel", 600, 371, 0, 2, [11041, 11042], ⟨"PlantKeeperModel", "fits", "(II)Z"⟩),
  ("PlantKeeperModel", 603, 372, 2, 1, [11044, 11046, 31005], ⟨"PlantKeeperModel", "lookAtInstance", "(I)V"⟩),
  ("PlantKeeperModel", 606, 373, 2, 1, [11048, 11050, 31006], ⟨"PlantKeeperModel", "lookAtParameter", "(I)V"⟩),
  ("PlantKeeperModel", 609, 379, 0, 1, [11159, 11160], ⟨"PlantKeeperModel", "isNumber", "(I)Z"⟩),
  ("PlantKeeperModel", 612, 380, 2, 1, [11162, 11164, 31011], ⟨"PlantKeeperModel", "lookAtLoop", "(I)V"⟩),
  ("PlantKeeperModel", 593, 370, 2, 2, [11037, 11039, 31004], ⟨"PlantKeeperModel", "isLoops", "(II)Z"⟩),
  ("PlantKeeperModel", 615, 374, 2, 3, [11052, 11054, 31007], ⟨"PlantKeeperModel", "pin", "(IZI)I"⟩),
  ("PlantKeeperModel", 619, 377, 2, 3, [11151, 11153, 31009], ⟨"PlantKeeperModel", "pinType", "(IZI)I"⟩),
  ("PlantKeeperModel", 622, 378, 2, 3, [11155, 11157, 31010], ⟨"PlantKeeperModel", "pinCell", "(IZI)I"⟩),
  ("PlantKeeperModel", 499, 375, 0, 3, [11056, 11057], ⟨"PlantKeeperModel", "standardName", "(IZI)Ljava/lang/String;"⟩),
  ("PlantKeeperModel", 503, 376, 2, 2, [11147, 11149, 31008], ⟨"PlantKeeperModel", "isNamed", "(ILjava/lang/String;)Z"⟩),
  ("PlantKeeperModel", 492, 485, 2, 2, [11072, 9205, 9206], ⟨"java/lang/String", "indexOf", "(II)I"⟩),
  ("PlantKeeperModel", 494, 486, 2, 2, [11073, 11074, 11075], ⟨"java/lang/String", "substring", "(II)Ljava/lang/String;"⟩),
  ("PlantKeeperModel", 627, 382, 2, 1, [11171, 11173, 31013], ⟨"PlantKeeperModel", "cellsIn", "(I)I"⟩),
  ("PlantKeeperModel", 630, 384, 2, 1, [11179, 11181, 31015], ⟨"PlantKeeperModel", "lookAtElement", "(I)V"⟩),
  ("PlantKeeperModel", 633, 385, 2, 1, [11183, 11185, 32000], ⟨"PlantKeeperModel", "lookAtOutput", "(I)V"⟩),
  ("PlantKeeperModel", 636, 386, 2, 1, [11187, 11189, 32001], ⟨"PlantKeeperModel", "lookAtCall", "(I)V"⟩),
  ("PlantKeeperModel", 639, 390, 2, 1, [11202, 11204, 32004], ⟨"PlantKeeperModel", "lookAtTwo", "(I)V"⟩),
  ("PlantKeeperModel", 642, 387, 0, 2, [11191, 11192], ⟨"PlantKeeperModel", "wider", "(II)I"⟩),
  ("PlantKeeperModel", 645, 388, 2, 3, [11194, 11196, 32002], ⟨"PlantKeeperModel", "callOwn", "(III)V"⟩),
  ("PlantKeeperModel", 649, 389, 2, 2, [11198, 11200, 32003], ⟨"PlantKeeperModel", "input", "(II)I"⟩),
  ("PlantKeeperModel", 661, 392, 2, 1, [11210, 11212, 32006], ⟨"PlantKeeperModel", "beginFunction", "(I)V"⟩),
  ("PlantKeeperModel", 664, 395, 2, 1, [11222, 11224, 32009], ⟨"PlantKeeperModel", "bodyCode", "(I)V"⟩),
  ("PlantKeeperModel", 667, 417, 2, 1, [12070, 12072, 33012], ⟨"PlantKeeperModel", "ladderCode", "(I)V"⟩),
  ("PlantKeeperModel", 670, 393, 2, 4, [11214, 11216, 32007], ⟨"PlantKeeperModel", "emit", "(IIII)I"⟩),
  ("PlantKeeperModel", 673, 394, 2, 1, [11218, 11220, 32008], ⟨"PlantKeeperModel", "endOf", "(I)I"⟩),
  ("PlantKeeperModel", 676, 396, 2, 1, [11226, 11228, 32010], ⟨"PlantKeeperModel", "statementCode", "(I)V"⟩),
  ("PlantKeeperModel", 679, 397, 2, 1, [11230, 11232, 32011], ⟨"PlantKeeperModel", "assignmentCode", "(I)V"⟩),
  ("PlantKeeperModel", 682, 398, 2, 1, [11234, 11236, 32012], ⟨"PlantKeeperModel", "expressionCode", "(I)V"⟩),
  ("PlantKeeperModel", 685, 410, 2, 1, [12042, 12044, 33005], ⟨"PlantKeeperModel", "isOwn", "(I)Z"⟩),
  ("PlantKeeperModel", 688, 411, 2, 3, [12046, 12048, 33006], ⟨"PlantKeeperModel", "choiceCode", "(III)V"⟩),
  ("PlantKeeperModel", 691, 415, 2, 1, [12062, 12064, 33010], ⟨"PlantKeeperModel", "loopCode", "(I)V"⟩),
  ("PlantKeeperModel", 711, 399, 2, 1, [11238, 12000, 32013], ⟨"PlantKeeperModel", "isConstant", "(I)Z"⟩),
  ("PlantKeeperModel", 735, 408, 2, 1, [12034, 12036, 33003], ⟨"PlantKeeperModel", "operandCode", "(I)V"⟩),
  ("PlantKeeperModel", 720, 407, 2, 1, [12030, 12032, 33002], ⟨"PlantKeeperModel", "signCode", "(I)I"⟩),
  ("PlantKeeperModel", 714, 400, 2, 1, [12002, 12004, 32014], ⟨"PlantKeeperModel", "valueOf", "(I)I"⟩),
  ("PlantKeeperModel", 717, 401, 2, 1, [12006, 12008, 32015], ⟨"PlantKeeperModel", "valueAlone", "(I)I"⟩),
  ("PlantKeeperModel", 723, 406, 0, 3, [12026, 12027], ⟨"PlantKeeperModel", "two", "(III)I"⟩),
  ("PlantKeeperModel", 726, 402, 2, 1, [12010, 12012, 33000], ⟨"PlantKeeperModel", "oneCode", "(I)I"⟩),
  ("PlantKeeperModel", 729, 403, 0, 2, [12014, 12015], ⟨"PlantKeeperModel", "one", "(II)I"⟩),
  ("PlantKeeperModel", 732, 405, 2, 4, [12022, 12024, 33001], ⟨"PlantKeeperModel", "standard", "(IIII)I"⟩),
  ("PlantKeeperModel", 803, 404, 0, 1, [12017, 12018], ⟨"PlantKeeperModel", "narrow", "(I)I"⟩),
  ("PlantKeeperModel", 738, 409, 2, 1, [12038, 12040, 33004], ⟨"PlantKeeperModel", "callCode", "(I)V"⟩),
  ("PlantKeeperModel", 700, 412, 2, 2, [12050, 12052, 33007], ⟨"PlantKeeperModel", "rangesCode", "(II)V"⟩),
  ("PlantKeeperModel", 703, 413, 2, 0, [12054, 12056, 33008], ⟨"PlantKeeperModel", "here", "()I"⟩),
  ("PlantKeeperModel", 705, 414, 2, 2, [12058, 12060, 33009], ⟨"PlantKeeperModel", "aim", "(II)V"⟩),
  ("PlantKeeperModel", 708, 416, 2, 1, [12066, 12068, 33011], ⟨"PlantKeeperModel", "times", "(I)I"⟩),
  ("PlantKeeperModel", 741, 418, 2, 1, [12074, 12076, 33013], ⟨"PlantKeeperModel", "rungCode", "(I)V"⟩),
  ("PlantKeeperModel", 744, 419, 2, 2, [12078, 12080, 33014], ⟨"PlantKeeperModel", "rowOf", "(II)I"⟩),
  ("PlantKeeperModel", 753, 420, 2, 2, [12082, 12084, 33015], ⟨"PlantKeeperModel", "cellOf", "(II)I"⟩),
  ("PlantKeeperModel", 750, 421, 2, 3, [12086, 12088, 34000], ⟨"PlantKeeperModel", "leastRow", "(III)I"⟩),
  ("PlantKeeperModel", 756, 423, 2, 4, [12094, 12096, 34002], ⟨"PlantKeeperModel", "groupCode", "(IIII)V"⟩),
  ("PlantKeeperModel", 759, 424, 2, 3, [12098, 12100, 34003], ⟨"PlantKeeperModel", "powerCell", "(III)I"⟩),
  ("PlantKeeperModel", 762, 426, 2, 2, [12106, 12108, 34005], ⟨"PlantKeeperModel", "coilCode", "(II)V"⟩),
  ("PlantKeeperModel", 747, 422, 2, 2, [12090, 12092, 34001], ⟨"PlantKeeperModel", "isLinked", "(II)Z"⟩),
  ("PlantKeeperModel", 765, 425, 2, 1, [12102, 12104, 34004], ⟨"PlantKeeperModel", "contactCode", "(I)V"⟩),
  ("PlantKeeperModel", 768, 429, 2, 1, [12118, 12120, 34008], ⟨"PlantKeeperModel", "sizeOf", "(I)I"⟩),
  ("PlantKeeperModel", 777, 430, 2, 2, [12126, 12128, 34009], ⟨"PlantKeeperModel", "target", "(II)I"⟩),
  ("PlantKeeperModel", 780, 432, 2, 4, [12134, 12136, 34011], ⟨"PlantKeeperModel", "greatest", "(IIII)J"⟩),
  ("PlantKeeperModel", 792, 433, 2, 4, [12138, 12140, 34012], ⟨"PlantKeeperModel", "greatestFrom", "(IIII)J"⟩),
  ("PlantKeeperModel", 795, 434, 0, 2, [12142, 12143], ⟨"PlantKeeperModel", "more", "(JJ)J"⟩),
  ("PlantKeeperModel", 798, 478, 0, 2, [12147, 3062], ⟨"java/lang/Math", "max", "(JJ)J"⟩),
  ("PlantKeeperModel", 786, 479, 0, 2, [12146, 3066], ⟨"java/lang/Math", "min", "(JJ)J"⟩),
  ("PlantKeeperModel", 886, 436, 2, 0, [12153, 12155, 34014], ⟨"PlantKeeperModel", "fillAll", "()V"⟩),
  ("PlantKeeperModel", 889, 438, 2, 0, [12161, 12163, 35000], ⟨"PlantKeeperModel", "publishSafe", "()V"⟩),
  ("PlantKeeperModel", 808, 437, 2, 2, [12157, 12159, 34015], ⟨"PlantKeeperModel", "fill", "(II)V"⟩),
  ("PlantKeeperModel", 895, 441, 0, 2, [12173, 12174], ⟨"PlantKeeperModel", "noPlace", "(II)Z"⟩),
  ("PlantKeeperModel", 898, 442, 0, 2, [12176, 12177], ⟨"PlantKeeperModel", "noValue", "(II)Z"⟩),
  ("PlantKeeperModel", 901, 443, 0, 2, [12179, 12180], ⟨"PlantKeeperModel", "spot", "(II)I"⟩),
  ("PlantKeeperModel", 826, 447, 2, 2, [12194, 12196, 35001], ⟨"PlantKeeperModel", "go", "(II)V"⟩),
  ("PlantKeeperModel", 820, 448, 2, 3, [12198, 12200, 35002], ⟨"PlantKeeperModel", "step", "(III)I"⟩),
  ("PlantKeeperModel", 823, 449, 2, 1, [12202, 12204, 35003], ⟨"PlantKeeperModel", "lay", "(I)V"⟩),
  ("PlantKeeperModel", 829, 450, 2, 2, [12206, 12208, 35004], ⟨"PlantKeeperModel", "timers", "(II)V"⟩),
  ("PlantKeeperModel", 835, 451, 2, 1, [12210, 12212, 35005], ⟨"PlantKeeperModel", "on", "(I)Z"⟩),
  ("PlantKeeperModel", 838, 452, 2, 2, [12214, 12216, 35006], ⟨"PlantKeeperModel", "grown", "(II)I"⟩),
  ("PlantKeeperModel", 841, 453, 2, 2, [12218, 12220, 35007], ⟨"PlantKeeperModel", "turn", "(IZ)V"⟩),
  ("PlantKeeperModel", 916, 455, 2, 0, [12226, 12228, 35008], ⟨"PlantKeeperModel", "readPathName", "()Z"⟩),
  ("PlantKeeperModel", 919, 457, 2, 1, [12234, 12236, 35010], ⟨"PlantKeeperModel", "variableOnPath", "(I)I"⟩),
  ("PlantKeeperModel", 922, 459, 2, 1, [13002, 13004, 35012], ⟨"PlantKeeperModel", "passes", "(I)Z"⟩),
  ("PlantKeeperModel", 925, 460, 2, 2, [13006, 13008, 35013], ⟨"PlantKeeperModel", "watchPin", "(II)I"⟩),
  ("PlantKeeperModel", 928, 463, 2, 0, [13018, 13020, 36000], ⟨"PlantKeeperModel", "readIndex", "()I"⟩),
  ("PlantKeeperModel", 931, 462, 2, 2, [13014, 13016, 35015], ⟨"PlantKeeperModel", "see", "(II)I"⟩),
  ("PlantKeeperModel", 913, 456, 2, 1, [12230, 12232, 35009], ⟨"PlantKeeperModel", "tapeGreat", "(I)I"⟩),
  ("PlantKeeperModel", 934, 458, 2, 1, [12238, 13000, 35011], ⟨"PlantKeeperModel", "isPathName", "(I)Z"⟩),
  ("PlantKeeperModel", 948, 461, 2, 1, [13010, 13012, 35014], ⟨"PlantKeeperModel", "isPathWord", "(Ljava/lang/String;)Z"⟩),
  ("PlantKeeperModel", 953, 466, 2, 1, [13034, 13036, 36001], ⟨"PlantKeeperModel", "heard", "(I)I"⟩),
  ("PlantKeeperModel", 959, 467, 0, 2, [13038, 13039], ⟨"PlantKeeperModel", "summed", "(II)I"⟩),
  ("PlantKeeperModel", 962, 468, 2, 2, [13042, 13044, 36002], ⟨"PlantKeeperModel", "refusal", "(II)I"⟩),
  ("PlantKeeperModel", 965, 471, 2, 1, [13054, 13056, 36004], ⟨"PlantKeeperModel", "obey", "(I)V"⟩),
  ("PlantKeeperModel", 968, 472, 2, 2, [13058, 13060, 36005], ⟨"PlantKeeperModel", "reply", "(II)V"⟩),
  ("PlantKeeperModel", 971, 469, 2, 1, [13046, 13048, 36003], ⟨"PlantKeeperModel", "dataTwo", "(I)I"⟩),
  ("PlantKeeperModel", 975, 470, 0, 1, [13051, 13052], ⟨"PlantKeeperModel", "tableSize", "(I)I"⟩),
  ("PlantKeeperModel", 978, 473, 2, 1, [13062, 13064, 36006], ⟨"PlantKeeperModel", "answer", "(I)V"⟩),
  ("PlantKeeperModel", 981, 474, 2, 2, [13066, 13068, 36007], ⟨"PlantKeeperModel", "told", "(II)I"⟩),
  ("PlantKeeperLaw", 13, 1, 2, 5, [2227, 2228, 2229], ⟨"PlantKeeper", "feed", "(IIIII)I"⟩),
  ("PlantKeeperLaw", 17, 280, 2, 5, [9042, 9043, 9044], ⟨"PlantKeeperModel", "feed", "(IIIII)I"⟩),
  ("PlantKeeperLaw", 18, 3, 2, 1, [2235, 2236, 2237], ⟨"PlantKeeper", "end", "(I)I"⟩),
  ("PlantKeeperLaw", 22, 282, 2, 1, [9050, 9051, 9052], ⟨"PlantKeeperModel", "end", "(I)I"⟩),
  ("PlantKeeperLaw", 23, 5, 2, 1, [3002, 3003, 3004], ⟨"PlantKeeper", "load", "(I)I"⟩),
  ("PlantKeeperLaw", 26, 283, 2, 1, [9054, 9055, 9056], ⟨"PlantKeeperModel", "load", "(I)I"⟩),
  ("PlantKeeperLaw", 27, 209, 2, 0, [6151, 6152, 6153], ⟨"PlantKeeper", "restart", "()I"⟩),
  ("PlantKeeperLaw", 31, 439, 2, 0, [12165, 12166, 12167], ⟨"PlantKeeperModel", "restart", "()I"⟩),
  ("PlantKeeperLaw", 32, 210, 2, 3, [6155, 6156, 6157], ⟨"PlantKeeper", "put", "(III)I"⟩),
  ("PlantKeeperLaw", 36, 440, 2, 3, [12169, 12170, 12171], ⟨"PlantKeeperModel", "put", "(III)I"⟩),
  ("PlantKeeperLaw", 37, 217, 2, 2, [6178, 6179, 6180], ⟨"PlantKeeper", "get", "(II)I"⟩),
  ("PlantKeeperLaw", 41, 444, 2, 2, [12182, 12183, 12184], ⟨"PlantKeeperModel", "get", "(II)I"⟩),
  ("PlantKeeperLaw", 42, 219, 2, 3, [6186, 6187, 6188], ⟨"PlantKeeper", "safe", "(III)I"⟩),
  ("PlantKeeperLaw", 45, 445, 2, 3, [12186, 12187, 12188], ⟨"PlantKeeperModel", "safe", "(III)I"⟩),
  ("PlantKeeperLaw", 46, 220, 2, 1, [6190, 6191, 6192], ⟨"PlantKeeper", "scan", "(I)I"⟩),
  ("PlantKeeperLaw", 49, 446, 2, 1, [12190, 12191, 12192], ⟨"PlantKeeperModel", "scan", "(I)I"⟩),
  ("PlantKeeperLaw", 50, 245, 2, 0, [7056, 7057, 7058], ⟨"PlantKeeper", "watch", "()I"⟩),
  ("PlantKeeperLaw", 53, 454, 2, 0, [12222, 12223, 12224], ⟨"PlantKeeperModel", "watch", "()I"⟩),
  ("PlantKeeperLaw", 54, 254, 2, 0, [7103, 7104, 7105], ⟨"PlantKeeper", "watched", "()I"⟩),
  ("PlantKeeperLaw", 57, 464, 2, 0, [13026, 13027, 13028], ⟨"PlantKeeperModel", "watched", "()I"⟩),
  ("PlantKeeperLaw", 58, 255, 2, 0, [7107, 7108, 7109], ⟨"PlantKeeper", "frame", "()I"⟩),
  ("PlantKeeperLaw", 61, 465, 2, 0, [13030, 13031, 13032], ⟨"PlantKeeperModel", "frame", "()I"⟩),
  ("PlantKeeperLaw", 62, 277, 2, 1, [7213, 7214, 7215], ⟨"PlantKeeper", "station", "(I)I"⟩),
  ("PlantKeeperLaw", 65, 475, 2, 1, [13070, 13071, 13072], ⟨"PlantKeeperModel", "station", "(I)I"⟩),
  ("PlantKeeperLaw", 66, 278, 2, 1, [7217, 7218, 7219], ⟨"PlantKeeper", "byteAt", "(I)I"⟩),
  ("PlantKeeperLaw", 69, 476, 2, 1, [13074, 13075, 13076], ⟨"PlantKeeperModel", "byteAt", "(I)I"⟩),
  ("PlantKeeperLaw", 70, 279, 2, 1, [7221, 7222, 7223], ⟨"PlantKeeper", "count", "(I)I"⟩),
  ("PlantKeeperLaw", 73, 477, 2, 1, [13078, 13079, 13080], ⟨"PlantKeeperModel", "count", "(I)I"⟩)]
def calOk (q : String × Nat × Nat × Nat × Nat × List Nat × MethodName) : Bool := match mths[q.2.2.1]?, q.2.2.2.2.2.1 with
  | some mi, [p0, p1] => decide ((parseMethodDescriptor mi.1.desc).map (fun d => d.parameters.length) = some q.2.2.2.2.1) && (if q.2.2.2.1 = 0 then tb p0 (.methodLink q.1 q.2.1 mi.1) && tb p1 (.static mi.1) else decide (q.2.2.2.1 = 1) && tb p0 (.methodLinkNest q.1 q.2.1 mi.1 "PlantKeeper") && tb p1 (.static mi.1))
  | some mi, [p0, p1, p2] => decide ((parseMethodDescriptor mi.1.desc).map (fun d => d.parameters.length) = some q.2.2.2.2.1) && decide (q.2.2.2.1 = 2) && tb p0 (.methodLink q.1 q.2.1 mi.1) && tb p1 (.instanceMethod mi.1) && tb p2 (.selects mi.1.cls mi.1 mi.1)
  | some mi, [p0, p1, p2, p3, p4] => decide ((parseMethodDescriptor q.2.2.2.2.2.2.desc).map (fun d => d.parameters.length) = some q.2.2.2.2.1) && decide (q.2.2.2.1 = 3) && tb p0 (.methodLink q.1 q.2.1 q.2.2.2.2.2.2) && tb p1 (.sameMethod q.2.2.2.2.2.2.cls q.2.2.2.2.2.2.cls q.2.2.2.2.2.2.name q.2.2.2.2.2.2.desc) && tb p2 (.selects mi.1.cls q.2.2.2.2.2.2 mi.1) && tb p3 (.instanceMethod mi.1) && tb p4 (.declares q.2.2.2.2.2.2) && decide (q.2.2.2.2.2.2.cls ≠ "java/lang/invoke/MethodHandle" ∧ q.2.2.2.2.2.2.cls ≠ "java/lang/invoke/VarHandle")
  | _, _ => false
/-- where arraycopy is linked -/
def cpyT : List (String × Nat × Nat) := [("PlantKeeper$Names", 25, 3100), ("PlantKeeper$Images", 37, 6150)]
def cpyOk (q : String × Nat × Nat) : Bool := tb q.2.2 (.methodLink q.1 q.2.1 arraycopyName) && tb 3102 (.native arraycopyName) && tb 3101 (.static arraycopyName) && tb 20 (.initialized "java/lang/System")
