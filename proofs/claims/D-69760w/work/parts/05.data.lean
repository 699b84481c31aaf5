set_option maxRecDepth 100000
/-! the classes that are made, by numbers; their fields by numbers of their own (one for a field, whichever class inherits it) -/
def cnameL : List String := ["LetMill", "LetMill$Tokens", "LetMill$Types", "LetMill$TypeName", "LetMill$Machine", "LetMill$Row", "LetMill$Spot", "LetMill$Scope", "LetMill$Matches", "LetMill$Typer", "LetMill$Reader", "LetMill$Printer", "LetMill$Binding", "LetMillModel", "java/lang/IndexOutOfBoundsException", "java/lang/IllegalArgumentException", "LetMill$Let", "LetMill$Fault", "LetMill$ConPat", "LetMill$AnyPat", "LetMill$NamePat", "LetMill$NumberPat", "LetMill$ListPat", "LetMill$UnitPat", "LetMill$GroupPat", "LetMill$TuplePat", "LetMill$PairPat", "LetMill$Val", "LetMill$Clause", "LetMill$Fn", "LetMill$Case", "LetMill$If", "LetMill$Use", "LetMill$UseCon", "LetMill$Constant", "LetMill$Built", "LetMill$Group", "LetMill$Tuple", "LetMill$Sequence", "LetMill$Listing", "LetMill$Apply", "LetMill$Sign", "LetMill$Signs", "LetMill$Chain", "LetMill$Fun", "LetMill$Funs", "LetMill$Data", "LetMill$TyName", "LetMill$TyVariable", "LetMill$TyProduct", "LetMill$TyFun", "LetMill$ConDec", "LetMill$Datas", "LetMill$Con", "java/lang/IllegalStateException", "java/util/NoSuchElementException"]
def cname (c : Nat) : String := cnameL.getD c ""
/-- a class's fields: number and kind (0 int, 1 long, 2 reference, 3 boolean) -/
def ftabL : List (List (Nat × Nat)) := [
  [(0, 2), (1, 2), (2, 2), (3, 2), (4, 2), (5, 2), (6, 2), (7, 2), (8, 2), (9, 0), (10, 0), (11, 0), (12, 2), (13, 2), (14, 2), (15, 2), (16, 0), (17, 2), (18, 2), (19, 0), (20, 0)],
  [(21, 2), (22, 2), (23, 0), (24, 2), (25, 2), (26, 2), (27, 2), (28, 0), (29, 0)],
  [(30, 2), (31, 2), (32, 2), (33, 2), (34, 2), (35, 2), (36, 0), (37, 0), (38, 0), (39, 2), (40, 2), (41, 0), (42, 0), (43, 0), (44, 0), (45, 0), (46, 2), (47, 0), (48, 0)],
  [(49, 1), (50, 1), (51, 0), (52, 0), (53, 2), (54, 0)],
  [(55, 2), (56, 0), (57, 2), (58, 2), (59, 2), (60, 2), (61, 2), (62, 2), (63, 0), (64, 2), (65, 0), (66, 2), (67, 2), (68, 0), (69, 0), (70, 0), (71, 0), (72, 0), (73, 0), (74, 3), (75, 0), (76, 0)],
  [(77, 2), (78, 0)],
  [(79, 2)],
  [(80, 2), (81, 2), (82, 2), (83, 0), (84, 0), (85, 2), (86, 2), (87, 2), (88, 2), (89, 2), (90, 0), (91, 0), (92, 0), (93, 0), (94, 0), (95, 3)],
  [(96, 2), (97, 2), (98, 2), (99, 2), (100, 2), (101, 0), (102, 0), (103, 2), (104, 2), (105, 2), (106, 0), (107, 2)],
  [(108, 2), (109, 2), (110, 2), (111, 2), (112, 0), (113, 2)],
  [(114, 2), (115, 0), (116, 0), (117, 0), (118, 0)],
  [(119, 2), (120, 0), (121, 2), (122, 2), (123, 2), (124, 0)],
  [(125, 1), (126, 1), (127, 0), (128, 3), (129, 0), (130, 2), (131, 0)],
  [(132, 0), (133, 2), (134, 2), (135, 0), (136, 0), (137, 2), (138, 2), (139, 0), (140, 2), (141, 2), (142, 2), (143, 0), (144, 0), (145, 0), (146, 2), (147, 2), (148, 2), (149, 2), (150, 2), (151, 2), (152, 0), (153, 3), (154, 0), (155, 0), (156, 0), (157, 0), (158, 2), (159, 2), (160, 2), (161, 2), (162, 2), (163, 0), (164, 0), (165, 0), (166, 2), (167, 2), (168, 2), (169, 2), (170, 2), (171, 2), (172, 2), (173, 0), (174, 0), (175, 0), (176, 0), (177, 0), (178, 0), (179, 0), (180, 0), (181, 0), (182, 0), (183, 0), (184, 0), (185, 3), (186, 2), (187, 2), (188, 2), (189, 2), (190, 0), (191, 0), (192, 2), (193, 2), (194, 2), (195, 0), (196, 2), (197, 0), (198, 2), (199, 2), (200, 2), (201, 0), (202, 2), (203, 2), (204, 0), (205, 0), (206, 2), (207, 0), (208, 2), (209, 0), (210, 0), (211, 2), (212, 2), (213, 2), (214, 0), (215, 2), (216, 3), (217, 2), (218, 2), (219, 0), (220, 2), (221, 2), (222, 0), (223, 0), (224, 2), (225, 2), (226, 2), (227, 2), (228, 2), (229, 0), (230, 3), (231, 0), (232, 0), (233, 0), (234, 0), (235, 0), (236, 0), (237, 0), (238, 2), (239, 2), (240, 0), (241, 0), (242, 0), (243, 0), (244, 2), (245, 2), (246, 2), (247, 2), (248, 2), (249, 2), (250, 2), (251, 0), (252, 0), (253, 0), (254, 3), (255, 0), (256, 0), (257, 0), (258, 0), (259, 0), (260, 0), (261, 2), (262, 2), (263, 2), (264, 2), (265, 2), (266, 2), (267, 2), (268, 0), (269, 2), (270, 2), (271, 0), (272, 0), (273, 0), (274, 0), (275, 0), (276, 0), (277, 0), (278, 0), (279, 0), (280, 0), (281, 0), (282, 3), (283, 3), (284, 2), (285, 0), (286, 2), (287, 2), (288, 2), (289, 0)],
  [(290, 2), (291, 2), (292, 2), (293, 2), (294, 2), (295, 0)],
  [(290, 2), (291, 2), (292, 2), (293, 2), (294, 2), (295, 0)],
  [(296, 0), (297, 0), (298, 2), (299, 2)],
  [(290, 2), (291, 2), (292, 2), (293, 2), (294, 2), (295, 0), (300, 0), (301, 0)],
  [(302, 0), (303, 2), (304, 2)],
  [(302, 0)],
  [(302, 0), (305, 2)],
  [(302, 0), (306, 0), (307, 3)],
  [(302, 0), (308, 2)],
  [(302, 0)],
  [(302, 0), (309, 2)],
  [(302, 0), (310, 2)],
  [(302, 0), (311, 2), (312, 2)],
  [(313, 0), (314, 2), (315, 2)],
  [(316, 0), (317, 2), (318, 2)],
  [(296, 0), (297, 0), (319, 2), (320, 0)],
  [(296, 0), (297, 0), (321, 2), (322, 2)],
  [(296, 0), (297, 0), (323, 2), (324, 2), (325, 2)],
  [(296, 0), (297, 0), (326, 2), (327, 0)],
  [(296, 0), (297, 0), (328, 2)],
  [(296, 0), (297, 0), (329, 0), (330, 0)],
  [(296, 0), (297, 0), (331, 0)],
  [(296, 0), (297, 0), (332, 2)],
  [(333, 2), (296, 0), (297, 0)],
  [(333, 2), (296, 0), (297, 0)],
  [(333, 2), (296, 0), (297, 0)],
  [(296, 0), (297, 0), (334, 2), (335, 2)],
  [(296, 0), (297, 0), (336, 0), (337, 2), (338, 2)],
  [(339, 2), (340, 0)],
  [(296, 0), (297, 0), (341, 2), (342, 2), (343, 2)],
  [(344, 0), (345, 2), (346, 2), (347, 0)],
  [(313, 0), (348, 2)],
  [(349, 0), (350, 2), (351, 0), (352, 2), (353, 2)],
  [(354, 0), (355, 2), (356, 2)],
  [(354, 0), (357, 0)],
  [(354, 0), (358, 2)],
  [(354, 0), (359, 2), (360, 2)],
  [(361, 0), (362, 2), (363, 2)],
  [(313, 0), (364, 2), (365, 3)],
  [(366, 1), (367, 1), (368, 2), (369, 0), (370, 0), (371, 3), (372, 2), (373, 2), (374, 2)],
  [(290, 2), (291, 2), (292, 2), (293, 2), (294, 2), (295, 0)],
  [(290, 2), (291, 2), (292, 2), (293, 2), (294, 2), (295, 0)]]
def ftab (c : Nat) : List (Nat × Nat) := ftabL.getD c []
def gtabL : List (String × String × String × Bool) := [
  ("LetMill", "tokens", "LLetMill$Tokens;", true),
  ("LetMill", "types", "LLetMill$Types;", true),
  ("LetMill", "machine", "LLetMill$Machine;", true),
  ("LetMill", "scope", "LLetMill$Scope;", true),
  ("LetMill", "matches", "LLetMill$Matches;", true),
  ("LetMill", "typer", "LLetMill$Typer;", true),
  ("LetMill", "reader", "LLetMill$Reader;", true),
  ("LetMill", "printer", "LLetMill$Printer;", true),
  ("LetMill", "input", "[B", true),
  ("LetMill", "size", "I", false),
  ("LetMill", "fault", "I", false),
  ("LetMill", "where", "I", false),
  ("LetMill", "ready", "LLetMill$Let;", false),
  ("LetMill", "readyNames", "LLetMill$Row;", true),
  ("LetMill", "readyTypes", "LLetMill$Row;", true),
  ("LetMill", "readyCons", "LLetMill$Row;", true),
  ("LetMill", "readyDepth", "I", false),
  ("LetMill", "warnedAt", "[I", false),
  ("LetMill", "warnedOf", "[I", false),
  ("LetMill", "warnings", "I", false),
  ("LetMill", "kept", "I", false),
  ("LetMill$Tokens", "words", "[Ljava/lang/String;", true),
  ("LetMill$Tokens", "text", "[B", true),
  ("LetMill$Tokens", "size", "I", false),
  ("LetMill$Tokens", "kind", "[I", true),
  ("LetMill$Tokens", "from", "[I", true),
  ("LetMill$Tokens", "value", "[J", true),
  ("LetMill$Tokens", "more", "[J", true),
  ("LetMill$Tokens", "many", "I", false),
  ("LetMill$Tokens", "at", "I", false),
  ("LetMill$Types", "name", "[I", true),
  ("LetMill$Types", "first", "[I", true),
  ("LetMill$Types", "same", "[I", true),
  ("LetMill$Types", "mark", "[I", true),
  ("LetMill$Types", "copy", "[I", true),
  ("LetMill$Types", "part", "[I", true),
  ("LetMill$Types", "many", "I", false),
  ("LetMill$Types", "parts", "I", false),
  ("LetMill$Types", "marks", "I", false),
  ("LetMill$Types", "pile", "[I", true),
  ("LetMill$Types", "names", "[LLetMill$TypeName;", true),
  ("LetMill$Types", "namesMany", "I", false),
  ("LetMill$Types", "whole", "I", true),
  ("LetMill$Types", "truth", "I", true),
  ("LetMill$Types", "unit", "I", true),
  ("LetMill$Types", "at", "I", false),
  ("LetMill$Types", "made", "[I", true),
  ("LetMill$Types", "wrote", "I", false),
  ("LetMill$Types", "written", "I", false),
  ("LetMill$TypeName", "name", "J", true),
  ("LetMill$TypeName", "more", "J", true),
  ("LetMill$TypeName", "arguments", "I", true),
  ("LetMill$TypeName", "id", "I", true),
  ("LetMill$TypeName", "first", "LLetMill$Con;", false),
  ("LetMill$TypeName", "cons", "I", false),
  ("LetMill$Machine", "heap", "[I", true),
  ("LetMill$Machine", "top", "I", false),
  ("LetMill$Machine", "exps", "LLetMill$Row;", true),
  ("LetMill$Machine", "codes", "LLetMill$Row;", true),
  ("LetMill$Machine", "cons", "LLetMill$Row;", true),
  ("LetMill$Machine", "frameExp", "[I", true),
  ("LetMill$Machine", "frameState", "[I", true),
  ("LetMill$Machine", "frameEnv", "[I", true),
  ("LetMill$Machine", "frames", "I", false),
  ("LetMill$Machine", "pile", "[I", true),
  ("LetMill$Machine", "piled", "I", false),
  ("LetMill$Machine", "given", "[I", true),
  ("LetMill$Machine", "todo", "LLetMill$Exp;", false),
  ("LetMill$Machine", "todoEnv", "I", false),
  ("LetMill$Machine", "value", "I", false),
  ("LetMill$Machine", "cost", "I", false),
  ("LetMill$Machine", "costAll", "I", false),
  ("LetMill$Machine", "most", "I", false),
  ("LetMill$Machine", "error", "I", false),
  ("LetMill$Machine", "isDone", "Z", false),
  ("LetMill$Machine", "end", "I", false),
  ("LetMill$Machine", "never", "I", false),
  ("LetMill$Row", "of", "[LLetMill$Spot;", false),
  ("LetMill$Row", "many", "I", false),
  ("LetMill$Spot", "part", "Ljava/lang/Object;", false),
  ("LetMill$Scope", "k", "LLetMill$Tokens;", true),
  ("LetMill$Scope", "types", "LLetMill$Types;", true),
  ("LetMill$Scope", "bound", "[LLetMill$Binding;", false),
  ("LetMill$Scope", "many", "I", false),
  ("LetMill$Scope", "depth", "I", false),
  ("LetMill$Scope", "names", "LLetMill$Row;", true),
  ("LetMill$Scope", "cons", "LLetMill$Row;", true),
  ("LetMill$Scope", "session", "LLetMill$Row;", true),
  ("LetMill$Scope", "built", "LLetMill$Row;", true),
  ("LetMill$Scope", "numbered", "LLetMill$Row;", true),
  ("LetMill$Scope", "numberedBefore", "I", false),
  ("LetMill$Scope", "fault", "I", false),
  ("LetMill$Scope", "place", "I", false),
  ("LetMill$Scope", "consBefore", "I", false),
  ("LetMill$Scope", "namesBefore", "I", false),
  ("LetMill$Scope", "isFull", "Z", false),
  ("LetMill$Matches", "head", "[I", true),
  ("LetMill$Matches", "all", "[I", true),
  ("LetMill$Matches", "first", "[I", true),
  ("LetMill$Matches", "many", "[I", true),
  ("LetMill$Matches", "part", "[I", true),
  ("LetMill$Matches", "nodes", "I", false),
  ("LetMill$Matches", "parts", "I", false),
  ("LetMill$Matches", "pile", "[I", false),
  ("LetMill$Matches", "warnedAt", "[I", true),
  ("LetMill$Matches", "warnedOf", "[I", true),
  ("LetMill$Matches", "warnings", "I", false),
  ("LetMill$Matches", "shape", "[I", true),
  ("LetMill$Typer", "types", "LLetMill$Types;", true),
  ("LetMill$Typer", "k", "LLetMill$Tokens;", true),
  ("LetMill$Typer", "matches", "LLetMill$Matches;", true),
  ("LetMill$Typer", "around", "[LLetMill$Binding;", false),
  ("LetMill$Typer", "many", "I", false),
  ("LetMill$Typer", "variables", "[I", true),
  ("LetMill$Reader", "k", "LLetMill$Tokens;", true),
  ("LetMill$Reader", "t", "I", false),
  ("LetMill$Reader", "depth", "I", false),
  ("LetMill$Reader", "decs", "I", false),
  ("LetMill$Reader", "pats", "I", false),
  ("LetMill$Printer", "out", "[B", true),
  ("LetMill$Printer", "size", "I", false),
  ("LetMill$Printer", "types", "LLetMill$Types;", true),
  ("LetMill$Printer", "m", "LLetMill$Machine;", true),
  ("LetMill$Printer", "written", "[I", false),
  ("LetMill$Printer", "at", "I", false),
  ("LetMill$Binding", "name", "J", true),
  ("LetMill$Binding", "more", "J", true),
  ("LetMill$Binding", "type", "I", false),
  ("LetMill$Binding", "isScheme", "Z", false),
  ("LetMill$Binding", "level", "I", false),
  ("LetMill$Binding", "written", "[I", false),
  ("LetMill$Binding", "value", "I", false),
  ("LetMillModel", "thrown", "I", false),
  ("LetMillModel", "input", "[B", true),
  ("LetMillModel", "out", "[B", true),
  ("LetMillModel", "inputEnd", "I", false),
  ("LetMillModel", "outEnd", "I", false),
  ("LetMillModel", "textBytes", "[B", true),
  ("LetMillModel", "textAt", "[I", true),
  ("LetMillModel", "texts", "I", false),
  ("LetMillModel", "kind", "[I", true),
  ("LetMillModel", "start", "[I", true),
  ("LetMillModel", "value", "[I", true),
  ("LetMillModel", "tokens", "I", false),
  ("LetMillModel", "at", "I", false),
  ("LetMillModel", "deep", "I", false),
  ("LetMillModel", "node", "[I", true),
  ("LetMillModel", "tok", "[I", true),
  ("LetMillModel", "na", "[I", true),
  ("LetMillModel", "nb", "[I", true),
  ("LetMillModel", "nc", "[I", true),
  ("LetMillModel", "next", "[I", true),
  ("LetMillModel", "nodes", "I", false),
  ("LetMillModel", "wrong", "Z", false),
  ("LetMillModel", "fault", "I", false),
  ("LetMillModel", "where", "I", false),
  ("LetMillModel", "decs", "I", false),
  ("LetMillModel", "patTokens", "I", false),
  ("LetMillModel", "vText", "[I", true),
  ("LetMillModel", "cText", "[I", true),
  ("LetMillModel", "cId", "[I", true),
  ("LetMillModel", "dText", "[I", true),
  ("LetMillModel", "dId", "[I", true),
  ("LetMillModel", "vs", "I", false),
  ("LetMillModel", "cs", "I", false),
  ("LetMillModel", "ds", "I", false),
  ("LetMillModel", "dataName", "[I", true),
  ("LetMillModel", "dataArity", "[I", true),
  ("LetMillModel", "dataFirst", "[I", true),
  ("LetMillModel", "dataMany", "[I", true),
  ("LetMillModel", "conName", "[I", true),
  ("LetMillModel", "conData", "[I", true),
  ("LetMillModel", "conTy", "[I", true),
  ("LetMillModel", "datas", "I", false),
  ("LetMillModel", "cons", "I", false),
  ("LetMillModel", "declared", "I", false),
  ("LetMillModel", "intText", "I", false),
  ("LetMillModel", "boolText", "I", false),
  ("LetMillModel", "unitText", "I", false),
  ("LetMillModel", "listText", "I", false),
  ("LetMillModel", "refText", "I", false),
  ("LetMillModel", "notText", "I", false),
  ("LetMillModel", "ignoreText", "I", false),
  ("LetMillModel", "fstText", "I", false),
  ("LetMillModel", "sndText", "I", false),
  ("LetMillModel", "noted", "Z", false),
  ("LetMillModel", "tk", "[I", true),
  ("LetMillModel", "ta", "[I", true),
  ("LetMillModel", "tb", "[I", true),
  ("LetMillModel", "stamp", "[I", true),
  ("LetMillModel", "types", "I", false),
  ("LetMillModel", "stamps", "I", false),
  ("LetMillModel", "kk", "[I", true),
  ("LetMillModel", "ka", "[I", true),
  ("LetMillModel", "kb", "[I", true),
  ("LetMillModel", "kept", "I", false),
  ("LetMillModel", "work", "[I", true),
  ("LetMillModel", "top", "I", false),
  ("LetMillModel", "eText", "[I", true),
  ("LetMillModel", "eType", "[I", true),
  ("LetMillModel", "eGeneral", "[Z", true),
  ("LetMillModel", "es", "I", false),
  ("LetMillModel", "fresh", "[I", true),
  ("LetMillModel", "arguments", "[I", true),
  ("LetMillModel", "matchIn", "I", false),
  ("LetMillModel", "matchOut", "I", false),
  ("LetMillModel", "general", "[I", true),
  ("LetMillModel", "generals", "I", false),
  ("LetMillModel", "clauseTypes", "[I", true),
  ("LetMillModel", "clauseTop", "I", false),
  ("LetMillModel", "counted", "I", false),
  ("LetMillModel", "vk", "[I", true),
  ("LetMillModel", "va", "[I", true),
  ("LetMillModel", "vb", "[I", true),
  ("LetMillModel", "values", "I", false),
  ("LetMillModel", "used", "[Z", true),
  ("LetMillModel", "isOpen", "Z", false),
  ("LetMillModel", "notWhat", "[I", true),
  ("LetMillModel", "notNext", "[I", true),
  ("LetMillModel", "nots", "I", false),
  ("LetMillModel", "warnPlace", "[I", true),
  ("LetMillModel", "warnSort", "[I", true),
  ("LetMillModel", "warnings", "I", false),
  ("LetMillModel", "readyWarnings", "I", false),
  ("LetMillModel", "readyPlace", "[I", true),
  ("LetMillModel", "readySort", "[I", true),
  ("LetMillModel", "up", "[I", true),
  ("LetMillModel", "slot", "[I", true),
  ("LetMillModel", "barren", "[Z", true),
  ("LetMillModel", "asked", "I", false),
  ("LetMillModel", "atEnd", "Z", false),
  ("LetMillModel", "target", "I", false),
  ("LetMillModel", "ready", "I", false),
  ("LetMillModel", "readyNames", "I", false),
  ("LetMillModel", "readyDatas", "I", false),
  ("LetMillModel", "readyCons", "I", false),
  ("LetMillModel", "readyDeclared", "I", false),
  ("LetMillModel", "readyTop", "I", false),
  ("LetMillModel", "rText", "[I", true),
  ("LetMillModel", "rType", "[I", true),
  ("LetMillModel", "session", "I", false),
  ("LetMillModel", "sessionDatas", "I", false),
  ("LetMillModel", "sessionCons", "I", false),
  ("LetMillModel", "sessionVs", "I", false),
  ("LetMillModel", "sText", "[I", true),
  ("LetMillModel", "sType", "[I", true),
  ("LetMillModel", "sValue", "[I", true),
  ("LetMillModel", "scText", "[I", true),
  ("LetMillModel", "scId", "[I", true),
  ("LetMillModel", "sdText", "[I", true),
  ("LetMillModel", "sdId", "[I", true),
  ("LetMillModel", "scMany", "I", false),
  ("LetMillModel", "sdMany", "I", false),
  ("LetMillModel", "allDeclared", "I", false),
  ("LetMillModel", "isReady", "Z", false),
  ("LetMillModel", "topCons", "I", false),
  ("LetMillModel", "topDatas", "I", false),
  ("LetMillModel", "baseCons", "I", false),
  ("LetMillModel", "baseDatas", "I", false),
  ("LetMillModel", "readyTopCons", "I", false),
  ("LetMillModel", "readyTopDatas", "I", false),
  ("LetMillModel", "rcText", "[I", true),
  ("LetMillModel", "rcId", "[I", true),
  ("LetMillModel", "rdText", "[I", true),
  ("LetMillModel", "rdId", "[I", true),
  ("LetMillModel", "hk", "[I", true),
  ("LetMillModel", "ha", "[I", true),
  ("LetMillModel", "hb", "[I", true),
  ("LetMillModel", "heap", "I", false),
  ("LetMillModel", "stack", "[I", true),
  ("LetMillModel", "vals", "[I", true),
  ("LetMillModel", "sp", "I", false),
  ("LetMillModel", "vp", "I", false),
  ("LetMillModel", "cost", "I", false),
  ("LetMillModel", "limit", "I", false),
  ("LetMillModel", "allCost", "I", false),
  ("LetMillModel", "error", "I", false),
  ("LetMillModel", "sessionEnv", "I", false),
  ("LetMillModel", "envNow", "I", false),
  ("LetMillModel", "exp", "I", false),
  ("LetMillModel", "env", "I", false),
  ("LetMillModel", "result", "I", false),
  ("LetMillModel", "returns", "Z", false),
  ("LetMillModel", "done", "Z", false),
  ("LetMillModel", "letters", "[I", true),
  ("LetMillModel", "lettered", "I", false),
  ("LetMillModel", "bText", "[I", true),
  ("LetMillModel", "bType", "[I", true),
  ("LetMillModel", "bId", "[I", true),
  ("LetMillModel", "builtIns", "I", false),
  ("java/lang/Throwable", "cause", "Ljava/lang/Throwable;", false),
  ("java/lang/Throwable", "stackTrace", "[Ljava/lang/StackTraceElement;", false),
  ("java/lang/Throwable", "suppressedExceptions", "Ljava/util/List;", false),
  ("java/lang/Throwable", "detailMessage", "Ljava/lang/String;", false),
  ("java/lang/Throwable", "backtrace", "Ljava/lang/Object;", false),
  ("java/lang/Throwable", "depth", "I", false),
  ("LetMill$Exp", "token", "I", true),
  ("LetMill$Exp", "id", "I", false),
  ("LetMill$Let", "decs", "LLetMill$Row;", true),
  ("LetMill$Let", "body", "LLetMill$Exp;", true),
  ("LetMill$Fault", "number", "I", true),
  ("LetMill$Fault", "place", "I", true),
  ("LetMill$Pat", "token", "I", true),
  ("LetMill$ConPat", "has", "LLetMill$Pat;", true),
  ("LetMill$ConPat", "con", "LLetMill$Con;", false),
  ("LetMill$NamePat", "b", "LLetMill$Binding;", false),
  ("LetMill$NumberPat", "value", "I", true),
  ("LetMill$NumberPat", "isTruth", "Z", true),
  ("LetMill$ListPat", "of", "[LLetMill$Pat;", true),
  ("LetMill$GroupPat", "p", "LLetMill$Pat;", true),
  ("LetMill$TuplePat", "of", "[LLetMill$Pat;", true),
  ("LetMill$PairPat", "head", "LLetMill$Pat;", true),
  ("LetMill$PairPat", "tail", "LLetMill$Pat;", true),
  ("LetMill$Dec", "token", "I", true),
  ("LetMill$Val", "pat", "LLetMill$Pat;", true),
  ("LetMill$Val", "e", "LLetMill$Exp;", true),
  ("LetMill$Clause", "token", "I", true),
  ("LetMill$Clause", "pats", "[LLetMill$Pat;", true),
  ("LetMill$Clause", "body", "LLetMill$Exp;", true),
  ("LetMill$Fn", "clauses", "LLetMill$Row;", true),
  ("LetMill$Fn", "code", "I", false),
  ("LetMill$Case", "of", "LLetMill$Exp;", true),
  ("LetMill$Case", "clauses", "LLetMill$Row;", true),
  ("LetMill$If", "c", "LLetMill$Exp;", true),
  ("LetMill$If", "yes", "LLetMill$Exp;", true),
  ("LetMill$If", "no", "LLetMill$Exp;", true),
  ("LetMill$Use", "b", "LLetMill$Binding;", false),
  ("LetMill$Use", "up", "I", false),
  ("LetMill$UseCon", "con", "LLetMill$Con;", false),
  ("LetMill$Constant", "sort", "I", true),
  ("LetMill$Constant", "value", "I", true),
  ("LetMill$Built", "which", "I", true),
  ("LetMill$Group", "e", "LLetMill$Exp;", true),
  ("LetMill$Parts", "of", "[LLetMill$Exp;", true),
  ("LetMill$Apply", "f", "LLetMill$Exp;", true),
  ("LetMill$Apply", "xs", "[LLetMill$Exp;", true),
  ("LetMill$Sign", "sign", "I", true),
  ("LetMill$Sign", "left", "LLetMill$Exp;", true),
  ("LetMill$Sign", "right", "LLetMill$Exp;", true),
  ("LetMill$Signs", "of", "[I", false),
  ("LetMill$Signs", "many", "I", false),
  ("LetMill$Chain", "first", "LLetMill$Exp;", true),
  ("LetMill$Chain", "signs", "LLetMill$Signs;", true),
  ("LetMill$Chain", "rights", "[LLetMill$Exp;", true),
  ("LetMill$Fun", "token", "I", true),
  ("LetMill$Fun", "clauses", "LLetMill$Row;", true),
  ("LetMill$Fun", "binding", "LLetMill$Binding;", false),
  ("LetMill$Fun", "code", "I", false),
  ("LetMill$Funs", "funs", "LLetMill$Row;", true),
  ("LetMill$Data", "token", "I", true),
  ("LetMill$Data", "variables", "[I", true),
  ("LetMill$Data", "many", "I", false),
  ("LetMill$Data", "cons", "LLetMill$Row;", true),
  ("LetMill$Data", "name", "LLetMill$TypeName;", false),
  ("LetMill$Ty", "token", "I", true),
  ("LetMill$TyName", "of", "LLetMill$Row;", true),
  ("LetMill$TyName", "name", "LLetMill$TypeName;", false),
  ("LetMill$TyVariable", "number", "I", false),
  ("LetMill$TyProduct", "of", "LLetMill$Row;", true),
  ("LetMill$TyFun", "from", "LLetMill$Ty;", true),
  ("LetMill$TyFun", "to", "LLetMill$Ty;", true),
  ("LetMill$ConDec", "token", "I", true),
  ("LetMill$ConDec", "has", "LLetMill$Ty;", true),
  ("LetMill$ConDec", "con", "LLetMill$Con;", false),
  ("LetMill$Datas", "datas", "LLetMill$Row;", true),
  ("LetMill$Datas", "isTooMuch", "Z", false),
  ("LetMill$Con", "name", "J", true),
  ("LetMill$Con", "more", "J", true),
  ("LetMill$Con", "type", "LLetMill$TypeName;", true),
  ("LetMill$Con", "number", "I", true),
  ("LetMill$Con", "id", "I", false),
  ("LetMill$Con", "isWith", "Z", false),
  ("LetMill$Con", "has", "[I", false),
  ("LetMill$Con", "gives", "[I", false),
  ("LetMill$Con", "next", "LLetMill$Con;", false)]
def gtab (g : Nat) : String × String × String × Bool := gtabL.getD g ("", "", "", false)
def ctab (c : Nat) : u_T := fun k => gtab ((ftab c).getD k (0, 0)).1
def cl : List vw_C := (List.range 56).map (fun c => (cname c, ctab c, (ftab c).length))
theorem cl_at {c : Nat} (h : c < 56) : cl[c]? = some (cname c, ctab c, (ftab c).length) := by
  simp [cl, h]
def tyL : List FieldType := [.int, .byte, .boolean, .long, .object "LetMill$Spot", .object "java/lang/String", .object "LetMill$TypeName", .object "LetMill$Binding", .object "LetMill$Pat", .object "LetMill$Exp"]
theorem clw_0 : ∀ w ∈ u_ws (cname 0) (ctab 0) (ftab 0).length, w ∈ lw_all := by
  show ∀ w ∈ [u_lay (cname 0) (ctab 0) 0, u_lay (cname 0) (ctab 0) 1, u_lay (cname 0) (ctab 0) 2, u_lay (cname 0) (ctab 0) 3, u_lay (cname 0) (ctab 0) 4, u_lay (cname 0) (ctab 0) 5, u_lay (cname 0) (ctab 0) 6, u_lay (cname 0) (ctab 0) 7, u_lay (cname 0) (ctab 0) 8, u_lay (cname 0) (ctab 0) 9, u_lay (cname 0) (ctab 0) 10, u_lay (cname 0) (ctab 0) 11, u_lay (cname 0) (ctab 0) 12, u_lay (cname 0) (ctab 0) 13, u_lay (cname 0) (ctab 0) 14, u_lay (cname 0) (ctab 0) 15, u_lay (cname 0) (ctab 0) 16, u_lay (cname 0) (ctab 0) 17, u_lay (cname 0) (ctab 0) 18, u_lay (cname 0) (ctab 0) 19, u_lay (cname 0) (ctab 0) 20], w ∈ lw_all
  intro w hw
  simp only [List.mem_cons, List.not_mem_nil, or_false] at hw
  rcases hw with rfl | rfl | rfl | rfl | rfl | rfl | rfl | rfl | rfl | rfl | rfl | rfl | rfl | rfl | rfl | rfl | rfl | rfl | rfl | rfl | rfl
  · exact q979
  · exact q981
  · exact q983
  · exact q985
  · exact q987
  · exact q989
  · exact q991
  · exact q993
  · exact q995
  · exact q997
  · exact q999
  · exact q1001
  · exact q1003
  · exact q1005
  · exact q1007
  · exact q1009
  · exact q1011
  · exact q1013
  · exact q1015
  · exact q1017
  · exact q1019
theorem clw_1 : ∀ w ∈ u_ws (cname 1) (ctab 1) (ftab 1).length, w ∈ lw_all := by
  show ∀ w ∈ [u_lay (cname 1) (ctab 1) 0, u_lay (cname 1) (ctab 1) 1, u_lay (cname 1) (ctab 1) 2, u_lay (cname 1) (ctab 1) 3, u_lay (cname 1) (ctab 1) 4, u_lay (cname 1) (ctab 1) 5, u_lay (cname 1) (ctab 1) 6, u_lay (cname 1) (ctab 1) 7, u_lay (cname 1) (ctab 1) 8], w ∈ lw_all
  intro w hw
  simp only [List.mem_cons, List.not_mem_nil, or_false] at hw
  rcases hw with rfl | rfl | rfl | rfl | rfl | rfl | rfl | rfl | rfl
  · exact q340
  · exact q342
  · exact q344
  · exact q346
  · exact q348
  · exact q350
  · exact q352
  · exact q354
  · exact q356
theorem clw_2 : ∀ w ∈ u_ws (cname 2) (ctab 2) (ftab 2).length, w ∈ lw_all := by
  show ∀ w ∈ [u_lay (cname 2) (ctab 2) 0, u_lay (cname 2) (ctab 2) 1, u_lay (cname 2) (ctab 2) 2, u_lay (cname 2) (ctab 2) 3, u_lay (cname 2) (ctab 2) 4, u_lay (cname 2) (ctab 2) 5, u_lay (cname 2) (ctab 2) 6, u_lay (cname 2) (ctab 2) 7, u_lay (cname 2) (ctab 2) 8, u_lay (cname 2) (ctab 2) 9, u_lay (cname 2) (ctab 2) 10, u_lay (cname 2) (ctab 2) 11, u_lay (cname 2) (ctab 2) 12, u_lay (cname 2) (ctab 2) 13, u_lay (cname 2) (ctab 2) 14, u_lay (cname 2) (ctab 2) 15, u_lay (cname 2) (ctab 2) 16, u_lay (cname 2) (ctab 2) 17, u_lay (cname 2) (ctab 2) 18], w ∈ lw_all
  intro w hw
  simp only [List.mem_cons, List.not_mem_nil, or_false] at hw
  rcases hw with rfl | rfl | rfl | rfl | rfl | rfl | rfl | rfl | rfl | rfl | rfl | rfl | rfl | rfl | rfl | rfl | rfl | rfl | rfl
  · exact q511
  · exact q513
  · exact q515
  · exact q517
  · exact q519
  · exact q521
  · exact q523
  · exact q525
  · exact q527
  · exact q529
  · exact q531
  · exact q533
  · exact q535
  · exact q537
  · exact q539
  · exact q541
  · exact q543
  · exact q545
  · exact q547
theorem clw_3 : ∀ w ∈ u_ws (cname 3) (ctab 3) (ftab 3).length, w ∈ lw_all := by
  show ∀ w ∈ [u_lay (cname 3) (ctab 3) 0, u_lay (cname 3) (ctab 3) 1, u_lay (cname 3) (ctab 3) 2, u_lay (cname 3) (ctab 3) 3, u_lay (cname 3) (ctab 3) 4, u_lay (cname 3) (ctab 3) 5], w ∈ lw_all
  intro w hw
  simp only [List.mem_cons, List.not_mem_nil, or_false] at hw
  rcases hw with rfl | rfl | rfl | rfl | rfl | rfl
  · exact q453
  · exact q455
  · exact q457
  · exact q459
  · exact q461
  · exact q463
theorem clw_4 : ∀ w ∈ u_ws (cname 4) (ctab 4) (ftab 4).length, w ∈ lw_all := by
  show ∀ w ∈ [u_lay (cname 4) (ctab 4) 0, u_lay (cname 4) (ctab 4) 1, u_lay (cname 4) (ctab 4) 2, u_lay (cname 4) (ctab 4) 3, u_lay (cname 4) (ctab 4) 4, u_lay (cname 4) (ctab 4) 5, u_lay (cname 4) (ctab 4) 6, u_lay (cname 4) (ctab 4) 7, u_lay (cname 4) (ctab 4) 8, u_lay (cname 4) (ctab 4) 9, u_lay (cname 4) (ctab 4) 10, u_lay (cname 4) (ctab 4) 11, u_lay (cname 4) (ctab 4) 12, u_lay (cname 4) (ctab 4) 13, u_lay (cname 4) (ctab 4) 14, u_lay (cname 4) (ctab 4) 15, u_lay (cname 4) (ctab 4) 16, u_lay (cname 4) (ctab 4) 17, u_lay (cname 4) (ctab 4) 18, u_lay (cname 4) (ctab 4) 19, u_lay (cname 4) (ctab 4) 20, u_lay (cname 4) (ctab 4) 21], w ∈ lw_all
  intro w hw
  simp only [List.mem_cons, List.not_mem_nil, or_false] at hw
  rcases hw with rfl | rfl | rfl | rfl | rfl | rfl | rfl | rfl | rfl | rfl | rfl | rfl | rfl | rfl | rfl | rfl | rfl | rfl | rfl | rfl | rfl | rfl
  · exact q629
  · exact q631
  · exact q633
  · exact q635
  · exact q637
  · exact q639
  · exact q641
  · exact q643
  · exact q645
  · exact q647
  · exact q649
  · exact q651
  · exact q653
  · exact q655
  · exact q657
  · exact q659
  · exact q661
  · exact q663
  · exact q665
  · exact q667
  · exact q669
  · exact q671
theorem clw_5 : ∀ w ∈ u_ws (cname 5) (ctab 5) (ftab 5).length, w ∈ lw_all := by
  show ∀ w ∈ [u_lay (cname 5) (ctab 5) 0, u_lay (cname 5) (ctab 5) 1], w ∈ lw_all
  intro w hw
  simp only [List.mem_cons, List.not_mem_nil, or_false] at hw
  rcases hw with rfl | rfl
  · exact q580
  · exact q582
theorem clw_6 : ∀ w ∈ u_ws (cname 6) (ctab 6) (ftab 6).length, w ∈ lw_all := by
  show ∀ w ∈ [u_lay (cname 6) (ctab 6) 0], w ∈ lw_all
  intro w hw
  simp only [List.mem_cons, List.not_mem_nil, or_false] at hw
  rcases hw with rfl
  exact q600
theorem clw_7 : ∀ w ∈ u_ws (cname 7) (ctab 7) (ftab 7).length, w ∈ lw_all := by
  show ∀ w ∈ [u_lay (cname 7) (ctab 7) 0, u_lay (cname 7) (ctab 7) 1, u_lay (cname 7) (ctab 7) 2, u_lay (cname 7) (ctab 7) 3, u_lay (cname 7) (ctab 7) 4, u_lay (cname 7) (ctab 7) 5, u_lay (cname 7) (ctab 7) 6, u_lay (cname 7) (ctab 7) 7, u_lay (cname 7) (ctab 7) 8, u_lay (cname 7) (ctab 7) 9, u_lay (cname 7) (ctab 7) 10, u_lay (cname 7) (ctab 7) 11, u_lay (cname 7) (ctab 7) 12, u_lay (cname 7) (ctab 7) 13, u_lay (cname 7) (ctab 7) 14, u_lay (cname 7) (ctab 7) 15], w ∈ lw_all
  intro w hw
  simp only [List.mem_cons, List.not_mem_nil, or_false] at hw
  rcases hw with rfl | rfl | rfl | rfl | rfl | rfl | rfl | rfl | rfl | rfl | rfl | rfl | rfl | rfl | rfl | rfl
  · exact q711
  · exact q713
  · exact q715
  · exact q717
  · exact q719
  · exact q721
  · exact q723
  · exact q725
  · exact q727
  · exact q729
  · exact q731
  · exact q733
  · exact q735
  · exact q737
  · exact q739
  · exact q741
theorem clw_8 : ∀ w ∈ u_ws (cname 8) (ctab 8) (ftab 8).length, w ∈ lw_all := by
  show ∀ w ∈ [u_lay (cname 8) (ctab 8) 0, u_lay (cname 8) (ctab 8) 1, u_lay (cname 8) (ctab 8) 2, u_lay (cname 8) (ctab 8) 3, u_lay (cname 8) (ctab 8) 4, u_lay (cname 8) (ctab 8) 5, u_lay (cname 8) (ctab 8) 6, u_lay (cname 8) (ctab 8) 7, u_lay (cname 8) (ctab 8) 8, u_lay (cname 8) (ctab 8) 9, u_lay (cname 8) (ctab 8) 10, u_lay (cname 8) (ctab 8) 11], w ∈ lw_all
  intro w hw
  simp only [List.mem_cons, List.not_mem_nil, or_false] at hw
  rcases hw with rfl | rfl | rfl | rfl | rfl | rfl | rfl | rfl | rfl | rfl | rfl | rfl
  · exact q764
  · exact q766
  · exact q768
  · exact q770
  · exact q772
  · exact q774
  · exact q776
  · exact q778
  · exact q780
  · exact q782
  · exact q784
  · exact q786
theorem clw_9 : ∀ w ∈ u_ws (cname 9) (ctab 9) (ftab 9).length, w ∈ lw_all := by
  show ∀ w ∈ [u_lay (cname 9) (ctab 9) 0, u_lay (cname 9) (ctab 9) 1, u_lay (cname 9) (ctab 9) 2, u_lay (cname 9) (ctab 9) 3, u_lay (cname 9) (ctab 9) 4, u_lay (cname 9) (ctab 9) 5], w ∈ lw_all
  intro w hw
  simp only [List.mem_cons, List.not_mem_nil, or_false] at hw
  rcases hw with rfl | rfl | rfl | rfl | rfl | rfl
  · exact q839
  · exact q841
  · exact q843
  · exact q845
  · exact q847
  · exact q849
theorem clw_10 : ∀ w ∈ u_ws (cname 10) (ctab 10) (ftab 10).length, w ∈ lw_all := by
  show ∀ w ∈ [u_lay (cname 10) (ctab 10) 0, u_lay (cname 10) (ctab 10) 1, u_lay (cname 10) (ctab 10) 2, u_lay (cname 10) (ctab 10) 3, u_lay (cname 10) (ctab 10) 4], w ∈ lw_all
  intro w hw
  simp only [List.mem_cons, List.not_mem_nil, or_false] at hw
  rcases hw with rfl | rfl | rfl | rfl | rfl
  · exact q863
  · exact q865
  · exact q867
  · exact q869
  · exact q871
theorem clw_11 : ∀ w ∈ u_ws (cname 11) (ctab 11) (ftab 11).length, w ∈ lw_all := by
  show ∀ w ∈ [u_lay (cname 11) (ctab 11) 0, u_lay (cname 11) (ctab 11) 1, u_lay (cname 11) (ctab 11) 2, u_lay (cname 11) (ctab 11) 3, u_lay (cname 11) (ctab 11) 4, u_lay (cname 11) (ctab 11) 5], w ∈ lw_all
  intro w hw
  simp only [List.mem_cons, List.not_mem_nil, or_false] at hw
  rcases hw with rfl | rfl | rfl | rfl | rfl | rfl
  · exact q887
  · exact q889
  · exact q891
  · exact q893
  · exact q895
  · exact q897
theorem clw_12 : ∀ w ∈ u_ws (cname 12) (ctab 12) (ftab 12).length, w ∈ lw_all := by
  show ∀ w ∈ [u_lay (cname 12) (ctab 12) 0, u_lay (cname 12) (ctab 12) 1, u_lay (cname 12) (ctab 12) 2, u_lay (cname 12) (ctab 12) 3, u_lay (cname 12) (ctab 12) 4, u_lay (cname 12) (ctab 12) 5, u_lay (cname 12) (ctab 12) 6], w ∈ lw_all
  intro w hw
  simp only [List.mem_cons, List.not_mem_nil, or_false] at hw
  rcases hw with rfl | rfl | rfl | rfl | rfl | rfl | rfl
  · exact q938
  · exact q940
  · exact q942
  · exact q944
  · exact q946
  · exact q948
  · exact q950
theorem clw_13 : ∀ w ∈ u_ws (cname 13) (ctab 13) (ftab 13).length, w ∈ lw_all := by
  show ∀ w ∈ [u_lay (cname 13) (ctab 13) 0, u_lay (cname 13) (ctab 13) 1, u_lay (cname 13) (ctab 13) 2, u_lay (cname 13) (ctab 13) 3, u_lay (cname 13) (ctab 13) 4, u_lay (cname 13) (ctab 13) 5, u_lay (cname 13) (ctab 13) 6, u_lay (cname 13) (ctab 13) 7, u_lay (cname 13) (ctab 13) 8, u_lay (cname 13) (ctab 13) 9, u_lay (cname 13) (ctab 13) 10, u_lay (cname 13) (ctab 13) 11, u_lay (cname 13) (ctab 13) 12, u_lay (cname 13) (ctab 13) 13, u_lay (cname 13) (ctab 13) 14, u_lay (cname 13) (ctab 13) 15, u_lay (cname 13) (ctab 13) 16, u_lay (cname 13) (ctab 13) 17, u_lay (cname 13) (ctab 13) 18, u_lay (cname 13) (ctab 13) 19, u_lay (cname 13) (ctab 13) 20, u_lay (cname 13) (ctab 13) 21, u_lay (cname 13) (ctab 13) 22, u_lay (cname 13) (ctab 13) 23, u_lay (cname 13) (ctab 13) 24, u_lay (cname 13) (ctab 13) 25, u_lay (cname 13) (ctab 13) 26, u_lay (cname 13) (ctab 13) 27, u_lay (cname 13) (ctab 13) 28, u_lay (cname 13) (ctab 13) 29, u_lay (cname 13) (ctab 13) 30, u_lay (cname 13) (ctab 13) 31, u_lay (cname 13) (ctab 13) 32, u_lay (cname 13) (ctab 13) 33, u_lay (cname 13) (ctab 13) 34, u_lay (cname 13) (ctab 13) 35, u_lay (cname 13) (ctab 13) 36, u_lay (cname 13) (ctab 13) 37, u_lay (cname 13) (ctab 13) 38, u_lay (cname 13) (ctab 13) 39, u_lay (cname 13) (ctab 13) 40, u_lay (cname 13) (ctab 13) 41, u_lay (cname 13) (ctab 13) 42, u_lay (cname 13) (ctab 13) 43, u_lay (cname 13) (ctab 13) 44, u_lay (cname 13) (ctab 13) 45, u_lay (cname 13) (ctab 13) 46, u_lay (cname 13) (ctab 13) 47, u_lay (cname 13) (ctab 13) 48, u_lay (cname 13) (ctab 13) 49, u_lay (cname 13) (ctab 13) 50, u_lay (cname 13) (ctab 13) 51, u_lay (cname 13) (ctab 13) 52, u_lay (cname 13) (ctab 13) 53, u_lay (cname 13) (ctab 13) 54, u_lay (cname 13) (ctab 13) 55, u_lay (cname 13) (ctab 13) 56, u_lay (cname 13) (ctab 13) 57, u_lay (cname 13) (ctab 13) 58, u_lay (cname 13) (ctab 13) 59, u_lay (cname 13) (ctab 13) 60, u_lay (cname 13) (ctab 13) 61, u_lay (cname 13) (ctab 13) 62, u_lay (cname 13) (ctab 13) 63, u_lay (cname 13) (ctab 13) 64, u_lay (cname 13) (ctab 13) 65, u_lay (cname 13) (ctab 13) 66, u_lay (cname 13) (ctab 13) 67, u_lay (cname 13) (ctab 13) 68, u_lay (cname 13) (ctab 13) 69, u_lay (cname 13) (ctab 13) 70, u_lay (cname 13) (ctab 13) 71, u_lay (cname 13) (ctab 13) 72, u_lay (cname 13) (ctab 13) 73, u_lay (cname 13) (ctab 13) 74, u_lay (cname 13) (ctab 13) 75, u_lay (cname 13) (ctab 13) 76, u_lay (cname 13) (ctab 13) 77, u_lay (cname 13) (ctab 13) 78, u_lay (cname 13) (ctab 13) 79, u_lay (cname 13) (ctab 13) 80, u_lay (cname 13) (ctab 13) 81, u_lay (cname 13) (ctab 13) 82, u_lay (cname 13) (ctab 13) 83, u_lay (cname 13) (ctab 13) 84, u_lay (cname 13) (ctab 13) 85, u_lay (cname 13) (ctab 13) 86, u_lay (cname 13) (ctab 13) 87, u_lay (cname 13) (ctab 13) 88, u_lay (cname 13) (ctab 13) 89, u_lay (cname 13) (ctab 13) 90, u_lay (cname 13) (ctab 13) 91, u_lay (cname 13) (ctab 13) 92, u_lay (cname 13) (ctab 13) 93, u_lay (cname 13) (ctab 13) 94, u_lay (cname 13) (ctab 13) 95, u_lay (cname 13) (ctab 13) 96, u_lay (cname 13) (ctab 13) 97, u_lay (cname 13) (ctab 13) 98, u_lay (cname 13) (ctab 13) 99, u_lay (cname 13) (ctab 13) 100, u_lay (cname 13) (ctab 13) 101, u_lay (cname 13) (ctab 13) 102, u_lay (cname 13) (ctab 13) 103, u_lay (cname 13) (ctab 13) 104, u_lay (cname 13) (ctab 13) 105, u_lay (cname 13) (ctab 13) 106, u_lay (cname 13) (ctab 13) 107, u_lay (cname 13) (ctab 13) 108, u_lay (cname 13) (ctab 13) 109, u_lay (cname 13) (ctab 13) 110, u_lay (cname 13) (ctab 13) 111, u_lay (cname 13) (ctab 13) 112, u_lay (cname 13) (ctab 13) 113, u_lay (cname 13) (ctab 13) 114, u_lay (cname 13) (ctab 13) 115, u_lay (cname 13) (ctab 13) 116, u_lay (cname 13) (ctab 13) 117, u_lay (cname 13) (ctab 13) 118, u_lay (cname 13) (ctab 13) 119, u_lay (cname 13) (ctab 13) 120, u_lay (cname 13) (ctab 13) 121, u_lay (cname 13) (ctab 13) 122, u_lay (cname 13) (ctab 13) 123, u_lay (cname 13) (ctab 13) 124, u_lay (cname 13) (ctab 13) 125, u_lay (cname 13) (ctab 13) 126, u_lay (cname 13) (ctab 13) 127, u_lay (cname 13) (ctab 13) 128, u_lay (cname 13) (ctab 13) 129, u_lay (cname 13) (ctab 13) 130, u_lay (cname 13) (ctab 13) 131, u_lay (cname 13) (ctab 13) 132, u_lay (cname 13) (ctab 13) 133, u_lay (cname 13) (ctab 13) 134, u_lay (cname 13) (ctab 13) 135, u_lay (cname 13) (ctab 13) 136, u_lay (cname 13) (ctab 13) 137, u_lay (cname 13) (ctab 13) 138, u_lay (cname 13) (ctab 13) 139, u_lay (cname 13) (ctab 13) 140, u_lay (cname 13) (ctab 13) 141, u_lay (cname 13) (ctab 13) 142, u_lay (cname 13) (ctab 13) 143, u_lay (cname 13) (ctab 13) 144, u_lay (cname 13) (ctab 13) 145, u_lay (cname 13) (ctab 13) 146, u_lay (cname 13) (ctab 13) 147, u_lay (cname 13) (ctab 13) 148, u_lay (cname 13) (ctab 13) 149, u_lay (cname 13) (ctab 13) 150, u_lay (cname 13) (ctab 13) 151, u_lay (cname 13) (ctab 13) 152, u_lay (cname 13) (ctab 13) 153, u_lay (cname 13) (ctab 13) 154, u_lay (cname 13) (ctab 13) 155, u_lay (cname 13) (ctab 13) 156, u_lay (cname 13) (ctab 13) 157], w ∈ lw_all
  intro w hw
  simp only [List.mem_cons, List.not_mem_nil, or_false] at hw
  rcases hw with rfl | rfl | rfl | rfl | rfl | rfl | rfl | rfl | rfl | rfl | rfl | rfl | rfl | rfl | rfl | rfl | rfl | rfl | rfl | rfl | rfl | rfl | rfl | rfl | rfl | rfl | rfl | rfl | rfl | rfl | rfl | rfl | rfl | rfl | rfl | rfl | rfl | rfl | rfl | rfl | rfl | rfl | rfl | rfl | rfl | rfl | rfl | rfl | rfl | rfl | rfl | rfl | rfl | rfl | rfl | rfl | rfl | rfl | rfl | rfl | rfl | rfl | rfl | rfl | rfl | rfl | rfl | rfl | rfl | rfl | rfl | rfl | rfl | rfl | rfl | rfl | rfl | rfl | rfl | rfl | rfl | rfl | rfl | rfl | rfl | rfl | rfl | rfl | rfl | rfl | rfl | rfl | rfl | rfl | rfl | rfl | rfl | rfl | rfl | rfl | rfl | rfl | rfl | rfl | rfl | rfl | rfl | rfl | rfl | rfl | rfl | rfl | rfl | rfl | rfl | rfl | rfl | rfl | rfl | rfl | rfl | rfl | rfl | rfl | rfl | rfl | rfl | rfl | rfl | rfl | rfl | rfl | rfl | rfl | rfl | rfl | rfl | rfl | rfl | rfl | rfl | rfl | rfl | rfl | rfl | rfl | rfl | rfl | rfl | rfl | rfl | rfl | rfl | rfl | rfl | rfl | rfl | rfl
  · exact q4214
  · exact q4216
  · exact q4218
  · exact q4220
  · exact q4222
  · exact q4224
  · exact q4226
  · exact q4228
  · exact q4230
  · exact q4232
  · exact q4234
  · exact q4236
  · exact q4238
  · exact q4240
  · exact q4242
  · exact q4244
  · exact q4246
  · exact q4248
  · exact q4250
  · exact q4252
  · exact q4254
  · exact q4256
  · exact q4258
  · exact q4260
  · exact q4262
  · exact q4264
  · exact q4266
  · exact q4268
  · exact q4270
  · exact q4272
  · exact q4274
  · exact q4276
  · exact q4278
  · exact q4280
  · exact q4282
  · exact q4284
  · exact q4286
  · exact q4288
  · exact q4290
  · exact q4292
  · exact q4294
  · exact q4296
  · exact q4298
  · exact q4300
  · exact q4302
  · exact q4304
  · exact q4306
  · exact q4308
  · exact q4310
  · exact q4312
  · exact q4314
  · exact q4316
  · exact q4318
  · exact q4320
  · exact q4322
  · exact q4324
  · exact q4326
  · exact q4328
  · exact q4330
  · exact q4332
  · exact q4334
  · exact q4336
  · exact q4338
  · exact q4340
  · exact q4342
  · exact q4344
  · exact q4346
  · exact q4348
  · exact q4350
  · exact q4352
  · exact q4354
  · exact q4356
  · exact q4358
  · exact q4360
  · exact q4362
  · exact q4364
  · exact q4366
  · exact q4368
  · exact q4370
  · exact q4372
  · exact q4374
  · exact q4376
  · exact q4378
  · exact q4380
  · exact q4382
  · exact q4384
  · exact q4386
  · exact q4388
  · exact q4390
  · exact q4392
  · exact q4394
  · exact q4396
  · exact q4398
  · exact q4400
  · exact q4402
  · exact q4404
  · exact q4406
  · exact q4408
  · exact q4410
  · exact q4412
  · exact q4414
  · exact q4416
  · exact q4418
  · exact q4420
  · exact q4422
  · exact q4424
  · exact q4426
  · exact q4428
  · exact q4430
  · exact q4432
  · exact q4434
  · exact q4436
  · exact q4438
  · exact q4440
  · exact q4442
  · exact q4444
  · exact q4446
  · exact q4448
  · exact q4450
  · exact q4452
  · exact q4454
  · exact q4456
  · exact q4458
  · exact q4460
  · exact q4462
  · exact q4464
  · exact q4466
  · exact q4468
  · exact q4470
  · exact q4472
  · exact q4474
  · exact q4476
  · exact q4478
  · exact q4480
  · exact q4482
  · exact q4484
  · exact q4486
  · exact q4488
  · exact q4490
  · exact q4492
  · exact q4494
  · exact q4496
  · exact q4498
  · exact q4500
  · exact q4502
  · exact q4504
  · exact q4506
  · exact q4508
  · exact q4510
  · exact q4512
  · exact q4514
  · exact q4516
  · exact q4518
  · exact q4520
  · exact q4522
  · exact q4524
  · exact q4526
  · exact q4528
theorem clw_14 : ∀ w ∈ u_ws (cname 14) (ctab 14) (ftab 14).length, w ∈ lw_all := by
  show ∀ w ∈ [u_lay (cname 14) (ctab 14) 0, u_lay (cname 14) (ctab 14) 1, u_lay (cname 14) (ctab 14) 2, u_lay (cname 14) (ctab 14) 3, u_lay (cname 14) (ctab 14) 4, u_lay (cname 14) (ctab 14) 5], w ∈ lw_all
  intro w hw
  simp only [List.mem_cons, List.not_mem_nil, or_false] at hw
  rcases hw with rfl | rfl | rfl | rfl | rfl | rfl
  · exact q1058
  · exact q1060
  · exact q1062
  · exact q1064
  · exact q1066
  · exact q1108
theorem clw_15 : ∀ w ∈ u_ws (cname 15) (ctab 15) (ftab 15).length, w ∈ lw_all := by
  show ∀ w ∈ [u_lay (cname 15) (ctab 15) 0, u_lay (cname 15) (ctab 15) 1, u_lay (cname 15) (ctab 15) 2, u_lay (cname 15) (ctab 15) 3, u_lay (cname 15) (ctab 15) 4, u_lay (cname 15) (ctab 15) 5], w ∈ lw_all
  intro w hw
  simp only [List.mem_cons, List.not_mem_nil, or_false] at hw
  rcases hw with rfl | rfl | rfl | rfl | rfl | rfl
  · exact q1131
  · exact q1132
  · exact q1133
  · exact q1134
  · exact q1135
  · exact q1140
theorem clw_16 : ∀ w ∈ u_ws (cname 16) (ctab 16) (ftab 16).length, w ∈ lw_all := by
  show ∀ w ∈ [u_lay (cname 16) (ctab 16) 0, u_lay (cname 16) (ctab 16) 1, u_lay (cname 16) (ctab 16) 2, u_lay (cname 16) (ctab 16) 3], w ∈ lw_all
  intro w hw
  simp only [List.mem_cons, List.not_mem_nil, or_false] at hw
  rcases hw with rfl | rfl | rfl | rfl
  · exact q1738
  · exact q1739
  · exact q1734
  · exact q1736
theorem clw_17 : ∀ w ∈ u_ws (cname 17) (ctab 17) (ftab 17).length, w ∈ lw_all := by
  show ∀ w ∈ [u_lay (cname 17) (ctab 17) 0, u_lay (cname 17) (ctab 17) 1, u_lay (cname 17) (ctab 17) 2, u_lay (cname 17) (ctab 17) 3, u_lay (cname 17) (ctab 17) 4, u_lay (cname 17) (ctab 17) 5, u_lay (cname 17) (ctab 17) 6, u_lay (cname 17) (ctab 17) 7], w ∈ lw_all
  intro w hw
  simp only [List.mem_cons, List.not_mem_nil, or_false] at hw
  rcases hw with rfl | rfl | rfl | rfl | rfl | rfl | rfl | rfl
  · exact q1297
  · exact q1298
  · exact q1299
  · exact q1300
  · exact q1301
  · exact q1314
  · exact q1310
  · exact q1312
theorem clw_18 : ∀ w ∈ u_ws (cname 18) (ctab 18) (ftab 18).length, w ∈ lw_all := by
  show ∀ w ∈ [u_lay (cname 18) (ctab 18) 0, u_lay (cname 18) (ctab 18) 1, u_lay (cname 18) (ctab 18) 2], w ∈ lw_all
  intro w hw
  simp only [List.mem_cons, List.not_mem_nil, or_false] at hw
  rcases hw with rfl | rfl | rfl
  · exact q1381
  · exact q1377
  · exact q1379
theorem clw_19 : ∀ w ∈ u_ws (cname 19) (ctab 19) (ftab 19).length, w ∈ lw_all := by
  show ∀ w ∈ [u_lay (cname 19) (ctab 19) 0], w ∈ lw_all
  intro w hw
  simp only [List.mem_cons, List.not_mem_nil, or_false] at hw
  rcases hw with rfl
  exact q1357
theorem clw_20 : ∀ w ∈ u_ws (cname 20) (ctab 20) (ftab 20).length, w ∈ lw_all := by
  show ∀ w ∈ [u_lay (cname 20) (ctab 20) 0, u_lay (cname 20) (ctab 20) 1], w ∈ lw_all
  intro w hw
  simp only [List.mem_cons, List.not_mem_nil, or_false] at hw
  rcases hw with rfl | rfl
  · exact q1369
  · exact q1367
theorem clw_21 : ∀ w ∈ u_ws (cname 21) (ctab 21) (ftab 21).length, w ∈ lw_all := by
  show ∀ w ∈ [u_lay (cname 21) (ctab 21) 0, u_lay (cname 21) (ctab 21) 1, u_lay (cname 21) (ctab 21) 2], w ∈ lw_all
  intro w hw
  simp only [List.mem_cons, List.not_mem_nil, or_false] at hw
  rcases hw with rfl | rfl | rfl
  · exact q1395
  · exact q1391
  · exact q1393
theorem clw_22 : ∀ w ∈ u_ws (cname 22) (ctab 22) (ftab 22).length, w ∈ lw_all := by
  show ∀ w ∈ [u_lay (cname 22) (ctab 22) 0, u_lay (cname 22) (ctab 22) 1], w ∈ lw_all
  intro w hw
  simp only [List.mem_cons, List.not_mem_nil, or_false] at hw
  rcases hw with rfl | rfl
  · exact q1425
  · exact q1423
theorem clw_23 : ∀ w ∈ u_ws (cname 23) (ctab 23) (ftab 23).length, w ∈ lw_all := by
  show ∀ w ∈ [u_lay (cname 23) (ctab 23) 0], w ∈ lw_all
  intro w hw
  simp only [List.mem_cons, List.not_mem_nil, or_false] at hw
  rcases hw with rfl
  exact q1433
theorem clw_24 : ∀ w ∈ u_ws (cname 24) (ctab 24) (ftab 24).length, w ∈ lw_all := by
  show ∀ w ∈ [u_lay (cname 24) (ctab 24) 0, u_lay (cname 24) (ctab 24) 1], w ∈ lw_all
  intro w hw
  simp only [List.mem_cons, List.not_mem_nil, or_false] at hw
  rcases hw with rfl | rfl
  · exact q1444
  · exact q1442
theorem clw_25 : ∀ w ∈ u_ws (cname 25) (ctab 25) (ftab 25).length, w ∈ lw_all := by
  show ∀ w ∈ [u_lay (cname 25) (ctab 25) 0, u_lay (cname 25) (ctab 25) 1], w ∈ lw_all
  intro w hw
  simp only [List.mem_cons, List.not_mem_nil, or_false] at hw
  rcases hw with rfl | rfl
  · exact q1455
  · exact q1453
theorem clw_26 : ∀ w ∈ u_ws (cname 26) (ctab 26) (ftab 26).length, w ∈ lw_all := by
  show ∀ w ∈ [u_lay (cname 26) (ctab 26) 0, u_lay (cname 26) (ctab 26) 1, u_lay (cname 26) (ctab 26) 2], w ∈ lw_all
  intro w hw
  simp only [List.mem_cons, List.not_mem_nil, or_false] at hw
  rcases hw with rfl | rfl | rfl
  · exact q1469
  · exact q1465
  · exact q1467
theorem clw_27 : ∀ w ∈ u_ws (cname 27) (ctab 27) (ftab 27).length, w ∈ lw_all := by
  show ∀ w ∈ [u_lay (cname 27) (ctab 27) 0, u_lay (cname 27) (ctab 27) 1, u_lay (cname 27) (ctab 27) 2], w ∈ lw_all
  intro w hw
  simp only [List.mem_cons, List.not_mem_nil, or_false] at hw
  rcases hw with rfl | rfl | rfl
  · exact q1838
  · exact q1834
  · exact q1836
theorem clw_28 : ∀ w ∈ u_ws (cname 28) (ctab 28) (ftab 28).length, w ∈ lw_all := by
  show ∀ w ∈ [u_lay (cname 28) (ctab 28) 0, u_lay (cname 28) (ctab 28) 1, u_lay (cname 28) (ctab 28) 2], w ∈ lw_all
  intro w hw
  simp only [List.mem_cons, List.not_mem_nil, or_false] at hw
  rcases hw with rfl | rfl | rfl
  · exact q1504
  · exact q1506
  · exact q1508
theorem clw_29 : ∀ w ∈ u_ws (cname 29) (ctab 29) (ftab 29).length, w ∈ lw_all := by
  show ∀ w ∈ [u_lay (cname 29) (ctab 29) 0, u_lay (cname 29) (ctab 29) 1, u_lay (cname 29) (ctab 29) 2, u_lay (cname 29) (ctab 29) 3], w ∈ lw_all
  intro w hw
  simp only [List.mem_cons, List.not_mem_nil, or_false] at hw
  rcases hw with rfl | rfl | rfl | rfl
  · exact q1551
  · exact q1553
  · exact q1547
  · exact q1549
theorem clw_30 : ∀ w ∈ u_ws (cname 30) (ctab 30) (ftab 30).length, w ∈ lw_all := by
  show ∀ w ∈ [u_lay (cname 30) (ctab 30) 0, u_lay (cname 30) (ctab 30) 1, u_lay (cname 30) (ctab 30) 2, u_lay (cname 30) (ctab 30) 3], w ∈ lw_all
  intro w hw
  simp only [List.mem_cons, List.not_mem_nil, or_false] at hw
  rcases hw with rfl | rfl | rfl | rfl
  · exact q1568
  · exact q1569
  · exact q1564
  · exact q1566
theorem clw_31 : ∀ w ∈ u_ws (cname 31) (ctab 31) (ftab 31).length, w ∈ lw_all := by
  show ∀ w ∈ [u_lay (cname 31) (ctab 31) 0, u_lay (cname 31) (ctab 31) 1, u_lay (cname 31) (ctab 31) 2, u_lay (cname 31) (ctab 31) 3, u_lay (cname 31) (ctab 31) 4], w ∈ lw_all
  intro w hw
  simp only [List.mem_cons, List.not_mem_nil, or_false] at hw
  rcases hw with rfl | rfl | rfl | rfl | rfl
  · exact q1586
  · exact q1587
  · exact q1580
  · exact q1582
  · exact q1584
theorem clw_32 : ∀ w ∈ u_ws (cname 32) (ctab 32) (ftab 32).length, w ∈ lw_all := by
  show ∀ w ∈ [u_lay (cname 32) (ctab 32) 0, u_lay (cname 32) (ctab 32) 1, u_lay (cname 32) (ctab 32) 2, u_lay (cname 32) (ctab 32) 3], w ∈ lw_all
  intro w hw
  simp only [List.mem_cons, List.not_mem_nil, or_false] at hw
  rcases hw with rfl | rfl | rfl | rfl
  · exact q1613
  · exact q1614
  · exact q1609
  · exact q1611
theorem clw_33 : ∀ w ∈ u_ws (cname 33) (ctab 33) (ftab 33).length, w ∈ lw_all := by
  show ∀ w ∈ [u_lay (cname 33) (ctab 33) 0, u_lay (cname 33) (ctab 33) 1, u_lay (cname 33) (ctab 33) 2], w ∈ lw_all
  intro w hw
  simp only [List.mem_cons, List.not_mem_nil, or_false] at hw
  rcases hw with rfl | rfl | rfl
  · exact q1625
  · exact q1626
  · exact q1623
theorem clw_34 : ∀ w ∈ u_ws (cname 34) (ctab 34) (ftab 34).length, w ∈ lw_all := by
  show ∀ w ∈ [u_lay (cname 34) (ctab 34) 0, u_lay (cname 34) (ctab 34) 1, u_lay (cname 34) (ctab 34) 2, u_lay (cname 34) (ctab 34) 3], w ∈ lw_all
  intro w hw
  simp only [List.mem_cons, List.not_mem_nil, or_false] at hw
  rcases hw with rfl | rfl | rfl | rfl
  · exact q1640
  · exact q1641
  · exact q1636
  · exact q1638
theorem clw_35 : ∀ w ∈ u_ws (cname 35) (ctab 35) (ftab 35).length, w ∈ lw_all := by
  show ∀ w ∈ [u_lay (cname 35) (ctab 35) 0, u_lay (cname 35) (ctab 35) 1, u_lay (cname 35) (ctab 35) 2], w ∈ lw_all
  intro w hw
  simp only [List.mem_cons, List.not_mem_nil, or_false] at hw
  rcases hw with rfl | rfl | rfl
  · exact q1652
  · exact q1653
  · exact q1650
theorem clw_36 : ∀ w ∈ u_ws (cname 36) (ctab 36) (ftab 36).length, w ∈ lw_all := by
  show ∀ w ∈ [u_lay (cname 36) (ctab 36) 0, u_lay (cname 36) (ctab 36) 1, u_lay (cname 36) (ctab 36) 2], w ∈ lw_all
  intro w hw
  simp only [List.mem_cons, List.not_mem_nil, or_false] at hw
  rcases hw with rfl | rfl | rfl
  · exact q1673
  · exact q1674
  · exact q1671
theorem clw_37 : ∀ w ∈ u_ws (cname 37) (ctab 37) (ftab 37).length, w ∈ lw_all := by
  show ∀ w ∈ [u_lay (cname 37) (ctab 37) 0, u_lay (cname 37) (ctab 37) 1, u_lay (cname 37) (ctab 37) 2], w ∈ lw_all
  intro w hw
  simp only [List.mem_cons, List.not_mem_nil, or_false] at hw
  rcases hw with rfl | rfl | rfl
  · exact q1697
  · exact q1699
  · exact q1700
theorem clw_38 : ∀ w ∈ u_ws (cname 38) (ctab 38) (ftab 38).length, w ∈ lw_all := by
  show ∀ w ∈ [u_lay (cname 38) (ctab 38) 0, u_lay (cname 38) (ctab 38) 1, u_lay (cname 38) (ctab 38) 2], w ∈ lw_all
  intro w hw
  simp only [List.mem_cons, List.not_mem_nil, or_false] at hw
  rcases hw with rfl | rfl | rfl
  · exact q1708
  · exact q1709
  · exact q1710
theorem clw_39 : ∀ w ∈ u_ws (cname 39) (ctab 39) (ftab 39).length, w ∈ lw_all := by
  show ∀ w ∈ [u_lay (cname 39) (ctab 39) 0, u_lay (cname 39) (ctab 39) 1, u_lay (cname 39) (ctab 39) 2], w ∈ lw_all
  intro w hw
  simp only [List.mem_cons, List.not_mem_nil, or_false] at hw
  rcases hw with rfl | rfl | rfl
  · exact q1718
  · exact q1719
  · exact q1720
theorem clw_40 : ∀ w ∈ u_ws (cname 40) (ctab 40) (ftab 40).length, w ∈ lw_all := by
  show ∀ w ∈ [u_lay (cname 40) (ctab 40) 0, u_lay (cname 40) (ctab 40) 1, u_lay (cname 40) (ctab 40) 2, u_lay (cname 40) (ctab 40) 3], w ∈ lw_all
  intro w hw
  simp only [List.mem_cons, List.not_mem_nil, or_false] at hw
  rcases hw with rfl | rfl | rfl | rfl
  · exact q1757
  · exact q1758
  · exact q1753
  · exact q1755
theorem clw_41 : ∀ w ∈ u_ws (cname 41) (ctab 41) (ftab 41).length, w ∈ lw_all := by
  show ∀ w ∈ [u_lay (cname 41) (ctab 41) 0, u_lay (cname 41) (ctab 41) 1, u_lay (cname 41) (ctab 41) 2, u_lay (cname 41) (ctab 41) 3, u_lay (cname 41) (ctab 41) 4], w ∈ lw_all
  intro w hw
  simp only [List.mem_cons, List.not_mem_nil, or_false] at hw
  rcases hw with rfl | rfl | rfl | rfl | rfl
  · exact q1778
  · exact q1779
  · exact q1772
  · exact q1774
  · exact q1776
theorem clw_42 : ∀ w ∈ u_ws (cname 42) (ctab 42) (ftab 42).length, w ∈ lw_all := by
  show ∀ w ∈ [u_lay (cname 42) (ctab 42) 0, u_lay (cname 42) (ctab 42) 1], w ∈ lw_all
  intro w hw
  simp only [List.mem_cons, List.not_mem_nil, or_false] at hw
  rcases hw with rfl | rfl
  · exact q1789
  · exact q1791
theorem clw_43 : ∀ w ∈ u_ws (cname 43) (ctab 43) (ftab 43).length, w ∈ lw_all := by
  show ∀ w ∈ [u_lay (cname 43) (ctab 43) 0, u_lay (cname 43) (ctab 43) 1, u_lay (cname 43) (ctab 43) 2, u_lay (cname 43) (ctab 43) 3, u_lay (cname 43) (ctab 43) 4], w ∈ lw_all
  intro w hw
  simp only [List.mem_cons, List.not_mem_nil, or_false] at hw
  rcases hw with rfl | rfl | rfl | rfl | rfl
  · exact q1813
  · exact q1814
  · exact q1807
  · exact q1809
  · exact q1811
theorem clw_44 : ∀ w ∈ u_ws (cname 44) (ctab 44) (ftab 44).length, w ∈ lw_all := by
  show ∀ w ∈ [u_lay (cname 44) (ctab 44) 0, u_lay (cname 44) (ctab 44) 1, u_lay (cname 44) (ctab 44) 2, u_lay (cname 44) (ctab 44) 3], w ∈ lw_all
  intro w hw
  simp only [List.mem_cons, List.not_mem_nil, or_false] at hw
  rcases hw with rfl | rfl | rfl | rfl
  · exact q1860
  · exact q1862
  · exact q1864
  · exact q1866
theorem clw_45 : ∀ w ∈ u_ws (cname 45) (ctab 45) (ftab 45).length, w ∈ lw_all := by
  show ∀ w ∈ [u_lay (cname 45) (ctab 45) 0, u_lay (cname 45) (ctab 45) 1], w ∈ lw_all
  intro w hw
  simp only [List.mem_cons, List.not_mem_nil, or_false] at hw
  rcases hw with rfl | rfl
  · exact q1878
  · exact q1876
theorem clw_46 : ∀ w ∈ u_ws (cname 46) (ctab 46) (ftab 46).length, w ∈ lw_all := by
  show ∀ w ∈ [u_lay (cname 46) (ctab 46) 0, u_lay (cname 46) (ctab 46) 1, u_lay (cname 46) (ctab 46) 2, u_lay (cname 46) (ctab 46) 3, u_lay (cname 46) (ctab 46) 4], w ∈ lw_all
  intro w hw
  simp only [List.mem_cons, List.not_mem_nil, or_false] at hw
  rcases hw with rfl | rfl | rfl | rfl | rfl
  · exact q1904
  · exact q1906
  · exact q1908
  · exact q1910
  · exact q1912
theorem clw_47 : ∀ w ∈ u_ws (cname 47) (ctab 47) (ftab 47).length, w ∈ lw_all := by
  show ∀ w ∈ [u_lay (cname 47) (ctab 47) 0, u_lay (cname 47) (ctab 47) 1, u_lay (cname 47) (ctab 47) 2], w ∈ lw_all
  intro w hw
  simp only [List.mem_cons, List.not_mem_nil, or_false] at hw
  rcases hw with rfl | rfl | rfl
  · exact q1952
  · exact q1948
  · exact q1950
theorem clw_48 : ∀ w ∈ u_ws (cname 48) (ctab 48) (ftab 48).length, w ∈ lw_all := by
  show ∀ w ∈ [u_lay (cname 48) (ctab 48) 0, u_lay (cname 48) (ctab 48) 1], w ∈ lw_all
  intro w hw
  simp only [List.mem_cons, List.not_mem_nil, or_false] at hw
  rcases hw with rfl | rfl
  · exact q1964
  · exact q1962
theorem clw_49 : ∀ w ∈ u_ws (cname 49) (ctab 49) (ftab 49).length, w ∈ lw_all := by
  show ∀ w ∈ [u_lay (cname 49) (ctab 49) 0, u_lay (cname 49) (ctab 49) 1], w ∈ lw_all
  intro w hw
  simp only [List.mem_cons, List.not_mem_nil, or_false] at hw
  rcases hw with rfl | rfl
  · exact q1975
  · exact q1973
theorem clw_50 : ∀ w ∈ u_ws (cname 50) (ctab 50) (ftab 50).length, w ∈ lw_all := by
  show ∀ w ∈ [u_lay (cname 50) (ctab 50) 0, u_lay (cname 50) (ctab 50) 1, u_lay (cname 50) (ctab 50) 2], w ∈ lw_all
  intro w hw
  simp only [List.mem_cons, List.not_mem_nil, or_false] at hw
  rcases hw with rfl | rfl | rfl
  · exact q1989
  · exact q1985
  · exact q1987
theorem clw_51 : ∀ w ∈ u_ws (cname 51) (ctab 51) (ftab 51).length, w ∈ lw_all := by
  show ∀ w ∈ [u_lay (cname 51) (ctab 51) 0, u_lay (cname 51) (ctab 51) 1, u_lay (cname 51) (ctab 51) 2], w ∈ lw_all
  intro w hw
  simp only [List.mem_cons, List.not_mem_nil, or_false] at hw
  rcases hw with rfl | rfl | rfl
  · exact q2002
  · exact q2004
  · exact q2006
theorem clw_52 : ∀ w ∈ u_ws (cname 52) (ctab 52) (ftab 52).length, w ∈ lw_all := by
  show ∀ w ∈ [u_lay (cname 52) (ctab 52) 0, u_lay (cname 52) (ctab 52) 1, u_lay (cname 52) (ctab 52) 2], w ∈ lw_all
  intro w hw
  simp only [List.mem_cons, List.not_mem_nil, or_false] at hw
  rcases hw with rfl | rfl | rfl
  · exact q2021
  · exact q2017
  · exact q2019
theorem clw_53 : ∀ w ∈ u_ws (cname 53) (ctab 53) (ftab 53).length, w ∈ lw_all := by
  show ∀ w ∈ [u_lay (cname 53) (ctab 53) 0, u_lay (cname 53) (ctab 53) 1, u_lay (cname 53) (ctab 53) 2, u_lay (cname 53) (ctab 53) 3, u_lay (cname 53) (ctab 53) 4, u_lay (cname 53) (ctab 53) 5, u_lay (cname 53) (ctab 53) 6, u_lay (cname 53) (ctab 53) 7, u_lay (cname 53) (ctab 53) 8], w ∈ lw_all
  intro w hw
  simp only [List.mem_cons, List.not_mem_nil, or_false] at hw
  rcases hw with rfl | rfl | rfl | rfl | rfl | rfl | rfl | rfl | rfl
  · exact q2157
  · exact q2159
  · exact q2161
  · exact q2163
  · exact q2165
  · exact q2167
  · exact q2169
  · exact q2171
  · exact q2173
theorem clw_54 : ∀ w ∈ u_ws (cname 54) (ctab 54) (ftab 54).length, w ∈ lw_all := by
  show ∀ w ∈ [u_lay (cname 54) (ctab 54) 0, u_lay (cname 54) (ctab 54) 1, u_lay (cname 54) (ctab 54) 2, u_lay (cname 54) (ctab 54) 3, u_lay (cname 54) (ctab 54) 4, u_lay (cname 54) (ctab 54) 5], w ∈ lw_all
  intro w hw
  simp only [List.mem_cons, List.not_mem_nil, or_false] at hw
  rcases hw with rfl | rfl | rfl | rfl | rfl | rfl
  · exact q2857
  · exact q2858
  · exact q2859
  · exact q2860
  · exact q2861
  · exact q2866
theorem clw_55 : ∀ w ∈ u_ws (cname 55) (ctab 55) (ftab 55).length, w ∈ lw_all := by
  show ∀ w ∈ [u_lay (cname 55) (ctab 55) 0, u_lay (cname 55) (ctab 55) 1, u_lay (cname 55) (ctab 55) 2, u_lay (cname 55) (ctab 55) 3, u_lay (cname 55) (ctab 55) 4, u_lay (cname 55) (ctab 55) 5], w ∈ lw_all
  intro w hw
  simp only [List.mem_cons, List.not_mem_nil, or_false] at hw
  rcases hw with rfl | rfl | rfl | rfl | rfl | rfl
  · exact q3320
  · exact q3321
  · exact q3322
  · exact q3323
  · exact q3324
  · exact q3329
