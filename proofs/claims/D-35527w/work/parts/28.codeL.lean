theorem mok_X1_addNumber : MOK 344 2 := ⟨q1975, q105, by decide, by decide +kernel, by decide +kernel⟩
theorem selv_0_X1_addNumber : SelV 0 344 := selV_of (t := 0) (y := 344) rfl q1974
def am_X0_addNumber : List Ent := [(0, .aload_n 3, 1, [3]), (1, .iconst 0, 1, [0]), (2, .aload_n 0, 1, [0]), (3, .iload_n 1, 1, [1]), (4, .iload_n 2, 1, [2]), (5, .invokevirtual 33, 3, [103, 2]), (8, .i2l, 1, []), (9, .lastore, 1, []), (10, .goto 15, 3, [25]), (13, .astore 4, 2, [4]), (15, .iconst 1, 1, [1]), (16, .ireturn, 1, [0]), (17, .astore 4, 2, [4]), (19, .iconst 2, 1, [2]), (20, .ireturn, 1, [0]), (21, .astore 4, 2, [4]), (23, .iconst 3, 1, [3]), (24, .ireturn, 1, [0]), (25, .iconst 0, 1, [0]), (26, .ireturn, 1, [0])]
def hd_X0_addNumber : List (Nat × Nat × Nat × Nat) := [(0, 10, 13, 13), (0, 10, 17, 11), (0, 10, 21, 12)]
def fl_X0_addNumber : List Ent := [(5, .invokevirtual 33, 3, [103, 2]), (16, .ireturn, 1, [0]), (20, .ireturn, 1, [0]), (24, .ireturn, 1, [0]), (26, .ireturn, 1, [0])]
set_option maxRecDepth 100000 in
theorem meth_X0_addNumber : METH 149 "QuillplateLaw" false am_X0_addNumber hd_X0_addNumber := ⟨rfl, by decide +kernel, (fun h => by cases h), ⟨rfl, rfl, rfl, by decide, Or.inr ⟨_, rfl, q1471⟩, ⟨rfl, rfl, rfl, by decide, Or.inr ⟨_, rfl, q1426⟩, ⟨rfl, rfl, rfl, by decide, Or.inr ⟨_, rfl, q1427⟩, trivial⟩⟩⟩, codeOK_mk (F := fl_X0_addNumber) (by decide +kernel) (by decide +kernel) (by decide +kernel) ⟨sites_of rfl (List.forall_mem_cons.mpr ⟨site_V mok_X1_addNumber rfl q1972 q1973 selv_0_X1_addNumber, fun _ h => absurd h List.not_mem_nil⟩), ⟨rfl, _, rfl, rfl⟩, ⟨rfl, _, rfl, rfl⟩, ⟨rfl, _, rfl, rfl⟩, ⟨rfl, _, rfl, rfl⟩, trivial⟩⟩
theorem mok_X1_addText : MOK 345 1 := ⟨q1998, q105, by decide, by decide +kernel, by decide +kernel⟩
theorem selv_0_X1_addText : SelV 0 345 := selV_of (t := 0) (y := 345) rfl q1997
def am_X0_addText : List Ent := [(0, .aload_n 2, 1, [2]), (1, .iconst 0, 1, [0]), (2, .aload_n 0, 1, [0]), (3, .iload_n 1, 1, [1]), (4, .invokevirtual 36, 3, [104, 1]), (7, .i2l, 1, []), (8, .lastore, 1, []), (9, .goto 9, 3, [18]), (12, .astore_n 3, 1, [3]), (13, .iconst 1, 1, [1]), (14, .ireturn, 1, [0]), (15, .astore_n 3, 1, [3]), (16, .iconst 2, 1, [2]), (17, .ireturn, 1, [0]), (18, .iconst 0, 1, [0]), (19, .ireturn, 1, [0])]
def hd_X0_addText : List (Nat × Nat × Nat × Nat) := [(0, 9, 12, 13), (0, 9, 15, 12)]
def fl_X0_addText : List Ent := [(4, .invokevirtual 36, 3, [104, 1]), (14, .ireturn, 1, [0]), (17, .ireturn, 1, [0]), (19, .ireturn, 1, [0])]
set_option maxRecDepth 100000 in
theorem meth_X0_addText : METH 150 "QuillplateLaw" false am_X0_addText hd_X0_addText := ⟨rfl, by decide +kernel, (fun h => by cases h), ⟨rfl, rfl, rfl, by decide, Or.inr ⟨_, rfl, q1471⟩, ⟨rfl, rfl, rfl, by decide, Or.inr ⟨_, rfl, q1427⟩, trivial⟩⟩, codeOK_mk (F := fl_X0_addText) (by decide +kernel) (by decide +kernel) (by decide +kernel) ⟨sites_of rfl (List.forall_mem_cons.mpr ⟨site_V mok_X1_addText rfl q1995 q1996 selv_0_X1_addText, fun _ h => absurd h List.not_mem_nil⟩), ⟨rfl, _, rfl, rfl⟩, ⟨rfl, _, rfl, rfl⟩, ⟨rfl, _, rfl, rfl⟩, trivial⟩⟩
theorem mok_X1_errorPlace : MOK 346 1 := ⟨q2585, q105, by decide, by decide +kernel, by decide +kernel⟩
theorem selv_0_X1_errorPlace : SelV 0 346 := selV_of (t := 0) (y := 346) rfl q2584
def am_X0_errorPlace : List Ent := [(0, .aload_n 2, 1, [2]), (1, .iconst 0, 1, [0]), (2, .aload_n 0, 1, [0]), (3, .iload_n 1, 1, [1]), (4, .invokevirtual 46, 3, [105, 1]), (7, .i2l, 1, []), (8, .lastore, 1, []), (9, .goto 6, 3, [15]), (12, .astore_n 3, 1, [3]), (13, .iconst 1, 1, [1]), (14, .ireturn, 1, [0]), (15, .iconst 0, 1, [0]), (16, .ireturn, 1, [0])]
def hd_X0_errorPlace : List (Nat × Nat × Nat × Nat) := [(0, 9, 12, 13)]
def fl_X0_errorPlace : List Ent := [(4, .invokevirtual 46, 3, [105, 1]), (14, .ireturn, 1, [0]), (16, .ireturn, 1, [0])]
set_option maxRecDepth 100000 in
theorem meth_X0_errorPlace : METH 153 "QuillplateLaw" false am_X0_errorPlace hd_X0_errorPlace := ⟨rfl, by decide +kernel, (fun h => by cases h), ⟨rfl, rfl, rfl, by decide, Or.inr ⟨_, rfl, q1471⟩, trivial⟩, codeOK_mk (F := fl_X0_errorPlace) (by decide +kernel) (by decide +kernel) (by decide +kernel) ⟨sites_of rfl (List.forall_mem_cons.mpr ⟨site_V mok_X1_errorPlace rfl q2582 q2583 selv_0_X1_errorPlace, fun _ h => absurd h List.not_mem_nil⟩), ⟨rfl, _, rfl, rfl⟩, ⟨rfl, _, rfl, rfl⟩, trivial⟩⟩
theorem mok_X1_list : MOK 347 1 := ⟨q1963, q105, by decide, by decide +kernel, by decide +kernel⟩
theorem selv_0_X1_list : SelV 0 347 := selV_of (t := 0) (y := 347) rfl q1962
def am_X0_list : List Ent := [(0, .aload_n 2, 1, [2]), (1, .iconst 0, 1, [0]), (2, .aload_n 0, 1, [0]), (3, .iload_n 1, 1, [1]), (4, .invokevirtual 30, 3, [106, 1]), (7, .i2l, 1, []), (8, .lastore, 1, []), (9, .goto 6, 3, [15]), (12, .astore_n 3, 1, [3]), (13, .iconst 1, 1, [1]), (14, .ireturn, 1, [0]), (15, .iconst 0, 1, [0]), (16, .ireturn, 1, [0])]
def hd_X0_list : List (Nat × Nat × Nat × Nat) := [(0, 9, 12, 13)]
def fl_X0_list : List Ent := [(4, .invokevirtual 30, 3, [106, 1]), (14, .ireturn, 1, [0]), (16, .ireturn, 1, [0])]
set_option maxRecDepth 100000 in
theorem meth_X0_list : METH 148 "QuillplateLaw" false am_X0_list hd_X0_list := ⟨rfl, by decide +kernel, (fun h => by cases h), ⟨rfl, rfl, rfl, by decide, Or.inr ⟨_, rfl, q1471⟩, trivial⟩, codeOK_mk (F := fl_X0_list) (by decide +kernel) (by decide +kernel) (by decide +kernel) ⟨sites_of rfl (List.forall_mem_cons.mpr ⟨site_V mok_X1_list rfl q1960 q1961 selv_0_X1_list, fun _ h => absurd h List.not_mem_nil⟩), ⟨rfl, _, rfl, rfl⟩, ⟨rfl, _, rfl, rfl⟩, trivial⟩⟩
theorem mok_X1_number : MOK 348 2 := ⟨q1534, q105, by decide, by decide +kernel, by decide +kernel⟩
theorem selv_0_X1_number : SelV 0 348 := selV_of (t := 0) (y := 348) rfl q1533
def am_X0_number : List Ent := [(0, .aload_n 3, 1, [3]), (1, .iconst 0, 1, [0]), (2, .aload_n 0, 1, [0]), (3, .iload_n 1, 1, [1]), (4, .iload_n 2, 1, [2]), (5, .invokevirtual 23, 3, [107, 2]), (8, .i2l, 1, []), (9, .lastore, 1, []), (10, .goto 11, 3, [21]), (13, .astore 4, 2, [4]), (15, .iconst 1, 1, [1]), (16, .ireturn, 1, [0]), (17, .astore 4, 2, [4]), (19, .iconst 2, 1, [2]), (20, .ireturn, 1, [0]), (21, .iconst 0, 1, [0]), (22, .ireturn, 1, [0])]
def hd_X0_number : List (Nat × Nat × Nat × Nat) := [(0, 10, 13, 13), (0, 10, 17, 11)]
def fl_X0_number : List Ent := [(5, .invokevirtual 23, 3, [107, 2]), (16, .ireturn, 1, [0]), (20, .ireturn, 1, [0]), (22, .ireturn, 1, [0])]
set_option maxRecDepth 100000 in
theorem meth_X0_number : METH 146 "QuillplateLaw" false am_X0_number hd_X0_number := ⟨rfl, by decide +kernel, (fun h => by cases h), ⟨rfl, rfl, rfl, by decide, Or.inr ⟨_, rfl, q1471⟩, ⟨rfl, rfl, rfl, by decide, Or.inr ⟨_, rfl, q1426⟩, trivial⟩⟩, codeOK_mk (F := fl_X0_number) (by decide +kernel) (by decide +kernel) (by decide +kernel) ⟨sites_of rfl (List.forall_mem_cons.mpr ⟨site_V mok_X1_number rfl q1531 q1532 selv_0_X1_number, fun _ h => absurd h List.not_mem_nil⟩), ⟨rfl, _, rfl, rfl⟩, ⟨rfl, _, rfl, rfl⟩, ⟨rfl, _, rfl, rfl⟩, trivial⟩⟩
theorem mok_X1_outSign : MOK 349 1 := ⟨q2594, q105, by decide, by decide +kernel, by decide +kernel⟩
theorem selv_0_X1_outSign : SelV 0 349 := selV_of (t := 0) (y := 349) rfl q2593
def am_X0_outSign : List Ent := [(0, .aload_n 2, 1, [2]), (1, .iconst 0, 1, [0]), (2, .aload_n 0, 1, [0]), (3, .iload_n 1, 1, [1]), (4, .invokevirtual 49, 3, [108, 1]), (7, .i2l, 1, []), (8, .lastore, 1, []), (9, .goto 6, 3, [15]), (12, .astore_n 3, 1, [3]), (13, .iconst 1, 1, [1]), (14, .ireturn, 1, [0]), (15, .iconst 0, 1, [0]), (16, .ireturn, 1, [0])]
def hd_X0_outSign : List (Nat × Nat × Nat × Nat) := [(0, 9, 12, 13)]
def fl_X0_outSign : List Ent := [(4, .invokevirtual 49, 3, [108, 1]), (14, .ireturn, 1, [0]), (16, .ireturn, 1, [0])]
set_option maxRecDepth 100000 in
theorem meth_X0_outSign : METH 154 "QuillplateLaw" false am_X0_outSign hd_X0_outSign := ⟨rfl, by decide +kernel, (fun h => by cases h), ⟨rfl, rfl, rfl, by decide, Or.inr ⟨_, rfl, q1471⟩, trivial⟩, codeOK_mk (F := fl_X0_outSign) (by decide +kernel) (by decide +kernel) (by decide +kernel) ⟨sites_of rfl (List.forall_mem_cons.mpr ⟨site_V mok_X1_outSign rfl q2591 q2592 selv_0_X1_outSign, fun _ h => absurd h List.not_mem_nil⟩), ⟨rfl, _, rfl, rfl⟩, ⟨rfl, _, rfl, rfl⟩, trivial⟩⟩
theorem mok_X1_render : MOK 350 1 := ⟨q2012, q105, by decide, by decide +kernel, by decide +kernel⟩
theorem selv_0_X1_render : SelV 0 350 := selV_of (t := 0) (y := 350) rfl q2011
def am_X0_render : List Ent := [(0, .aload_n 2, 1, [2]), (1, .iconst 0, 1, [0]), (2, .aload_n 0, 1, [0]), (3, .iload_n 1, 1, [1]), (4, .invokevirtual 43, 3, [109, 1]), (7, .i2l, 1, []), (8, .lastore, 1, []), (9, .goto 9, 3, [18]), (12, .astore_n 3, 1, [3]), (13, .iconst 1, 1, [1]), (14, .ireturn, 1, [0]), (15, .astore_n 3, 1, [3]), (16, .iconst 2, 1, [2]), (17, .ireturn, 1, [0]), (18, .iconst 0, 1, [0]), (19, .ireturn, 1, [0])]
def hd_X0_render : List (Nat × Nat × Nat × Nat) := [(0, 9, 12, 13), (0, 9, 15, 12)]
def fl_X0_render : List Ent := [(4, .invokevirtual 43, 3, [109, 1]), (14, .ireturn, 1, [0]), (17, .ireturn, 1, [0]), (19, .ireturn, 1, [0])]
set_option maxRecDepth 100000 in
theorem meth_X0_render : METH 152 "QuillplateLaw" false am_X0_render hd_X0_render := ⟨rfl, by decide +kernel, (fun h => by cases h), ⟨rfl, rfl, rfl, by decide, Or.inr ⟨_, rfl, q1471⟩, ⟨rfl, rfl, rfl, by decide, Or.inr ⟨_, rfl, q1427⟩, trivial⟩⟩, codeOK_mk (F := fl_X0_render) (by decide +kernel) (by decide +kernel) (by decide +kernel) ⟨sites_of rfl (List.forall_mem_cons.mpr ⟨site_VW mok_X1_render (by decide) q2009 q2010 selv_0_X1_render, fun _ h => absurd h List.not_mem_nil⟩), ⟨rfl, _, rfl, rfl⟩, ⟨rfl, _, rfl, rfl⟩, ⟨rfl, _, rfl, rfl⟩, trivial⟩⟩
theorem mok_X1_sign : MOK 351 1 := ⟨q1431, q105, by decide, by decide +kernel, by decide +kernel⟩
theorem selv_0_X1_sign : SelV 0 351 := selV_of (t := 0) (y := 351) rfl q1430
def am_X0_sign : List Ent := [(0, .aload_n 2, 1, [2]), (1, .iconst 0, 1, [0]), (2, .aload_n 0, 1, [0]), (3, .iload_n 1, 1, [1]), (4, .invokevirtual 7, 3, [110, 1]), (7, .i2l, 1, []), (8, .lastore, 1, []), (9, .goto 9, 3, [18]), (12, .astore_n 3, 1, [3]), (13, .iconst 1, 1, [1]), (14, .ireturn, 1, [0]), (15, .astore_n 3, 1, [3]), (16, .iconst 2, 1, [2]), (17, .ireturn, 1, [0]), (18, .iconst 0, 1, [0]), (19, .ireturn, 1, [0])]
def hd_X0_sign : List (Nat × Nat × Nat × Nat) := [(0, 9, 12, 11), (0, 9, 15, 12)]
def fl_X0_sign : List Ent := [(4, .invokevirtual 7, 3, [110, 1]), (14, .ireturn, 1, [0]), (17, .ireturn, 1, [0]), (19, .ireturn, 1, [0])]
set_option maxRecDepth 100000 in
theorem meth_X0_sign : METH 144 "QuillplateLaw" false am_X0_sign hd_X0_sign := ⟨rfl, by decide +kernel, (fun h => by cases h), ⟨rfl, rfl, rfl, by decide, Or.inr ⟨_, rfl, q1426⟩, ⟨rfl, rfl, rfl, by decide, Or.inr ⟨_, rfl, q1427⟩, trivial⟩⟩, codeOK_mk (F := fl_X0_sign) (by decide +kernel) (by decide +kernel) (by decide +kernel) ⟨sites_of rfl (List.forall_mem_cons.mpr ⟨site_V mok_X1_sign rfl q1428 q1429 selv_0_X1_sign, fun _ h => absurd h List.not_mem_nil⟩), ⟨rfl, _, rfl, rfl⟩, ⟨rfl, _, rfl, rfl⟩, ⟨rfl, _, rfl, rfl⟩, trivial⟩⟩
theorem mok_X1_sumAnew : MOK 352 1 := ⟨q2601, q105, by decide, by decide +kernel, by decide +kernel⟩
theorem selv_0_X1_sumAnew : SelV 0 352 := selV_of (t := 0) (y := 352) rfl q2600
def am_X0_sumAnew : List Ent := [(0, .aload_n 2, 1, [2]), (1, .iconst 0, 1, [0]), (2, .aload_n 0, 1, [0]), (3, .iload_n 1, 1, [1]), (4, .invokevirtual 53, 3, [111, 1]), (7, .i2l, 1, []), (8, .lastore, 1, []), (9, .goto 9, 3, [18]), (12, .astore_n 3, 1, [3]), (13, .iconst 1, 1, [1]), (14, .ireturn, 1, [0]), (15, .astore_n 3, 1, [3]), (16, .iconst 2, 1, [2]), (17, .ireturn, 1, [0]), (18, .iconst 0, 1, [0]), (19, .ireturn, 1, [0])]
def hd_X0_sumAnew : List (Nat × Nat × Nat × Nat) := [(0, 9, 12, 13), (0, 9, 15, 12)]
def fl_X0_sumAnew : List Ent := [(4, .invokevirtual 53, 3, [111, 1]), (14, .ireturn, 1, [0]), (17, .ireturn, 1, [0]), (19, .ireturn, 1, [0])]
set_option maxRecDepth 100000 in
theorem meth_X0_sumAnew : METH 155 "QuillplateLaw" false am_X0_sumAnew hd_X0_sumAnew := ⟨rfl, by decide +kernel, (fun h => by cases h), ⟨rfl, rfl, rfl, by decide, Or.inr ⟨_, rfl, q1471⟩, ⟨rfl, rfl, rfl, by decide, Or.inr ⟨_, rfl, q1427⟩, trivial⟩⟩, codeOK_mk (F := fl_X0_sumAnew) (by decide +kernel) (by decide +kernel) (by decide +kernel) ⟨sites_of rfl (List.forall_mem_cons.mpr ⟨site_VW mok_X1_sumAnew (by decide) q2598 q2599 selv_0_X1_sumAnew, fun _ h => absurd h List.not_mem_nil⟩), ⟨rfl, _, rfl, rfl⟩, ⟨rfl, _, rfl, rfl⟩, ⟨rfl, _, rfl, rfl⟩, trivial⟩⟩
theorem mok_X1_tell : MOK 353 1 := ⟨q1493, q105, by decide, by decide +kernel, by decide +kernel⟩
theorem selv_0_X1_tell : SelV 0 353 := selV_of (t := 0) (y := 353) rfl q1492
def am_X0_tell : List Ent := [(0, .aload_n 2, 1, [2]), (1, .iconst 0, 1, [0]), (2, .aload_n 0, 1, [0]), (3, .iload_n 1, 1, [1]), (4, .invokevirtual 17, 3, [112, 1]), (7, .i2l, 1, []), (8, .lastore, 1, []), (9, .goto 9, 3, [18]), (12, .astore_n 3, 1, [3]), (13, .iconst 1, 1, [1]), (14, .ireturn, 1, [0]), (15, .astore_n 3, 1, [3]), (16, .iconst 2, 1, [2]), (17, .ireturn, 1, [0]), (18, .iconst 0, 1, [0]), (19, .ireturn, 1, [0])]
def hd_X0_tell : List (Nat × Nat × Nat × Nat) := [(0, 9, 12, 13), (0, 9, 15, 12)]
def fl_X0_tell : List Ent := [(4, .invokevirtual 17, 3, [112, 1]), (14, .ireturn, 1, [0]), (17, .ireturn, 1, [0]), (19, .ireturn, 1, [0])]
set_option maxRecDepth 100000 in
theorem meth_X0_tell : METH 145 "QuillplateLaw" false am_X0_tell hd_X0_tell := ⟨rfl, by decide +kernel, (fun h => by cases h), ⟨rfl, rfl, rfl, by decide, Or.inr ⟨_, rfl, q1471⟩, ⟨rfl, rfl, rfl, by decide, Or.inr ⟨_, rfl, q1427⟩, trivial⟩⟩, codeOK_mk (F := fl_X0_tell) (by decide +kernel) (by decide +kernel) (by decide +kernel) ⟨sites_of rfl (List.forall_mem_cons.mpr ⟨site_VW mok_X1_tell (by decide) q1490 q1491 selv_0_X1_tell, fun _ h => absurd h List.not_mem_nil⟩), ⟨rfl, _, rfl, rfl⟩, ⟨rfl, _, rfl, rfl⟩, ⟨rfl, _, rfl, rfl⟩, trivial⟩⟩
theorem mok_X1_text : MOK 354 1 := ⟨q1947, q105, by decide, by decide +kernel, by decide +kernel⟩
theorem selv_0_X1_text : SelV 0 354 := selV_of (t := 0) (y := 354) rfl q1946
def am_X0_text : List Ent := [(0, .aload_n 2, 1, [2]), (1, .iconst 0, 1, [0]), (2, .aload_n 0, 1, [0]), (3, .iload_n 1, 1, [1]), (4, .invokevirtual 27, 3, [113, 1]), (7, .i2l, 1, []), (8, .lastore, 1, []), (9, .goto 9, 3, [18]), (12, .astore_n 3, 1, [3]), (13, .iconst 1, 1, [1]), (14, .ireturn, 1, [0]), (15, .astore_n 3, 1, [3]), (16, .iconst 2, 1, [2]), (17, .ireturn, 1, [0]), (18, .iconst 0, 1, [0]), (19, .ireturn, 1, [0])]
def hd_X0_text : List (Nat × Nat × Nat × Nat) := [(0, 9, 12, 13), (0, 9, 15, 12)]
def fl_X0_text : List Ent := [(4, .invokevirtual 27, 3, [113, 1]), (14, .ireturn, 1, [0]), (17, .ireturn, 1, [0]), (19, .ireturn, 1, [0])]
set_option maxRecDepth 100000 in
theorem meth_X0_text : METH 147 "QuillplateLaw" false am_X0_text hd_X0_text := ⟨rfl, by decide +kernel, (fun h => by cases h), ⟨rfl, rfl, rfl, by decide, Or.inr ⟨_, rfl, q1471⟩, ⟨rfl, rfl, rfl, by decide, Or.inr ⟨_, rfl, q1427⟩, trivial⟩⟩, codeOK_mk (F := fl_X0_text) (by decide +kernel) (by decide +kernel) (by decide +kernel) ⟨sites_of rfl (List.forall_mem_cons.mpr ⟨site_V mok_X1_text rfl q1944 q1945 selv_0_X1_text, fun _ h => absurd h List.not_mem_nil⟩), ⟨rfl, _, rfl, rfl⟩, ⟨rfl, _, rfl, rfl⟩, ⟨rfl, _, rfl, rfl⟩, trivial⟩⟩
theorem mok_X1_unset : MOK 355 1 := ⟨q2005, q105, by decide, by decide +kernel, by decide +kernel⟩
theorem selv_0_X1_unset : SelV 0 355 := selV_of (t := 0) (y := 355) rfl q2004
def am_X0_unset : List Ent := [(0, .aload_n 2, 1, [2]), (1, .iconst 0, 1, [0]), (2, .aload_n 0, 1, [0]), (3, .iload_n 1, 1, [1]), (4, .invokevirtual 39, 3, [114, 1]), (7, .ifCond .eq 7, 3, [14]), (10, .lconst 1, 1, [1]), (11, .goto 4, 3, [15]), (14, .lconst 0, 1, [0]), (15, .lastore, 1, []), (16, .goto 6, 3, [22]), (19, .astore_n 3, 1, [3]), (20, .iconst 1, 1, [1]), (21, .ireturn, 1, [0]), (22, .iconst 0, 1, [0]), (23, .ireturn, 1, [0])]
def hd_X0_unset : List (Nat × Nat × Nat × Nat) := [(0, 16, 19, 13)]
def fl_X0_unset : List Ent := [(4, .invokevirtual 39, 3, [114, 1]), (21, .ireturn, 1, [0]), (23, .ireturn, 1, [0])]
set_option maxRecDepth 100000 in
theorem meth_X0_unset : METH 151 "QuillplateLaw" false am_X0_unset hd_X0_unset := ⟨rfl, by decide +kernel, (fun h => by cases h), ⟨rfl, rfl, rfl, by decide, Or.inr ⟨_, rfl, q1471⟩, trivial⟩, codeOK_mk (F := fl_X0_unset) (by decide +kernel) (by decide +kernel) (by decide +kernel) ⟨sites_of rfl (List.forall_mem_cons.mpr ⟨site_V mok_X1_unset rfl q2002 q2003 selv_0_X1_unset, fun _ h => absurd h List.not_mem_nil⟩), ⟨rfl, _, rfl, rfl⟩, ⟨rfl, _, rfl, rfl⟩, trivial⟩⟩
