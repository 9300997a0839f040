/-! the classes of the worlds, printed by gen/gen_cls.py -/
set_option maxRecDepth 100000
def zT0 : u_T := fun _ => ("", "", "", false)
abbrev zcl : List vw_C := [(RX5, TX5, 3), (RX5, TX5, 3), (RX1, TX1, 21), (RX2, TX2, 10), (RX3, TX3, 8), (RX4, TX4, 6), (RX6, TX6, 13), (RX8, zT0, 0), (RX9, zT0, 0), (RX10, zT0, 0), (RX12, zT0, 0), (RX13, zT0, 0), (RX14, zT0, 0), (RX15, zT0, 0), (RX16, TX16, 7), (RX17, TX17, 10), (RX18, TX18, 3), (RX19, TX19, 52), (RX20, TX20, 12), (RX21, TX21, 12), (RX22, TX22, 2), (RX23, TX23, 3), (RX24, TX24, 27), (RJ3, TJ3, 4), (RJ9, zT0, 0)]
def zclOK (q : vw_C) : Prop := (∀ w ∈ u_ws q.1 q.2.1 q.2.2, w ∈ lw_all) ∧ (∀ a, a < q.2.2 → ∀ b, b < q.2.2 → a ≠ b → (q.2.1 a).2.1 ≠ (q.2.1 b).2.1) ∧ (∃ ty : Nat → FieldType, ∀ k, k < q.2.2 → parseFieldDescriptor (q.2.1 k).2.2.1 = some (ty k)) ∧ (∃ n, Cond.instantiable q.1 n ∈ lw_all) ∧ Cond.initialized q.1 ∈ lw_all
theorem zclOK_0 : zclOK (RX5, TX5, 3) := ⟨in_X5, nmX5, ⟨tyX5, tyX5_ok⟩, ⟨_, q293⟩, q137⟩
theorem zclOK_1 : zclOK (RX5, TX5, 3) := ⟨in_X5, nmX5, ⟨tyX5, tyX5_ok⟩, ⟨_, q293⟩, q137⟩
theorem zclOK_2 : zclOK (RX1, TX1, 21) := ⟨in_X1, nmX1, ⟨tyX1, tyX1_ok⟩, ⟨_, q166⟩, q130⟩
theorem zclOK_3 : zclOK (RX2, TX2, 10) := ⟨in_X2, nmX2, ⟨tyX2, tyX2_ok⟩, ⟨_, q174⟩, q131⟩
theorem zclOK_4 : zclOK (RX3, TX3, 8) := ⟨in_X3, nmX3, ⟨tyX3, tyX3_ok⟩, ⟨_, q180⟩, q135⟩
theorem zclOK_5 : zclOK (RX4, TX4, 6) := ⟨in_X4, nmX4, ⟨tyX4, tyX4_ok⟩, ⟨_, q286⟩, q136⟩
theorem zclOK_6 : zclOK (RX6, TX6, 13) := ⟨in_X6, nmX6, ⟨tyX6, tyX6_ok⟩, ⟨_, q344⟩, q138⟩
theorem zclOK_7 : zclOK (RX8, zT0, 0) := ⟨fun w h => absurd h List.not_mem_nil, fun a ha => absurd ha (Nat.not_lt_zero a), ⟨fun _ => .int, fun k hk => absurd hk (Nat.not_lt_zero k)⟩, ⟨_, q352⟩, q140⟩
theorem zclOK_8 : zclOK (RX9, zT0, 0) := ⟨fun w h => absurd h List.not_mem_nil, fun a ha => absurd ha (Nat.not_lt_zero a), ⟨fun _ => .int, fun k hk => absurd hk (Nat.not_lt_zero k)⟩, ⟨_, q362⟩, q141⟩
theorem zclOK_9 : zclOK (RX10, zT0, 0) := ⟨fun w h => absurd h List.not_mem_nil, fun a ha => absurd ha (Nat.not_lt_zero a), ⟨fun _ => .int, fun k hk => absurd hk (Nat.not_lt_zero k)⟩, ⟨_, q369⟩, q142⟩
theorem zclOK_10 : zclOK (RX12, zT0, 0) := ⟨fun w h => absurd h List.not_mem_nil, fun a ha => absurd ha (Nat.not_lt_zero a), ⟨fun _ => .int, fun k hk => absurd hk (Nat.not_lt_zero k)⟩, ⟨_, q378⟩, q144⟩
theorem zclOK_11 : zclOK (RX13, zT0, 0) := ⟨fun w h => absurd h List.not_mem_nil, fun a ha => absurd ha (Nat.not_lt_zero a), ⟨fun _ => .int, fun k hk => absurd hk (Nat.not_lt_zero k)⟩, ⟨_, q388⟩, q145⟩
theorem zclOK_12 : zclOK (RX14, zT0, 0) := ⟨fun w h => absurd h List.not_mem_nil, fun a ha => absurd ha (Nat.not_lt_zero a), ⟨fun _ => .int, fun k hk => absurd hk (Nat.not_lt_zero k)⟩, ⟨_, q395⟩, q146⟩
theorem zclOK_13 : zclOK (RX15, zT0, 0) := ⟨fun w h => absurd h List.not_mem_nil, fun a ha => absurd ha (Nat.not_lt_zero a), ⟨fun _ => .int, fun k hk => absurd hk (Nat.not_lt_zero k)⟩, ⟨_, q402⟩, q147⟩
theorem zclOK_14 : zclOK (RX16, TX16, 7) := ⟨in_X16, nmX16, ⟨tyX16, tyX16_ok⟩, ⟨_, q410⟩, q148⟩
theorem zclOK_15 : zclOK (RX17, TX17, 10) := ⟨in_X17, nmX17, ⟨tyX17, tyX17_ok⟩, ⟨_, q492⟩, q149⟩
theorem zclOK_16 : zclOK (RX18, TX18, 3) := ⟨in_X18, nmX18, ⟨tyX18, tyX18_ok⟩, ⟨_, q530⟩, q150⟩
theorem zclOK_17 : zclOK (RX19, TX19, 52) := ⟨in_X19, nmX19, ⟨tyX19, tyX19_ok⟩, ⟨_, q1746⟩, q151⟩
theorem zclOK_18 : zclOK (RX20, TX20, 12) := ⟨in_X20, nmX20, ⟨tyX20, tyX20_ok⟩, ⟨_, q643⟩, q152⟩
theorem zclOK_19 : zclOK (RX21, TX21, 12) := ⟨in_X21, nmX21, ⟨tyX21, tyX21_ok⟩, ⟨_, q933⟩, q158⟩
theorem zclOK_20 : zclOK (RX22, TX22, 2) := ⟨in_X22, nmX22, ⟨tyX22, tyX22_ok⟩, ⟨_, q1103⟩, q159⟩
theorem zclOK_21 : zclOK (RX23, TX23, 3) := ⟨in_X23, nmX23, ⟨tyX23, tyX23_ok⟩, ⟨_, q1123⟩, q160⟩
theorem zclOK_22 : zclOK (RX24, TX24, 27) := ⟨in_X24, nmX24, ⟨tyX24, tyX24_ok⟩, ⟨_, q1925⟩, q161⟩
theorem zclOK_23 : zclOK (RJ3, TJ3, 4) := ⟨in_J3, nmJ3, ⟨tyJ3, tyJ3_ok⟩, ⟨_, q736⟩, q153⟩
theorem zclOK_24 : zclOK (RJ9, zT0, 0) := ⟨fun w h => absurd h List.not_mem_nil, fun a ha => absurd ha (Nat.not_lt_zero a), ⟨fun _ => .int, fun k hk => absurd hk (Nat.not_lt_zero k)⟩, ⟨_, q1725⟩, q164⟩
theorem zcl_ok : ∀ q ∈ zcl, zclOK q := List.forall_mem_cons.mpr ⟨zclOK_0, List.forall_mem_cons.mpr ⟨zclOK_1, List.forall_mem_cons.mpr ⟨zclOK_2, List.forall_mem_cons.mpr ⟨zclOK_3, List.forall_mem_cons.mpr ⟨zclOK_4, List.forall_mem_cons.mpr ⟨zclOK_5, List.forall_mem_cons.mpr ⟨zclOK_6, List.forall_mem_cons.mpr ⟨zclOK_7, List.forall_mem_cons.mpr ⟨zclOK_8, List.forall_mem_cons.mpr ⟨zclOK_9, List.forall_mem_cons.mpr ⟨zclOK_10, List.forall_mem_cons.mpr ⟨zclOK_11, List.forall_mem_cons.mpr ⟨zclOK_12, List.forall_mem_cons.mpr ⟨zclOK_13, List.forall_mem_cons.mpr ⟨zclOK_14, List.forall_mem_cons.mpr ⟨zclOK_15, List.forall_mem_cons.mpr ⟨zclOK_16, List.forall_mem_cons.mpr ⟨zclOK_17, List.forall_mem_cons.mpr ⟨zclOK_18, List.forall_mem_cons.mpr ⟨zclOK_19, List.forall_mem_cons.mpr ⟨zclOK_20, List.forall_mem_cons.mpr ⟨zclOK_21, List.forall_mem_cons.mpr ⟨zclOK_22, List.forall_mem_cons.mpr ⟨zclOK_23, List.forall_mem_cons.mpr ⟨zclOK_24, fun _ h => absurd h List.not_mem_nil⟩⟩⟩⟩⟩⟩⟩⟩⟩⟩⟩⟩⟩⟩⟩⟩⟩⟩⟩⟩⟩⟩⟩⟩⟩
abbrev zcomps : List String := ["BrushGlass$Move", "BrushGlass$Habit", "BrushGlass$Kind", "BrushGlass$Brush", "BrushGlass$Plan", "BrushGlass$Person", "BrushGlass$Seeing", "BrushGlass$Saying"]
/-! constants -/
def zsl (i : Nat) : Nat := [0, 4, 6, 7, 4, 5, 5, 5, 5, 5, 5, 2, 6, 5, 6, 4, 5, 4, 4, 4, 4, 5, 2, 6, 5, 3].getD i 0
def zsbs : List (List Int) := [[], [98, 117, 121, 115], [99, 111, 108, 111, 117, 114], [99, 111, 108, 111, 117, 114, 115], [100, 97, 121, 115], [102, 105, 114, 115, 116], [103, 108, 97, 115, 115], [107, 101, 101, 112, 115], [108, 105, 107, 101, 115], [109, 101, 115, 115, 121], [109, 111, 118, 101, 115], [110, 111], [112, 101, 114, 115, 111, 110], [112, 108, 97, 99, 101], [112, 108, 97, 99, 101, 115], [114, 97, 114, 101], [114, 101, 97, 99, 104], [115, 97, 121, 115], [115, 101, 101, 110], [115, 116, 97, 121], [115, 117, 114, 101], [116, 97, 107, 101, 115], [116, 111], [117, 110, 108, 105, 107, 101], [119, 101, 97, 114, 115], [121, 101, 115]]
def zsb (i j : Nat) : Int := (zsbs.getD i []).getD j 0
def zstrs : List (String × Nat × String × Nat) := [("BrushGlass$Reader", 59, "", 0), ("BrushGlass$Reader", 90, "glass", 6), ("BrushGlass$Reader", 92, "person", 12), ("BrushGlass$Reader", 94, "stay", 19), ("BrushGlass$Reader", 96, "moves", 10), ("BrushGlass$Reader", 98, "seen", 18), ("BrushGlass$Reader", 100, "says", 17), ("BrushGlass$Reader", 153, "days", 4), ("BrushGlass$Reader", 158, "places", 14), ("BrushGlass$Reader", 162, "colours", 3), ("BrushGlass$Reader", 166, "reach", 16), ("BrushGlass$Reader", 170, "sure", 20), ("BrushGlass$Reader", 172, "colour", 2), ("BrushGlass$Reader", 174, "place", 13), ("BrushGlass$Reader", 176, "messy", 9), ("BrushGlass$Reader", 178, "first", 5), ("BrushGlass$Reader", 180, "unlike", 23), ("BrushGlass$Reader", 182, "rare", 15), ("BrushGlass$Reader", 203, "yes", 25), ("BrushGlass$Reader", 205, "no", 11), ("BrushGlass$Reader", 223, "buys", 1), ("BrushGlass$Reader", 230, "likes", 8), ("BrushGlass$Reader", 234, "keeps", 7), ("BrushGlass$Reader", 238, "wears", 24), ("BrushGlass$Reader", 242, "takes", 21), ("BrushGlass$Reader", 260, "to", 22), ("BrushGlassModel", 184, "glass", 6), ("BrushGlassModel", 186, "person", 12), ("BrushGlassModel", 188, "stay", 19), ("BrushGlassModel", 190, "moves", 10), ("BrushGlassModel", 192, "seen", 18), ("BrushGlassModel", 194, "says", 17), ("BrushGlassModel", 240, "days", 4), ("BrushGlassModel", 245, "places", 14), ("BrushGlassModel", 247, "colours", 3), ("BrushGlassModel", 249, "reach", 16), ("BrushGlassModel", 261, "sure", 20), ("BrushGlassModel", 263, "colour", 2), ("BrushGlassModel", 265, "place", 13), ("BrushGlassModel", 266, "messy", 9), ("BrushGlassModel", 268, "buys", 1), ("BrushGlassModel", 270, "first", 5), ("BrushGlassModel", 272, "unlike", 23), ("BrushGlassModel", 274, "rare", 15), ("BrushGlassModel", 276, "likes", 8), ("BrushGlassModel", 280, "keeps", 7), ("BrushGlassModel", 282, "wears", 24), ("BrushGlassModel", 284, "takes", 21), ("BrushGlassModel", 286, "yes", 25), ("BrushGlassModel", 288, "no", 11), ("BrushGlassModel", 318, "to", 22), ("java/lang/String", 7, "", 0)]
theorem zstrs_lt : ∀ q ∈ zstrs, q.2.2.2 < 26 := by decide +kernel
def znw : List Cond := [Jvm.Cond.methodLinkNest "BrushGlass" (51 : Nat) ({ cls := "BrushGlass$Pairings", name := "<init>", desc := "()V" } : Jvm.MethodName) "BrushGlass",
  Jvm.Cond.methodLinkNest "BrushGlass" (58 : Nat) ({ cls := "BrushGlass$Colouring", name := "<init>", desc := "()V" } : Jvm.MethodName) "BrushGlass",
  Jvm.Cond.methodLinkNest "BrushGlass" (72 : Nat) ({ cls := "BrushGlass$Move", name := "<init>", desc := "()V" } : Jvm.MethodName) "BrushGlass",
  Jvm.Cond.methodLinkNest "BrushGlass$Reader" (132 : Nat) ({ cls := "BrushGlass$Glass", name := "<init>", desc := "()V" } : Jvm.MethodName) "BrushGlass",
  Jvm.Cond.methodLinkNest "BrushGlass$Reader" (36 : Nat) ({ cls := "BrushGlass", name := "in", desc := "(III)Z" } : Jvm.MethodName) "BrushGlass",
  Jvm.Cond.methodLinkNest "BrushGlass$Reader" (269 : Nat) ({ cls := "BrushGlass$Move", name := "<init>", desc := "()V" } : Jvm.MethodName) "BrushGlass",
  Jvm.Cond.methodLinkNest "BrushGlass$Reader" (285 : Nat) ({ cls := "BrushGlass$Seeing", name := "<init>", desc := "()V" } : Jvm.MethodName) "BrushGlass",
  Jvm.Cond.methodLinkNest "BrushGlass$Reader" (300 : Nat) ({ cls := "BrushGlass$Saying", name := "<init>", desc := "()V" } : Jvm.MethodName) "BrushGlass",
  Jvm.Cond.methodLinkNest "BrushGlass$Plan" (27 : Nat) ({ cls := "BrushGlass$Move", name := "<init>", desc := "()V" } : Jvm.MethodName) "BrushGlass",
  Jvm.Cond.methodLinkNest "BrushGlass$Month" (13 : Nat) ({ cls := "BrushGlass$TheFirst", name := "<init>", desc := "()V" } : Jvm.MethodName) "BrushGlass",
  Jvm.Cond.methodLinkNest "BrushGlass$Month" (16 : Nat) ({ cls := "BrushGlass$Unlike", name := "<init>", desc := "()V" } : Jvm.MethodName) "BrushGlass",
  Jvm.Cond.methodLinkNest "BrushGlass$Month" (19 : Nat) ({ cls := "BrushGlass$Rare", name := "<init>", desc := "()V" } : Jvm.MethodName) "BrushGlass",
  Jvm.Cond.methodLinkNest "BrushGlass$Month" (30 : Nat) ({ cls := "BrushGlass$Sure", name := "<init>", desc := "()V" } : Jvm.MethodName) "BrushGlass",
  Jvm.Cond.methodLinkNest "BrushGlass$Month" (33 : Nat) ({ cls := "BrushGlass$ByColour", name := "<init>", desc := "()V" } : Jvm.MethodName) "BrushGlass",
  Jvm.Cond.methodLinkNest "BrushGlass$Month" (36 : Nat) ({ cls := "BrushGlass$ByPlace", name := "<init>", desc := "()V" } : Jvm.MethodName) "BrushGlass",
  Jvm.Cond.methodLinkNest "BrushGlass$Month" (39 : Nat) ({ cls := "BrushGlass$Messy", name := "<init>", desc := "()V" } : Jvm.MethodName) "BrushGlass",
  Jvm.Cond.methodLinkNest "BrushGlass$Month" (69 : Nat) ({ cls := "BrushGlass$Brush", name := "<init>", desc := "()V" } : Jvm.MethodName) "BrushGlass",
  Jvm.Cond.methodLinkNest "BrushGlass$TheFirst" (1 : Nat) ({ cls := "BrushGlass$Habit", name := "<init>", desc := "()V" } : Jvm.MethodName) "BrushGlass",
  Jvm.Cond.methodLinkNest "BrushGlass$Unlike" (1 : Nat) ({ cls := "BrushGlass$Habit", name := "<init>", desc := "()V" } : Jvm.MethodName) "BrushGlass",
  Jvm.Cond.methodLinkNest "BrushGlass$Rare" (1 : Nat) ({ cls := "BrushGlass$Habit", name := "<init>", desc := "()V" } : Jvm.MethodName) "BrushGlass",
  Jvm.Cond.methodLinkNest "BrushGlass$Sure" (1 : Nat) ({ cls := "BrushGlass$Kind", name := "<init>", desc := "()V" } : Jvm.MethodName) "BrushGlass",
  Jvm.Cond.methodLinkNest "BrushGlass$ByColour" (3 : Nat) ({ cls := "BrushGlass$Kind", name := "<init>", desc := "()V" } : Jvm.MethodName) "BrushGlass",
  Jvm.Cond.methodLinkNest "BrushGlass$ByPlace" (3 : Nat) ({ cls := "BrushGlass$Kind", name := "<init>", desc := "()V" } : Jvm.MethodName) "BrushGlass",
  Jvm.Cond.methodLinkNest "BrushGlass$Messy" (1 : Nat) ({ cls := "BrushGlass$Kind", name := "<init>", desc := "()V" } : Jvm.MethodName) "BrushGlass",
  Jvm.Cond.methodLinkNest "BrushGlass$Brush" (33 : Nat) ({ cls := "BrushGlass", name := "in", desc := "(III)Z" } : Jvm.MethodName) "BrushGlass",
  Jvm.Cond.methodLinkNest "BrushGlass$Pairings" (71 : Nat) ({ cls := "BrushGlass", name := "in", desc := "(III)Z" } : Jvm.MethodName) "BrushGlass",
  Jvm.Cond.methodLinkNest "BrushGlass$Pairings" (78 : Nat) ({ cls := "BrushGlass", name := "has", desc := "(II)Z" } : Jvm.MethodName) "BrushGlass",
  Jvm.Cond.methodLinkNest "BrushGlassModel" (359 : Nat) ({ cls := "BrushGlassModel$Glass", name := "<init>", desc := "()V" } : Jvm.MethodName) "BrushGlassModel",
  Jvm.Cond.fieldLinkNest "BrushGlassModel" (200 : Nat) "BrushGlassModel$Glass" "days" "I" "BrushGlassModel",
  Jvm.Cond.fieldLinkNest "BrushGlassModel" (251 : Nat) "BrushGlassModel$Glass" "places" "I" "BrushGlassModel",
  Jvm.Cond.fieldLinkNest "BrushGlassModel" (253 : Nat) "BrushGlassModel$Glass" "colours" "I" "BrushGlassModel",
  Jvm.Cond.fieldLinkNest "BrushGlassModel" (255 : Nat) "BrushGlassModel$Glass" "reach" "I" "BrushGlassModel",
  Jvm.Cond.fieldLinkNest "BrushGlassModel" (219 : Nat) "BrushGlassModel$Glass" "people" "I" "BrushGlassModel",
  Jvm.Cond.fieldLinkNest "BrushGlassModel" (322 : Nat) "BrushGlassModel$Glass" "moves" "I" "BrushGlassModel",
  Jvm.Cond.fieldLinkNest "BrushGlassModel" (336 : Nat) "BrushGlassModel$Glass" "seeings" "I" "BrushGlassModel",
  Jvm.Cond.fieldLinkNest "BrushGlassModel" (344 : Nat) "BrushGlassModel$Glass" "sayings" "I" "BrushGlassModel",
  Jvm.Cond.fieldLinkNest "BrushGlassModel" (290 : Nat) "BrushGlassModel$Glass" "name" "[J" "BrushGlassModel",
  Jvm.Cond.fieldLinkNest "BrushGlassModel" (293 : Nat) "BrushGlassModel$Glass" "kind" "[I" "BrushGlassModel",
  Jvm.Cond.fieldLinkNest "BrushGlassModel" (296 : Nat) "BrushGlassModel$Glass" "habit" "[I" "BrushGlassModel",
  Jvm.Cond.fieldLinkNest "BrushGlassModel" (299 : Nat) "BrushGlassModel$Glass" "liked" "[I" "BrushGlassModel",
  Jvm.Cond.fieldLinkNest "BrushGlassModel" (278 : Nat) "BrushGlassModel$Glass" "likes" "[I" "BrushGlassModel",
  Jvm.Cond.fieldLinkNest "BrushGlassModel" (302 : Nat) "BrushGlassModel$Glass" "keeps" "[I" "BrushGlassModel",
  Jvm.Cond.fieldLinkNest "BrushGlassModel" (304 : Nat) "BrushGlassModel$Glass" "wears" "[I" "BrushGlassModel",
  Jvm.Cond.fieldLinkNest "BrushGlassModel" (312 : Nat) "BrushGlassModel$Glass" "stays" "[I" "BrushGlassModel",
  Jvm.Cond.fieldLinkNest "BrushGlassModel" (319 : Nat) "BrushGlassModel$Glass" "from" "[I" "BrushGlassModel",
  Jvm.Cond.fieldLinkNest "BrushGlassModel" (315 : Nat) "BrushGlassModel$Glass" "to" "[I" "BrushGlassModel",
  Jvm.Cond.fieldLinkNest "BrushGlassModel" (306 : Nat) "BrushGlassModel$Glass" "takes" "[Z" "BrushGlassModel",
  Jvm.Cond.fieldLinkNest "BrushGlassModel" (327 : Nat) "BrushGlassModel$Glass" "moveDay" "[I" "BrushGlassModel",
  Jvm.Cond.fieldLinkNest "BrushGlassModel" (330 : Nat) "BrushGlassModel$Glass" "moveOne" "[I" "BrushGlassModel",
  Jvm.Cond.fieldLinkNest "BrushGlassModel" (333 : Nat) "BrushGlassModel$Glass" "moveTwo" "[I" "BrushGlassModel",
  Jvm.Cond.fieldLinkNest "BrushGlassModel" (341 : Nat) "BrushGlassModel$Glass" "seenDay" "[I" "BrushGlassModel",
  Jvm.Cond.fieldLinkNest "BrushGlassModel" (339 : Nat) "BrushGlassModel$Glass" "seen" "[I" "BrushGlassModel",
  Jvm.Cond.fieldLinkNest "BrushGlassModel" (347 : Nat) "BrushGlassModel$Glass" "saidBy" "[I" "BrushGlassModel",
  Jvm.Cond.fieldLinkNest "BrushGlassModel" (350 : Nat) "BrushGlassModel$Glass" "saidDay" "[I" "BrushGlassModel",
  Jvm.Cond.fieldLinkNest "BrushGlassModel" (353 : Nat) "BrushGlassModel$Glass" "saidPlace" "[I" "BrushGlassModel",
  Jvm.Cond.methodLinkNest "BrushGlass$Person" (32 : Nat) ({ cls := "BrushGlass", name := "in", desc := "(III)Z" } : Jvm.MethodName) "BrushGlass",
  Jvm.Cond.methodLinkNest "BrushGlassModel$Glass" (75 : Nat) ({ cls := "BrushGlassModel", name := "in", desc := "(III)Z" } : Jvm.MethodName) "BrushGlassModel",
  Jvm.Cond.castable "BrushGlass$TheFirst" "BrushGlass$Habit",
  Jvm.Cond.castable "BrushGlass$Unlike" "BrushGlass$Habit",
  Jvm.Cond.castable "BrushGlass$Rare" "BrushGlass$Habit",
  Jvm.Cond.castable "BrushGlass$Sure" "BrushGlass$Kind",
  Jvm.Cond.castable "BrushGlass$ByColour" "BrushGlass$Kind",
  Jvm.Cond.castable "BrushGlass$ByPlace" "BrushGlass$Kind",
  Jvm.Cond.castable "BrushGlass$Messy" "BrushGlass$Kind",
  Jvm.Cond.castable "BrushGlass$Refused" "BrushGlass$Refused",
  Jvm.Cond.castable "java/util/NoSuchElementException" "java/util/NoSuchElementException",
  Jvm.Cond.declares ({ cls := "java/lang/Throwable", name := "<init>", desc := "()V" } : Jvm.MethodName),
  Jvm.Cond.declares ({ cls := "java/lang/Throwable", name := "<init>", desc := "(Ljava/lang/String;)V" } : Jvm.MethodName),
  Jvm.Cond.declares ({ cls := "java/lang/Exception", name := "<init>", desc := "()V" } : Jvm.MethodName),
  Jvm.Cond.declares ({ cls := "java/lang/Exception", name := "<init>", desc := "(Ljava/lang/String;)V" } : Jvm.MethodName),
  Jvm.Cond.declares ({ cls := "java/lang/RuntimeException", name := "<init>", desc := "()V" } : Jvm.MethodName),
  Jvm.Cond.declares ({ cls := "java/lang/RuntimeException", name := "<init>", desc := "(Ljava/lang/String;)V" } : Jvm.MethodName),
  Jvm.Cond.declares ({ cls := "BrushGlass$Habit", name := "colour", desc := "(LBrushGlass$Month;LBrushGlass$Person;)I" } : Jvm.MethodName),
  Jvm.Cond.declares ({ cls := "BrushGlass$Kind", name := "uses", desc := "(LBrushGlass$Month;II)I" } : Jvm.MethodName),
  Jvm.Cond.declares ({ cls := "jdk/internal/access/JavaLangAccess", name := "getUTF16Char", desc := "([BI)C" } : Jvm.MethodName)]
def zNwK (w : Cond) : Prop := (∃ a i x g, w = .methodLinkNest a i x g) ∨ (∃ a i b n d g, w = .fieldLinkNest a i b n d g) ∨ (∃ a b, w = .castable a b) ∨ (∃ x, w = .declares x)
theorem znw_k : ∀ w ∈ znw, zNwK w := List.forall_mem_cons.mpr ⟨Or.inl ⟨_, _, _, _, rfl⟩, List.forall_mem_cons.mpr ⟨Or.inl ⟨_, _, _, _, rfl⟩, List.forall_mem_cons.mpr ⟨Or.inl ⟨_, _, _, _, rfl⟩, List.forall_mem_cons.mpr ⟨Or.inl ⟨_, _, _, _, rfl⟩, List.forall_mem_cons.mpr ⟨Or.inl ⟨_, _, _, _, rfl⟩, List.forall_mem_cons.mpr ⟨Or.inl ⟨_, _, _, _, rfl⟩, List.forall_mem_cons.mpr ⟨Or.inl ⟨_, _, _, _, rfl⟩, List.forall_mem_cons.mpr ⟨Or.inl ⟨_, _, _, _, rfl⟩, List.forall_mem_cons.mpr ⟨Or.inl ⟨_, _, _, _, rfl⟩, List.forall_mem_cons.mpr ⟨Or.inl ⟨_, _, _, _, rfl⟩, List.forall_mem_cons.mpr ⟨Or.inl ⟨_, _, _, _, rfl⟩, List.forall_mem_cons.mpr ⟨Or.inl ⟨_, _, _, _, rfl⟩, List.forall_mem_cons.mpr ⟨Or.inl ⟨_, _, _, _, rfl⟩, List.forall_mem_cons.mpr ⟨Or.inl ⟨_, _, _, _, rfl⟩, List.forall_mem_cons.mpr ⟨Or.inl ⟨_, _, _, _, rfl⟩, List.forall_mem_cons.mpr ⟨Or.inl ⟨_, _, _, _, rfl⟩, List.forall_mem_cons.mpr ⟨Or.inl ⟨_, _, _, _, rfl⟩, List.forall_mem_cons.mpr ⟨Or.inl ⟨_, _, _, _, rfl⟩, List.forall_mem_cons.mpr ⟨Or.inl ⟨_, _, _, _, rfl⟩, List.forall_mem_cons.mpr ⟨Or.inl ⟨_, _, _, _, rfl⟩, List.forall_mem_cons.mpr ⟨Or.inl ⟨_, _, _, _, rfl⟩, List.forall_mem_cons.mpr ⟨Or.inl ⟨_, _, _, _, rfl⟩, List.forall_mem_cons.mpr ⟨Or.inl ⟨_, _, _, _, rfl⟩, List.forall_mem_cons.mpr ⟨Or.inl ⟨_, _, _, _, rfl⟩, List.forall_mem_cons.mpr ⟨Or.inl ⟨_, _, _, _, rfl⟩, List.forall_mem_cons.mpr ⟨Or.inl ⟨_, _, _, _, rfl⟩, List.forall_mem_cons.mpr ⟨Or.inl ⟨_, _, _, _, rfl⟩, List.forall_mem_cons.mpr ⟨Or.inl ⟨_, _, _, _, rfl⟩, List.forall_mem_cons.mpr ⟨Or.inr (Or.inl ⟨_, _, _, _, _, _, rfl⟩), List.forall_mem_cons.mpr ⟨Or.inr (Or.inl ⟨_, _, _, _, _, _, rfl⟩), List.forall_mem_cons.mpr ⟨Or.inr (Or.inl ⟨_, _, _, _, _, _, rfl⟩), List.forall_mem_cons.mpr ⟨Or.inr (Or.inl ⟨_, _, _, _, _, _, rfl⟩), List.forall_mem_cons.mpr ⟨Or.inr (Or.inl ⟨_, _, _, _, _, _, rfl⟩), List.forall_mem_cons.mpr ⟨Or.inr (Or.inl ⟨_, _, _, _, _, _, rfl⟩), List.forall_mem_cons.mpr ⟨Or.inr (Or.inl ⟨_, _, _, _, _, _, rfl⟩), List.forall_mem_cons.mpr ⟨Or.inr (Or.inl ⟨_, _, _, _, _, _, rfl⟩), List.forall_mem_cons.mpr ⟨Or.inr (Or.inl ⟨_, _, _, _, _, _, rfl⟩), List.forall_mem_cons.mpr ⟨Or.inr (Or.inl ⟨_, _, _, _, _, _, rfl⟩), List.forall_mem_cons.mpr ⟨Or.inr (Or.inl ⟨_, _, _, _, _, _, rfl⟩), List.forall_mem_cons.mpr ⟨Or.inr (Or.inl ⟨_, _, _, _, _, _, rfl⟩), List.forall_mem_cons.mpr ⟨Or.inr (Or.inl ⟨_, _, _, _, _, _, rfl⟩), List.forall_mem_cons.mpr ⟨Or.inr (Or.inl ⟨_, _, _, _, _, _, rfl⟩), List.forall_mem_cons.mpr ⟨Or.inr (Or.inl ⟨_, _, _, _, _, _, rfl⟩), List.forall_mem_cons.mpr ⟨Or.inr (Or.inl ⟨_, _, _, _, _, _, rfl⟩), List.forall_mem_cons.mpr ⟨Or.inr (Or.inl ⟨_, _, _, _, _, _, rfl⟩), List.forall_mem_cons.mpr ⟨Or.inr (Or.inl ⟨_, _, _, _, _, _, rfl⟩), List.forall_mem_cons.mpr ⟨Or.inr (Or.inl ⟨_, _, _, _, _, _, rfl⟩), List.forall_mem_cons.mpr ⟨Or.inr (Or.inl ⟨_, _, _, _, _, _, rfl⟩), List.forall_mem_cons.mpr ⟨Or.inr (Or.inl ⟨_, _, _, _, _, _, rfl⟩), List.forall_mem_cons.mpr ⟨Or.inr (Or.inl ⟨_, _, _, _, _, _, rfl⟩), List.forall_mem_cons.mpr ⟨Or.inr (Or.inl ⟨_, _, _, _, _, _, rfl⟩), List.forall_mem_cons.mpr ⟨Or.inr (Or.inl ⟨_, _, _, _, _, _, rfl⟩), List.forall_mem_cons.mpr ⟨Or.inr (Or.inl ⟨_, _, _, _, _, _, rfl⟩), List.forall_mem_cons.mpr ⟨Or.inr (Or.inl ⟨_, _, _, _, _, _, rfl⟩), List.forall_mem_cons.mpr ⟨Or.inr (Or.inl ⟨_, _, _, _, _, _, rfl⟩), List.forall_mem_cons.mpr ⟨Or.inl ⟨_, _, _, _, rfl⟩, List.forall_mem_cons.mpr ⟨Or.inl ⟨_, _, _, _, rfl⟩, List.forall_mem_cons.mpr ⟨Or.inr (Or.inr (Or.inl ⟨_, _, rfl⟩)), List.forall_mem_cons.mpr ⟨Or.inr (Or.inr (Or.inl ⟨_, _, rfl⟩)), List.forall_mem_cons.mpr ⟨Or.inr (Or.inr (Or.inl ⟨_, _, rfl⟩)), List.forall_mem_cons.mpr ⟨Or.inr (Or.inr (Or.inl ⟨_, _, rfl⟩)), List.forall_mem_cons.mpr ⟨Or.inr (Or.inr (Or.inl ⟨_, _, rfl⟩)), List.forall_mem_cons.mpr ⟨Or.inr (Or.inr (Or.inl ⟨_, _, rfl⟩)), List.forall_mem_cons.mpr ⟨Or.inr (Or.inr (Or.inl ⟨_, _, rfl⟩)), List.forall_mem_cons.mpr ⟨Or.inr (Or.inr (Or.inl ⟨_, _, rfl⟩)), List.forall_mem_cons.mpr ⟨Or.inr (Or.inr (Or.inl ⟨_, _, rfl⟩)), List.forall_mem_cons.mpr ⟨Or.inr (Or.inr (Or.inr ⟨_, rfl⟩)), List.forall_mem_cons.mpr ⟨Or.inr (Or.inr (Or.inr ⟨_, rfl⟩)), List.forall_mem_cons.mpr ⟨Or.inr (Or.inr (Or.inr ⟨_, rfl⟩)), List.forall_mem_cons.mpr ⟨Or.inr (Or.inr (Or.inr ⟨_, rfl⟩)), List.forall_mem_cons.mpr ⟨Or.inr (Or.inr (Or.inr ⟨_, rfl⟩)), List.forall_mem_cons.mpr ⟨Or.inr (Or.inr (Or.inr ⟨_, rfl⟩)), List.forall_mem_cons.mpr ⟨Or.inr (Or.inr (Or.inr ⟨_, rfl⟩)), List.forall_mem_cons.mpr ⟨Or.inr (Or.inr (Or.inr ⟨_, rfl⟩)), List.forall_mem_cons.mpr ⟨Or.inr (Or.inr (Or.inr ⟨_, rfl⟩)), fun _ h => absurd h List.not_mem_nil⟩⟩⟩⟩⟩⟩⟩⟩⟩⟩⟩⟩⟩⟩⟩⟩⟩⟩⟩⟩⟩⟩⟩⟩⟩⟩⟩⟩⟩⟩⟩⟩⟩⟩⟩⟩⟩⟩⟩⟩⟩⟩⟩⟩⟩⟩⟩⟩⟩⟩⟩⟩⟩⟩⟩⟩⟩⟩⟩⟩⟩⟩⟩⟩⟩⟩⟩⟩⟩⟩⟩⟩⟩⟩⟩
theorem znw_tbl : ∀ w ∈ znw, w ∈ lw_tbl := List.forall_mem_cons.mpr ⟨q493, List.forall_mem_cons.mpr ⟨q531, List.forall_mem_cons.mpr ⟨q548, List.forall_mem_cons.mpr ⟨q644, List.forall_mem_cons.mpr ⟨q734, List.forall_mem_cons.mpr ⟨q1089, List.forall_mem_cons.mpr ⟨q1104, List.forall_mem_cons.mpr ⟨q1124, List.forall_mem_cons.mpr ⟨q294, List.forall_mem_cons.mpr ⟨q353, List.forall_mem_cons.mpr ⟨q363, List.forall_mem_cons.mpr ⟨q370, List.forall_mem_cons.mpr ⟨q379, List.forall_mem_cons.mpr ⟨q389, List.forall_mem_cons.mpr ⟨q396, List.forall_mem_cons.mpr ⟨q403, List.forall_mem_cons.mpr ⟨q411, List.forall_mem_cons.mpr ⟨q356, List.forall_mem_cons.mpr ⟨q366, List.forall_mem_cons.mpr ⟨q373, List.forall_mem_cons.mpr ⟨q382, List.forall_mem_cons.mpr ⟨q392, List.forall_mem_cons.mpr ⟨q399, List.forall_mem_cons.mpr ⟨q406, List.forall_mem_cons.mpr ⟨q1219, List.forall_mem_cons.mpr ⟨q1593, List.forall_mem_cons.mpr ⟨q1602, List.forall_mem_cons.mpr ⟨q1926, List.forall_mem_cons.mpr ⟨q1930, List.forall_mem_cons.mpr ⟨q1931, List.forall_mem_cons.mpr ⟨q1932, List.forall_mem_cons.mpr ⟨q1933, List.forall_mem_cons.mpr ⟨q1935, List.forall_mem_cons.mpr ⟨q1936, List.forall_mem_cons.mpr ⟨q1937, List.forall_mem_cons.mpr ⟨q1938, List.forall_mem_cons.mpr ⟨q1940, List.forall_mem_cons.mpr ⟨q1942, List.forall_mem_cons.mpr ⟨q1944, List.forall_mem_cons.mpr ⟨q1946, List.forall_mem_cons.mpr ⟨q1948, List.forall_mem_cons.mpr ⟨q1950, List.forall_mem_cons.mpr ⟨q1952, List.forall_mem_cons.mpr ⟨q1954, List.forall_mem_cons.mpr ⟨q1956, List.forall_mem_cons.mpr ⟨q1958, List.forall_mem_cons.mpr ⟨q1960, List.forall_mem_cons.mpr ⟨q1962, List.forall_mem_cons.mpr ⟨q1964, List.forall_mem_cons.mpr ⟨q1966, List.forall_mem_cons.mpr ⟨q1968, List.forall_mem_cons.mpr ⟨q1970, List.forall_mem_cons.mpr ⟨q1972, List.forall_mem_cons.mpr ⟨q1974, List.forall_mem_cons.mpr ⟨q1976, List.forall_mem_cons.mpr ⟨q1202, List.forall_mem_cons.mpr ⟨q2209, List.forall_mem_cons.mpr ⟨q2617, List.forall_mem_cons.mpr ⟨q2618, List.forall_mem_cons.mpr ⟨q2619, List.forall_mem_cons.mpr ⟨q2620, List.forall_mem_cons.mpr ⟨q2621, List.forall_mem_cons.mpr ⟨q2622, List.forall_mem_cons.mpr ⟨q2623, List.forall_mem_cons.mpr ⟨q181, List.forall_mem_cons.mpr ⟨q1726, List.forall_mem_cons.mpr ⟨q186, List.forall_mem_cons.mpr ⟨q187, List.forall_mem_cons.mpr ⟨q184, List.forall_mem_cons.mpr ⟨q185, List.forall_mem_cons.mpr ⟨q182, List.forall_mem_cons.mpr ⟨q183, List.forall_mem_cons.mpr ⟨q1170, List.forall_mem_cons.mpr ⟨q1233, List.forall_mem_cons.mpr ⟨q855, fun _ h => absurd h List.not_mem_nil⟩⟩⟩⟩⟩⟩⟩⟩⟩⟩⟩⟩⟩⟩⟩⟩⟩⟩⟩⟩⟩⟩⟩⟩⟩⟩⟩⟩⟩⟩⟩⟩⟩⟩⟩⟩⟩⟩⟩⟩⟩⟩⟩⟩⟩⟩⟩⟩⟩⟩⟩⟩⟩⟩⟩⟩⟩⟩⟩⟩⟩⟩⟩⟩⟩⟩⟩⟩⟩⟩⟩⟩⟩⟩⟩
/-! methods: code, class, name, answer -/
abbrev zMi : Type := ByteArray × String × MethodName × Option FieldType
def zis_0 : List zMi := [(cJ0_init_2, RJ0, yJ0_init_2, none), (cJ1_init, RJ1, yJ1_init, none), (cJ2_init, RJ2, yJ2_init, none), (cX3_init, RX3, yX3_init, none), (cX2_init, RX2, yX2_init, none), (cX5_init, RX5, yX5_init, none), (cX4_init, RX4, yX4_init, none), (cX7_init, RX7, yX7_init, none), (cX8_init, RX8, yX8_init, none), (cX9_init, RX9, yX9_init, none), (cX10_init, RX10, yX10_init, none), (cX11_init, RX11, yX11_init, none), (cX12_init, RX12, yX12_init, none), (cX13_init, RX13, yX13_init, none), (cX14_init, RX14, yX14_init, none), (cX15_init, RX15, yX15_init, none), (cX16_init, RX16, yX16_init, none), (cX6_init, RX6, yX6_init, none), (cX17_init, RX17, yX17_init, none), (cX18_init, RX18, yX18_init, none)]
def zis_1 : List zMi := [(cX1_init, RX1, yX1_init, none), (cX19_init, RX19, yX19_init, none), (cX1_bytes, RX1, yX1_bytes, none), (cX1_feed, RX1, yX1_feed, some FieldType.int), (cX19_feed, RX19, yX19_feed, some FieldType.int), (cX1_anew, RX1, yX1_anew, none), (cX1_in, RX1, yX1_in, some FieldType.boolean), (cX1_no, RX1, yX1_no, some FieldType.int), (cX20_init, RX20, yX20_init, none), (cX2_see, RX2, yX2_see, some FieldType.int), (cX2_isSmall, RX2, yX2_isSmall, some FieldType.boolean), (cJ4_checkFromIndexSize, RJ4, yJ4_checkFromIndexSize, some FieldType.int), (cJ3_checkBoundsOffCount, RJ3, yJ3_checkBoundsOffCount, some FieldType.int), (cJ3_rangeCheck, RJ3, yJ3_rangeCheck, some (FieldType.object "java/lang/Void")), (cJ5_compress_2, RJ5, yJ5_compress_2, some FieldType.int), (cJ5_compress, RJ5, yJ5_compress, some (FieldType.array FieldType.byte)), (cJ5_coderFromArrayLen, RJ5, yJ5_coderFromArrayLen, some FieldType.byte), (cJ3_init_2, RJ3, yJ3_init_2, none), (cJ3_init, RJ3, yJ3_init, none), (cX2_isDigit, RX2, yX2_isDigit, some FieldType.boolean)]
def zis_2 : List zMi := [(cX2_next, RX2, yX2_next, none), (cX3_at, RX3, yX3_at, some (FieldType.object "BrushGlass$Refused")), (cX2_fail, RX2, yX2_fail, some (FieldType.object "BrushGlass$Refused")), (cJ3_isLatin1, RJ3, yJ3_isLatin1, some FieldType.boolean), (cJ7_signedHashCode, RJ7, yJ7_signedHashCode, some FieldType.int), (cJ7_vectorizedHashCode, RJ7, yJ7_vectorizedHashCode, some FieldType.int), (cJ6_hashCode, RJ6, yJ6_hashCode, some FieldType.int), (cJ3_hashCode, RJ3, yJ3_hashCode, some FieldType.int), (cJ6_equals, RJ6, yJ6_equals, some FieldType.boolean), (cJ3_equals, RJ3, yJ3_equals, some FieldType.boolean), (cX2_takes, RX2, yX2_takes, some FieldType.boolean), (cX2_must, RX2, yX2_must, none), (cX2_numberHere, RX2, yX2_numberHere, some FieldType.int), (cX2_number, RX2, yX2_number, some FieldType.int), (cX2_after, RX2, yX2_after, some FieldType.int), (cX2_glassLine, RX2, yX2_glassLine, none), (cX2_begins, RX2, yX2_begins, none), (cX2_mustName, RX2, yX2_mustName, none), (cX20_find, RX20, yX20_find, some (FieldType.object "BrushGlass$Person")), (cX2_newName, RX2, yX2_newName, some (FieldType.object "java/lang/String"))]
def zis_3 : List zMi := [(cX21_init, RX21, yX21_init, none), (cX2_kind, RX2, yX2_kind, some FieldType.int), (cX2_habit, RX2, yX2_habit, some FieldType.int), (cJ3_coder, RJ3, yJ3_coder, some FieldType.byte), (cJ3_length, RJ3, yJ3_length, some FieldType.int), (cJ4_checkIndex, RJ4, yJ4_checkIndex, some FieldType.int), (cJ3_checkIndex, RJ3, yJ3_checkIndex, none), (cJ6_charAt, RJ6, yJ6_charAt, some FieldType.char), (cJ3_charAt, RJ3, yJ3_charAt, some FieldType.char), (cX21_doesLike, RX21, yX21_doesLike, some FieldType.boolean), (cX2_order, RX2, yX2_order, none), (cX2_answer, RX2, yX2_answer, some FieldType.boolean), (cX2_personLine, RX2, yX2_personLine, none), (cX2_personHere, RX2, yX2_personHere, some (FieldType.object "BrushGlass$Person")), (cX2_stay, RX2, yX2_stay, none), (cX2_day, RX2, yX2_day, some FieldType.int), (cX5_be, RX5, yX5_be, none), (cX2_moves, RX2, yX2_moves, none), (cX22_init, RX22, yX22_init, none), (cX2_seen, RX2, yX2_seen, none)]
def zis_4 : List zMi := [(cX23_init, RX23, yX23_init, none), (cX2_person, RX2, yX2_person, some (FieldType.object "BrushGlass$Person")), (cX2_says, RX2, yX2_says, none), (cX2_line, RX2, yX2_line, none), (cX2_read, RX2, yX2_read, some (FieldType.object "BrushGlass$Glass")), (cX4_begin, RX4, yX4_begin, none), (cX21_comes, RX21, yX21_comes, some FieldType.boolean), (cX8_colour, RX8, yX8_colour, some FieldType.int), (cX6_thereOf, RX6, yX6_thereOf, some FieldType.int), (cX9_colour, RX9, yX9_colour, some FieldType.int), (cX10_colour, RX10, yX10_colour, some FieldType.int), (cX16_begin, RX16, yX16_begin, none), (cX6_firstFree, RX6, yX6_firstFree, some FieldType.int), (cX6_puts, RX6, yX6_puts, none), (cX6_buys, RX6, yX6_buys, none), (cX6_comes, RX6, yX6_comes, none), (cX21_isHere, RX21, yX21_isHere, some FieldType.boolean), (cX6_isOld, RX6, yX6_isOld, some FieldType.boolean), (cX16_isThere, RX16, yX16_isThere, some FieldType.boolean), (cX6_leaves, RX6, yX6_leaves, none)]
def zis_5 : List zMi := [(cX6_renews, RX6, yX6_renews, none), (cX6_moves, RX6, yX6_moves, none), (cX4_move, RX4, yX4_move, some (FieldType.object "BrushGlass$Move")), (cX12_uses, RX12, yX12_uses, some FieldType.int), (cX6_stands, RX6, yX6_stands, some FieldType.int), (cX6_brush, RX6, yX6_brush, some (FieldType.object "BrushGlass$Brush")), (cX13_uses, RX13, yX13_uses, some FieldType.int), (cX14_uses, RX14, yX14_uses, some FieldType.int), (cX15_uses, RX15, yX15_uses, some FieldType.int), (cX11_isMessy, RX11, yX11_isMessy, some FieldType.boolean), (cX15_isMessy, RX15, yX15_isMessy, some FieldType.boolean), (cX6_use, RX6, yX6_use, some FieldType.int), (cX6_keep, RX6, yX6_keep, none), (cX21_goes, RX21, yX21_goes, some FieldType.boolean), (cX6_goes, RX6, yX6_goes, none), (cX6_run, RX6, yX6_run, none), (cX1_runMonth, RX1, yX1_runMonth, none), (cX1_glass, RX1, yX1_glass, some FieldType.int), (cX19_refused, RX19, yX19_refused, some FieldType.int), (cX24_init, RX24, yX24_init, none)]
def zis_6 : List zMi := [(cX19_byteAt, RX19, yX19_byteAt, some FieldType.int), (cX19_isLetter, RX19, yX19_isLetter, some FieldType.boolean), (cX19_isDigit, RX19, yX19_isDigit, some FieldType.boolean), (cX19_goesOn, RX19, yX19_goesOn, none), (cX19_wordOf, RX19, yX19_wordOf, some FieldType.long), (cX19_isWord, RX19, yX19_isWord, some FieldType.boolean), (cX19_flaw, RX19, yX19_flaw, none), (cX19_needs, RX19, yX19_needs, none), (cX19_in, RX19, yX19_in, some FieldType.boolean), (cX19_bounded, RX19, yX19_bounded, some FieldType.int), (cX19_readWhole, RX19, yX19_readWhole, some FieldType.int), (cX19_readPart, RX19, yX19_readPart, some FieldType.int), (cX19_readGlass, RX19, yX19_readGlass, none), (cX19_begins, RX19, yX19_begins, none), (cX19_isName, RX19, yX19_isName, some FieldType.boolean), (cX24_find, RX24, yX24_find, some FieldType.int), (cX19_readPerson, RX19, yX19_readPerson, none), (cX19_known, RX19, yX19_known, some FieldType.int), (cX19_readStay, RX19, yX19_readStay, none), (cX19_needsComma, RX19, yX19_needsComma, none)]
def zis_7 : List zMi := [(cX19_readMove, RX19, yX19_readMove, none), (cX19_readSeen, RX19, yX19_readSeen, none), (cX19_readSays, RX19, yX19_readSays, none), (cX19_readLine, RX19, yX19_readLine, none), (cX19_eatsSemicolon, RX19, yX19_eatsSemicolon, some FieldType.boolean), (cX19_readAll, RX19, yX19_readAll, none), (cX19_good, RX19, yX19_good, some FieldType.int), (cX19_glass, RX19, yX19_glass, some FieldType.int), (cX1_fault, RX1, yX1_fault, some FieldType.int), (cX19_fault, RX19, yX19_fault, some FieldType.int), (cX1_where, RX1, yX1_where, some FieldType.int), (cX19_where, RX19, yX19_where, some FieldType.int), (cX1_isPerson, RX1, yX1_isPerson, some FieldType.boolean), (cX1_person, RX1, yX1_person, some FieldType.int), (cX19_isPerson, RX19, yX19_isPerson, some FieldType.boolean), (cX19_person, RX19, yX19_person, some FieldType.int), (cX1_likes, RX1, yX1_likes, some FieldType.int), (cX19_likes, RX19, yX19_likes, some FieldType.int), (cX1_stay, RX1, yX1_stay, some FieldType.int), (cX19_stay, RX19, yX19_stay, some FieldType.int)]
def zis_8 : List zMi := [(cX1_isDay, RX1, yX1_isDay, some FieldType.boolean), (cX1_dayWhy, RX1, yX1_dayWhy, some FieldType.int), (cX20_here, RX20, yX20_here, some FieldType.int), (cX1_here, RX1, yX1_here, some FieldType.int), (cX19_isDay, RX19, yX19_isDay, some FieldType.boolean), (cX19_refusesDay, RX19, yX19_refusesDay, some FieldType.int), (cX24_isHere, RX24, yX24_isHere, some FieldType.boolean), (cX24_here, RX24, yX24_here, some FieldType.int), (cX19_here, RX19, yX19_here, some FieldType.int), (cX1_ones, RX1, yX1_ones, some FieldType.int), (cX1_most, RX1, yX1_most, some FieldType.int), (cX19_bits, RX19, yX19_bits, some FieldType.int), (cX19_most, RX19, yX19_most, some FieldType.int), (cX1_brushes, RX1, yX1_brushes, some FieldType.int), (cX24_comes, RX24, yX24_comes, some FieldType.boolean), (cX19_habitOf, RX19, yX19_habitOf, some FieldType.int), (cX19_inGlass, RX19, yX19_inGlass, some FieldType.int), (cX19_chosen, RX19, yX19_chosen, some FieldType.int), (cX19_firstFree, RX19, yX19_firstFree, some FieldType.int), (cX19_puts, RX19, yX19_puts, none)]
def zis_9 : List zMi := [(cX19_buys, RX19, yX19_buys, none), (cX19_exchanges, RX19, yX19_exchanges, none), (cX19_kindOf, RX19, yX19_kindOf, some FieldType.int), (cX19_brushesAt, RX19, yX19_brushesAt, none), (cX24_goes, RX24, yX24_goes, some FieldType.boolean), (cX19_day, RX19, yX19_day, none), (cX19_runsBy, RX19, yX19_runsBy, none), (cX19_runs, RX19, yX19_runs, none), (cX19_brushes, RX19, yX19_brushes, some FieldType.int), (cX1_brush, RX1, yX1_brush, some FieldType.int), (cX19_brush, RX19, yX19_brush, some FieldType.int), (cX1_isPlace, RX1, yX1_isPlace, some FieldType.boolean), (cX6_at, RX6, yX6_at, some FieldType.int), (cX1_at, RX1, yX1_at, some FieldType.int), (cX19_isPlace, RX19, yX19_isPlace, some FieldType.boolean), (cX19_standsIn, RX19, yX19_standsIn, some FieldType.int), (cX19_at, RX19, yX19_at, some FieldType.int), (cX6_colour, RX6, yX6_colour, some FieldType.int), (cX1_colour, RX1, yX1_colour, some FieldType.int), (cX19_colourIn, RX19, yX19_colourIn, some FieldType.int)]
def zis_10 : List zMi := [(cX19_colour, RX19, yX19_colour, some FieldType.int), (cX6_whose, RX6, yX6_whose, some FieldType.int), (cX1_whose, RX1, yX1_whose, some FieldType.int), (cX19_whose, RX19, yX19_whose, some FieldType.int), (cX6_place, RX6, yX6_place, some FieldType.int), (cX1_place, RX1, yX1_place, some FieldType.int), (cX19_place, RX19, yX19_place, some FieldType.int), (cX6_there, RX6, yX6_there, some FieldType.int), (cX1_many, RX1, yX1_many, some FieldType.int), (cX19_there, RX19, yX19_there, some FieldType.int), (cX19_many, RX19, yX19_many, some FieldType.int), (cX1_full, RX1, yX1_full, some FieldType.int), (cX19_full, RX19, yX19_full, some FieldType.int), (cX6_used, RX6, yX6_used, some FieldType.int), (cX1_uses, RX1, yX1_uses, some FieldType.int), (cX19_useOf, RX19, yX19_useOf, some FieldType.int), (cX19_uses, RX19, yX19_uses, some FieldType.int), (cX1_wet, RX1, yX1_wet, some FieldType.int), (cX19_wet, RX19, yX19_wet, some FieldType.int), (cX6_isShared, RX6, yX6_isShared, some FieldType.boolean)]
def zis_11 : List zMi := [(cX6_shared, RX6, yX6_shared, some FieldType.int), (cX1_shared, RX1, yX1_shared, some FieldType.int), (cX19_isShared, RX19, yX19_isShared, some FieldType.boolean), (cX19_sharedIn, RX19, yX19_sharedIn, some FieldType.int), (cX19_shared, RX19, yX19_shared, some FieldType.int), (cX6_sharedAll, RX6, yX6_sharedAll, some FieldType.int), (cX1_sharedAll, RX1, yX1_sharedAll, some FieldType.int), (cX19_sharedInAll, RX19, yX19_sharedInAll, some FieldType.int), (cX19_sharedAll, RX19, yX19_sharedAll, some FieldType.int), (cX1_suffers, RX1, yX1_suffers, some FieldType.int), (cX19_suffers, RX19, yX19_suffers, some FieldType.int), (cX1_sinsOf, RX1, yX1_sinsOf, some FieldType.int), (cX1_sins, RX1, yX1_sins, some FieldType.int), (cX19_sinsOf, RX19, yX19_sinsOf, some FieldType.int), (cX19_sins, RX19, yX19_sins, some FieldType.int), (cX6_ofColour, RX6, yX6_ofColour, some FieldType.int), (cX6_alike, RX6, yX6_alike, some FieldType.int), (cX1_alike, RX1, yX1_alike, some FieldType.int), (cX19_alikeIn, RX19, yX19_alikeIn, some FieldType.int), (cX19_alike, RX19, yX19_alike, some FieldType.int)]
def zis_12 : List zMi := [(cX6_alikeDays, RX6, yX6_alikeDays, some FieldType.int), (cX1_alikeDays, RX1, yX1_alikeDays, some FieldType.int), (cX19_alikeInAll, RX19, yX19_alikeInAll, some FieldType.int), (cX19_alikeDays, RX19, yX19_alikeDays, some FieldType.int), (cX1_notches, RX1, yX1_notches, some FieldType.int), (cX19_notches, RX19, yX19_notches, some FieldType.int), (cX5_become, RX5, yX5_become, none), (cX4_become, RX4, yX4_become, none), (cX4_allByHabit, RX4, yX4_allByHabit, none), (cX1_daysBy, RX1, yX1_daysBy, some FieldType.int), (cX1_byHabit, RX1, yX1_byHabit, some FieldType.int), (cX19_daysByHabit, RX19, yX19_daysByHabit, some FieldType.int), (cX19_byHabit, RX19, yX19_byHabit, some FieldType.int), (cX1_bestHabit, RX1, yX1_bestHabit, some FieldType.int), (cX19_bestHabit, RX19, yX19_bestHabit, some FieldType.int), (cX4_allOfKind, RX4, yX4_allOfKind, none), (cX1_sharedBy, RX1, yX1_sharedBy, some FieldType.int), (cX1_byKind, RX1, yX1_byKind, some FieldType.int), (cX19_sharedByKind, RX19, yX19_sharedByKind, some FieldType.int), (cX19_byKind, RX19, yX19_byKind, some FieldType.int)]
def zis_13 : List zMi := [(cX1_bestKind, RX1, yX1_bestKind, some FieldType.int), (cX19_bestKind, RX19, yX19_bestKind, some FieldType.int), (cX20_doMeet, RX20, yX20_doMeet, some FieldType.boolean), (cX18_isRight, RX18, yX18_isRight, some FieldType.boolean), (cX18_tries, RX18, yX18_tries, some FieldType.boolean), (cX18_find, RX18, yX18_find, none), (cX1_colours, RX1, yX1_colours, some FieldType.int), (cX19_areTogether, RX19, yX19_areTogether, some FieldType.boolean), (cX19_isGood, RX19, yX19_isGood, some FieldType.boolean), (cX19_gives, RX19, yX19_gives, some FieldType.boolean), (cX19_fewestColours, RX19, yX19_fewestColours, some FieldType.int), (cX19_colours, RX19, yX19_colours, some FieldType.int), (cX18_of, RX18, yX18_of, some FieldType.int), (cX1_colourOf, RX1, yX1_colourOf, some FieldType.int), (cX19_colourOf, RX19, yX19_colourOf, some FieldType.int), (cX6_wrong, RX6, yX6_wrong, some FieldType.int), (cX1_judge, RX1, yX1_judge, some FieldType.int), (cX19_wrongPlace, RX19, yX19_wrongPlace, some FieldType.int), (cX19_firstWrong, RX19, yX19_firstWrong, some FieldType.int), (cX19_judge, RX19, yX19_judge, some FieldType.int)]
def zis_14 : List zMi := [(cX1_judgeAt, RX1, yX1_judgeAt, some FieldType.int), (cX19_judgeAt, RX19, yX19_judgeAt, some FieldType.int), (cX6_isRight, RX6, yX6_isRight, some FieldType.boolean), (cX1_explainWhy, RX1, yX1_explainWhy, some FieldType.int), (cX1_explained, RX1, yX1_explained, some FieldType.int), (cX1_explains, RX1, yX1_explains, some FieldType.int), (cX19_refusesExplain, RX19, yX19_refusesExplain, some FieldType.int), (cX19_explaining, RX19, yX19_explaining, some FieldType.int), (cX19_explains, RX19, yX19_explains, some FieldType.int), (cX1_explain, RX1, yX1_explain, some FieldType.int), (cX19_explain, RX19, yX19_explain, some FieldType.int), (cX1_isSo, RX1, yX1_isSo, some FieldType.boolean), (cX1_isTrue, RX1, yX1_isTrue, some FieldType.int), (cX19_holds, RX19, yX19_holds, some FieldType.boolean), (cX19_isTrue, RX19, yX19_isTrue, some FieldType.int), (cX1_wrongOnes, RX1, yX1_wrongOnes, some FieldType.int), (cX19_wrongOnes, RX19, yX19_wrongOnes, some FieldType.int), (cX17_isIn, RX17, yX17_isIn, some FieldType.boolean), (cX1_has, RX1, yX1_has, some FieldType.boolean), (cX17_end, RX17, yX17_end, none)]
def zis_15 : List zMi := [(cX17_canHave, RX17, yX17_canHave, some FieldType.boolean), (cX17_tries, RX17, yX17_tries, none), (cX17_lay, RX17, yX17_lay, none), (cX1_pairings, RX1, yX1_pairings, some FieldType.int), (cX19_laysWho, RX19, yX19_laysWho, none), (cX19_bit, RX19, yX19_bit, some FieldType.boolean), (cX19_mayHave, RX19, yX19_mayHave, some FieldType.boolean), (cX19_pairs, RX19, yX19_pairs, some FieldType.int), (cX19_pairings, RX19, yX19_pairings, some FieldType.int), (cX17_could, RX17, yX17_could, some FieldType.int), (cX1_could, RX1, yX1_could, some FieldType.int), (cX19_could, RX19, yX19_could, some FieldType.int), (cX17_surely, RX17, yX17_surely, some FieldType.int), (cX1_surely, RX1, yX1_surely, some FieldType.int), (cX19_surely, RX19, yX19_surely, some FieldType.int), (cX17_all, RX17, yX17_all, some FieldType.int), (cX1_ask, RX1, yX1_ask, some FieldType.int), (cX19_ask, RX19, yX19_ask, some FieldType.int), (cX1_drifted, RX1, yX1_drifted, some FieldType.long), (cX1_dividing, RX1, yX1_dividing, some FieldType.long)]
def zis_16 : List zMi := [(cX1_drift, RX1, yX1_drift, some FieldType.long), (cX19_drift, RX19, yX19_drift, some FieldType.long), (cX1_yes, RX1, yX1_yes, some FieldType.boolean), (cX1_note, RX1, yX1_note, none), (cX4_add, RX4, yX4_add, none), (cX1_done, RX1, yX1_done, some FieldType.boolean), (cX1_move, RX1, yX1_move, some FieldType.boolean), (cX19_denied, RX19, yX19_denied, some FieldType.boolean), (cX19_keepsAll, RX19, yX19_keepsAll, none), (cX19_adds, RX19, yX19_adds, none), (cX19_granted, RX19, yX19_granted, some FieldType.boolean), (cX19_move, RX19, yX19_move, some FieldType.boolean), (cX4_draw, RX4, yX4_draw, some FieldType.int), (cX1_shake, RX1, yX1_shake, some FieldType.int), (cX19_drawn, RX19, yX19_drawn, some FieldType.int), (cX19_shake, RX19, yX19_shake, some FieldType.int), (cX1_kind, RX1, yX1_kind, some FieldType.boolean), (cX19_changes, RX19, yX19_changes, some FieldType.boolean), (cX19_kind, RX19, yX19_kind, some FieldType.boolean), (cX1_habit, RX1, yX1_habit, some FieldType.boolean)]
def zis_17 : List zMi := [(cX19_habit, RX19, yX19_habit, some FieldType.boolean), (cX1_keep, RX1, yX1_keep, some FieldType.boolean), (cX19_keep, RX19, yX19_keep, some FieldType.boolean), (cX1_seed, RX1, yX1_seed, some FieldType.boolean), (cX19_seed, RX19, yX19_seed, some FieldType.boolean), (cX1_undo, RX1, yX1_undo, some FieldType.boolean), (cX19_undo, RX19, yX19_undo, some FieldType.boolean), (cX1_mark, RX1, yX1_mark, some FieldType.int), (cX19_mark, RX19, yX19_mark, some FieldType.int), (cX1_back, RX1, yX1_back, some FieldType.boolean), (cX19_back, RX19, yX19_back, some FieldType.boolean), (cX1_led, RX1, yX1_led, some FieldType.int), (cX0_led, RX0, yX0_led, some FieldType.int), (cX19_led, RX19, yX19_led, some FieldType.int), (cX19_thrown, RX19, yX19_thrown, some FieldType.int), (cX1_size, RX1, yX1_size, some FieldType.int), (cX19_size, RX19, yX19_size, some FieldType.int), (cX1_trouble, RX1, yX1_trouble, some FieldType.int), (cX19_trouble, RX19, yX19_trouble, some FieldType.int), (cL_law, RX0, x, some FieldType.boolean)]
def zis : List (List zMi) := [zis_0, zis_1, zis_2, zis_3, zis_4, zis_5, zis_6, zis_7, zis_8, zis_9, zis_10, zis_11, zis_12, zis_13, zis_14, zis_15, zis_16, zis_17]
def zinf (M : Nat) : zMi := (zis.getD (M / 20) []).getD (M % 20) (⟨#[]⟩, "", x, none)
abbrev zby (M : Nat) : ByteArray := (zinf M).1
abbrev zow (M : Nat) : String := (zinf M).2.1
abbrev znm (M : Nat) : MethodName := (zinf M).2.2.1
abbrev zrt (M : Nat) : Option FieldType := (zinf M).2.2.2
def zhd (M : Nat) : Option (List (Nat × Nat × Nat × Nat)) := match Nat.beq M 117, Nat.beq M 352 with
  | true, _ => some [((32 : Nat), (44 : Nat), (47 : Nat), (116 : Nat))]
  | _, true => some [((0 : Nat), (9 : Nat), (12 : Nat), (13 : Nat))]
  | _, _ => none
/-- no field is a float, a double, a char or a short -/
theorem zclT_0 : ∀ j, j < 3 → ∀ ty, parseFieldDescriptor (TX5 j).2.2.1 = some ty → ty ≠ .float ∧ ty ≠ .double ∧ ty ≠ .char ∧ ty ≠ .short := by
  intro j hj ty h
  rw [tyX5_ok j hj] at h
  cases h
  revert j
  decide +kernel
theorem zclT_1 : ∀ j, j < 3 → ∀ ty, parseFieldDescriptor (TX5 j).2.2.1 = some ty → ty ≠ .float ∧ ty ≠ .double ∧ ty ≠ .char ∧ ty ≠ .short := by
  intro j hj ty h
  rw [tyX5_ok j hj] at h
  cases h
  revert j
  decide +kernel
theorem zclT_2 : ∀ j, j < 21 → ∀ ty, parseFieldDescriptor (TX1 j).2.2.1 = some ty → ty ≠ .float ∧ ty ≠ .double ∧ ty ≠ .char ∧ ty ≠ .short := by
  intro j hj ty h
  rw [tyX1_ok j hj] at h
  cases h
  revert j
  decide +kernel
theorem zclT_3 : ∀ j, j < 10 → ∀ ty, parseFieldDescriptor (TX2 j).2.2.1 = some ty → ty ≠ .float ∧ ty ≠ .double ∧ ty ≠ .char ∧ ty ≠ .short := by
  intro j hj ty h
  rw [tyX2_ok j hj] at h
  cases h
  revert j
  decide +kernel
theorem zclT_4 : ∀ j, j < 8 → ∀ ty, parseFieldDescriptor (TX3 j).2.2.1 = some ty → ty ≠ .float ∧ ty ≠ .double ∧ ty ≠ .char ∧ ty ≠ .short := by
  intro j hj ty h
  rw [tyX3_ok j hj] at h
  cases h
  revert j
  decide +kernel
theorem zclT_5 : ∀ j, j < 6 → ∀ ty, parseFieldDescriptor (TX4 j).2.2.1 = some ty → ty ≠ .float ∧ ty ≠ .double ∧ ty ≠ .char ∧ ty ≠ .short := by
  intro j hj ty h
  rw [tyX4_ok j hj] at h
  cases h
  revert j
  decide +kernel
theorem zclT_6 : ∀ j, j < 13 → ∀ ty, parseFieldDescriptor (TX6 j).2.2.1 = some ty → ty ≠ .float ∧ ty ≠ .double ∧ ty ≠ .char ∧ ty ≠ .short := by
  intro j hj ty h
  rw [tyX6_ok j hj] at h
  cases h
  revert j
  decide +kernel
theorem zclT_7 : ∀ j, j < 0 → ∀ ty, parseFieldDescriptor (zT0 j).2.2.1 = some ty → ty ≠ .float ∧ ty ≠ .double ∧ ty ≠ .char ∧ ty ≠ .short := by
  intro j hj ty h
  omega
theorem zclT_8 : ∀ j, j < 0 → ∀ ty, parseFieldDescriptor (zT0 j).2.2.1 = some ty → ty ≠ .float ∧ ty ≠ .double ∧ ty ≠ .char ∧ ty ≠ .short := by
  intro j hj ty h
  omega
theorem zclT_9 : ∀ j, j < 0 → ∀ ty, parseFieldDescriptor (zT0 j).2.2.1 = some ty → ty ≠ .float ∧ ty ≠ .double ∧ ty ≠ .char ∧ ty ≠ .short := by
  intro j hj ty h
  omega
theorem zclT_10 : ∀ j, j < 0 → ∀ ty, parseFieldDescriptor (zT0 j).2.2.1 = some ty → ty ≠ .float ∧ ty ≠ .double ∧ ty ≠ .char ∧ ty ≠ .short := by
  intro j hj ty h
  omega
theorem zclT_11 : ∀ j, j < 0 → ∀ ty, parseFieldDescriptor (zT0 j).2.2.1 = some ty → ty ≠ .float ∧ ty ≠ .double ∧ ty ≠ .char ∧ ty ≠ .short := by
  intro j hj ty h
  omega
theorem zclT_12 : ∀ j, j < 0 → ∀ ty, parseFieldDescriptor (zT0 j).2.2.1 = some ty → ty ≠ .float ∧ ty ≠ .double ∧ ty ≠ .char ∧ ty ≠ .short := by
  intro j hj ty h
  omega
theorem zclT_13 : ∀ j, j < 0 → ∀ ty, parseFieldDescriptor (zT0 j).2.2.1 = some ty → ty ≠ .float ∧ ty ≠ .double ∧ ty ≠ .char ∧ ty ≠ .short := by
  intro j hj ty h
  omega
theorem zclT_14 : ∀ j, j < 7 → ∀ ty, parseFieldDescriptor (TX16 j).2.2.1 = some ty → ty ≠ .float ∧ ty ≠ .double ∧ ty ≠ .char ∧ ty ≠ .short := by
  intro j hj ty h
  rw [tyX16_ok j hj] at h
  cases h
  revert j
  decide +kernel
theorem zclT_15 : ∀ j, j < 10 → ∀ ty, parseFieldDescriptor (TX17 j).2.2.1 = some ty → ty ≠ .float ∧ ty ≠ .double ∧ ty ≠ .char ∧ ty ≠ .short := by
  intro j hj ty h
  rw [tyX17_ok j hj] at h
  cases h
  revert j
  decide +kernel
theorem zclT_16 : ∀ j, j < 3 → ∀ ty, parseFieldDescriptor (TX18 j).2.2.1 = some ty → ty ≠ .float ∧ ty ≠ .double ∧ ty ≠ .char ∧ ty ≠ .short := by
  intro j hj ty h
  rw [tyX18_ok j hj] at h
  cases h
  revert j
  decide +kernel
theorem zclT_17 : ∀ j, j < 52 → ∀ ty, parseFieldDescriptor (TX19 j).2.2.1 = some ty → ty ≠ .float ∧ ty ≠ .double ∧ ty ≠ .char ∧ ty ≠ .short := by
  intro j hj ty h
  rw [tyX19_ok j hj] at h
  cases h
  revert j
  decide +kernel
theorem zclT_18 : ∀ j, j < 12 → ∀ ty, parseFieldDescriptor (TX20 j).2.2.1 = some ty → ty ≠ .float ∧ ty ≠ .double ∧ ty ≠ .char ∧ ty ≠ .short := by
  intro j hj ty h
  rw [tyX20_ok j hj] at h
  cases h
  revert j
  decide +kernel
theorem zclT_19 : ∀ j, j < 12 → ∀ ty, parseFieldDescriptor (TX21 j).2.2.1 = some ty → ty ≠ .float ∧ ty ≠ .double ∧ ty ≠ .char ∧ ty ≠ .short := by
  intro j hj ty h
  rw [tyX21_ok j hj] at h
  cases h
  revert j
  decide +kernel
theorem zclT_20 : ∀ j, j < 2 → ∀ ty, parseFieldDescriptor (TX22 j).2.2.1 = some ty → ty ≠ .float ∧ ty ≠ .double ∧ ty ≠ .char ∧ ty ≠ .short := by
  intro j hj ty h
  rw [tyX22_ok j hj] at h
  cases h
  revert j
  decide +kernel
theorem zclT_21 : ∀ j, j < 3 → ∀ ty, parseFieldDescriptor (TX23 j).2.2.1 = some ty → ty ≠ .float ∧ ty ≠ .double ∧ ty ≠ .char ∧ ty ≠ .short := by
  intro j hj ty h
  rw [tyX23_ok j hj] at h
  cases h
  revert j
  decide +kernel
theorem zclT_22 : ∀ j, j < 27 → ∀ ty, parseFieldDescriptor (TX24 j).2.2.1 = some ty → ty ≠ .float ∧ ty ≠ .double ∧ ty ≠ .char ∧ ty ≠ .short := by
  intro j hj ty h
  rw [tyX24_ok j hj] at h
  cases h
  revert j
  decide +kernel
theorem zclT_23 : ∀ j, j < 4 → ∀ ty, parseFieldDescriptor (TJ3 j).2.2.1 = some ty → ty ≠ .float ∧ ty ≠ .double ∧ ty ≠ .char ∧ ty ≠ .short := by
  intro j hj ty h
  rw [tyJ3_ok j hj] at h
  cases h
  revert j
  decide +kernel
theorem zclT_24 : ∀ j, j < 0 → ∀ ty, parseFieldDescriptor (zT0 j).2.2.1 = some ty → ty ≠ .float ∧ ty ≠ .double ∧ ty ≠ .char ∧ ty ≠ .short := by
  intro j hj ty h
  omega
theorem zcl_ty : ∀ (ci : Nat) (C : String) (T : u_T) (N : Nat), zcl[ci]? = some (C, T, N) → ∀ j, j < N → ∀ ty, parseFieldDescriptor (T j).2.2.1 = some ty → ty ≠ .float ∧ ty ≠ .double ∧ ty ≠ .char ∧ ty ≠ .short := by
  intro ci C T N h
  match ci, h with
  | 0, h => cases h; exact zclT_0
  | 1, h => cases h; exact zclT_1
  | 2, h => cases h; exact zclT_2
  | 3, h => cases h; exact zclT_3
  | 4, h => cases h; exact zclT_4
  | 5, h => cases h; exact zclT_5
  | 6, h => cases h; exact zclT_6
  | 7, h => cases h; exact zclT_7
  | 8, h => cases h; exact zclT_8
  | 9, h => cases h; exact zclT_9
  | 10, h => cases h; exact zclT_10
  | 11, h => cases h; exact zclT_11
  | 12, h => cases h; exact zclT_12
  | 13, h => cases h; exact zclT_13
  | 14, h => cases h; exact zclT_14
  | 15, h => cases h; exact zclT_15
  | 16, h => cases h; exact zclT_16
  | 17, h => cases h; exact zclT_17
  | 18, h => cases h; exact zclT_18
  | 19, h => cases h; exact zclT_19
  | 20, h => cases h; exact zclT_20
  | 21, h => cases h; exact zclT_21
  | 22, h => cases h; exact zclT_22
  | 23, h => cases h; exact zclT_23
  | 24, h => cases h; exact zclT_24
  | k + 25, h => simp [zcl] at h
