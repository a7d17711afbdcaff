theorem in_1 {w : Cond} (h : w ∈ tables_1_1) : w ∈ lw_tbl := List.mem_append_right _ (List.mem_append_left _ h)
theorem in_2 {w : Cond} (h : w ∈ tables_1_2) : w ∈ lw_tbl := List.mem_append_right _ (List.mem_append_right _ (List.mem_append_left _ h))
theorem in_3 {w : Cond} (h : w ∈ tables_1_3) : w ∈ lw_tbl := List.mem_append_right _ (List.mem_append_right _ (List.mem_append_right _ (List.mem_append_left _ h)))
theorem in_4 {w : Cond} (h : w ∈ tables_1_4) : w ∈ lw_tbl := List.mem_append_right _ (List.mem_append_right _ (List.mem_append_right _ (List.mem_append_right _ (List.mem_append_left _ h))))
theorem in_5 {w : Cond} (h : w ∈ tables_1_5) : w ∈ lw_tbl := List.mem_append_right _ (List.mem_append_right _ (List.mem_append_right _ (List.mem_append_right _ (List.mem_append_right _ (List.mem_append_left _ h)))))
theorem in_6 {w : Cond} (h : w ∈ tables_1_6) : w ∈ lw_tbl := List.mem_append_right _ (List.mem_append_right _ (List.mem_append_right _ (List.mem_append_right _ (List.mem_append_right _ (List.mem_append_right _ (List.mem_append_left _ h))))))
theorem in_7 {w : Cond} (h : w ∈ tables_1_7) : w ∈ lw_tbl := List.mem_append_right _ (List.mem_append_right _ (List.mem_append_right _ (List.mem_append_right _ (List.mem_append_right _ (List.mem_append_right _ (List.mem_append_right _ h))))))
abbrev mi_Input_init : MI := (⟨"PanelFrames$Input", "<init>", "()V"⟩, prog_4_method_1_code, 1, none, [])
abbrev mi_Store_init : MI := (⟨"PanelFrames$Store", "<init>", "()V"⟩, prog_11_method_1_code, 1, none, [])
abbrev mi_Att_init : MI := (⟨"PanelFrames$Attention", "<init>", "()V"⟩, prog_2_method_1_code, 1, none, [])
abbrev mi_Rect_init : MI := (⟨"PanelFrames$Rect", "<init>", "()V"⟩, prog_8_method_1_code, 1, none, [])
abbrev mi_Row_init : MI := (⟨"PanelFrames$Row", "<init>", "()V"⟩, prog_9_method_1_code, 1, none, [])
abbrev mi_DrawList_init : MI := (⟨"PanelFrames$DrawList", "<init>", "()V"⟩, prog_3_method_1_code, 1, none, [])
abbrev mi_Scroll_init : MI := (⟨"PanelFrames$Scroll", "<init>", "()V"⟩, prog_10_method_1_code, 1, none, [])
abbrev mi_Panel_init : MI := (⟨"PanelFrames$Panel", "<init>", "(I)V"⟩, prog_7_method_1_code, 2, none, [])
abbrev mi_Layout_init : MI := (⟨"PanelFrames$Layout", "<init>", "()V"⟩, prog_5_method_1_code, 1, none, [])
abbrev mi_Level_init : MI := (⟨"PanelFrames$Level", "<init>", "()V"⟩, prog_6_method_1_code, 1, none, [])
abbrev mi_Rect_be : MI := (⟨"PanelFrames$Rect", "be", "(IIII)V"⟩, prog_8_method_2_code, 5, none, [])
abbrev mi_PF_init : MI := (⟨"PanelFrames", "<init>", "()V"⟩, prog_1_method_1_code, 2, none, [])
abbrev mi_Mo_init : MI := (⟨"PanelFramesModel", "<init>", "()V"⟩, prog_13_method_1_code, 2, none, [])
abbrev mi_Input_add : MI := (⟨"PanelFrames$Input", "add", "(III)Z"⟩, prog_4_method_2_code, 5, some .boolean, [])
abbrev mi_PF_point : MI := (⟨"PanelFrames", "point", "(II)Z"⟩, prog_1_method_5_code, 3, some .boolean, [])
abbrev mi_Mo_event : MI := (⟨"PanelFramesModel", "event", "(ZIII)Z"⟩, prog_13_method_6_code, 5, some .boolean, [])
abbrev mi_Mo_point : MI := (⟨"PanelFramesModel", "point", "(II)Z"⟩, prog_13_method_7_code, 3, some .boolean, [])
abbrev mi_PF_press : MI := (⟨"PanelFrames", "press", "(Z)Z"⟩, prog_1_method_6_code, 2, some .boolean, [])
abbrev mi_Mo_press : MI := (⟨"PanelFramesModel", "press", "(Z)Z"⟩, prog_13_method_8_code, 2, some .boolean, [])
abbrev mi_PF_wheel : MI := (⟨"PanelFrames", "wheel", "(I)Z"⟩, prog_1_method_7_code, 2, some .boolean, [])
abbrev mi_Mo_wheel : MI := (⟨"PanelFramesModel", "wheel", "(I)Z"⟩, prog_13_method_9_code, 2, some .boolean, [])
abbrev mi_PF_key : MI := (⟨"PanelFrames", "key", "(IZ)Z"⟩, prog_1_method_8_code, 3, some .boolean, [])
abbrev mi_Mo_key : MI := (⟨"PanelFramesModel", "key", "(IZ)Z"⟩, prog_13_method_10_code, 3, some .boolean, [])
abbrev mi_PF_letter : MI := (⟨"PanelFrames", "letter", "(I)Z"⟩, prog_1_method_9_code, 2, some .boolean, [])
abbrev mi_Mo_letter : MI := (⟨"PanelFramesModel", "letter", "(I)Z"⟩, prog_13_method_11_code, 2, some .boolean, [])
abbrev mi_Att_focus : MI := (⟨"PanelFrames$Attention", "focus", "(I)V"⟩, prog_2_method_4_code, 2, none, [])
abbrev mi_Att_none : MI := (⟨"PanelFrames$Attention", "none", "()V"⟩, prog_2_method_2_code, 1, none, [])
abbrev mi_PF_breakFrame : MI := (⟨"PanelFrames", "breakFrame", "()V"⟩, prog_1_method_4_code, 2, none, [])
abbrev mi_PF_may : MI := (⟨"PanelFrames", "may", "(Z)V"⟩, prog_1_method_3_code, 2, none, [])
abbrev mi_Input_clear : MI := (⟨"PanelFrames$Input", "clear", "()V"⟩, prog_4_method_3_code, 2, none, [])
abbrev mi_Input_take2 : MI := (⟨"PanelFrames$Input", "take", "(III)V"⟩, prog_4_method_5_code, 4, none, [])
abbrev mi_Input_take : MI := (⟨"PanelFrames$Input", "take", "()I"⟩, prog_4_method_4_code, 3, some .int, [])
abbrev mi_Rect_has : MI := (⟨"PanelFrames$Rect", "has", "(II)Z"⟩, prog_8_method_5_code, 3, some .boolean, [])
abbrev mi_PF_underMouse : MI := (⟨"PanelFrames", "underMouse", "()I"⟩, prog_1_method_11_code, 3, some .int, [])
abbrev mi_PF_toFront : MI := (⟨"PanelFrames", "toFront", "(I)V"⟩, prog_1_method_12_code, 3, none, [])
abbrev mi_PF_drag : MI := (⟨"PanelFrames", "drag", "()V"⟩, prog_1_method_13_code, 5, none, [])
abbrev mi_Att_begin : MI := (⟨"PanelFrames$Attention", "begin", "(Z)V"⟩, prog_2_method_3_code, 2, none, [])
abbrev mi_PF_begin : MI := (⟨"PanelFrames", "begin", "()I"⟩, prog_1_method_10_code, 3, some .int, [])
abbrev mi_Law_begin : MI := (⟨"PanelFramesLaw", "begin", "(LPanelFrames;[J)I"⟩, method_3_code, 3, some .int, [(0, 8, 11, 13)])
abbrev mi_Mo_fails : MI := (⟨"PanelFramesModel", "fails", "(I)I"⟩, prog_13_method_19_code, 3, some .int, [])
abbrev mi_Mo_breaks : MI := (⟨"PanelFramesModel", "breaks", "()I"⟩, prog_13_method_20_code, 1, some .int, [])
abbrev mi_Mo_take : MI := (⟨"PanelFramesModel", "take", "(III)V"⟩, prog_13_method_12_code, 5, none, [])
abbrev mi_Mo_takeAll : MI := (⟨"PanelFramesModel", "takeAll", "()I"⟩, prog_13_method_13_code, 4, some .int, [])
abbrev mi_Mo_height : MI := (⟨"PanelFramesModel", "height", "(I)I"⟩, prog_13_method_14_code, 2, some .int, [])
abbrev mi_Mo_isIn : MI := (⟨"PanelFramesModel", "isIn", "(IIIIII)Z"⟩, prog_13_method_15_code, 7, some .boolean, [])
abbrev mi_Mo_hasMouse : MI := (⟨"PanelFramesModel", "hasMouse", "(I)Z"⟩, prog_13_method_16_code, 2, some .boolean, [])
abbrev mi_Mo_findWindow : MI := (⟨"PanelFramesModel", "findWindow", "()V"⟩, prog_13_method_17_code, 2, none, [])
abbrev mi_Mo_begin : MI := (⟨"PanelFramesModel", "begin", "()I"⟩, prog_13_method_18_code, 3, some .int, [])
abbrev mi_Mo_thrown : MI := (⟨"PanelFramesModel", "thrown", "()I"⟩, prog_13_method_2_code, 1, some .int, [])
abbrev mi_Att_end : MI := (⟨"PanelFrames$Attention", "end", "()V"⟩, prog_2_method_8_code, 1, none, [])
abbrev mi_DrawList_clear : MI := (⟨"PanelFrames$DrawList", "clear", "()V"⟩, prog_3_method_2_code, 1, none, [])
abbrev mi_DrawList_made : MI := (⟨"PanelFrames$DrawList", "made", "()I"⟩, prog_3_method_3_code, 1, some .int, [])
abbrev mi_Row_add : MI := (⟨"PanelFrames$Row", "add", "(I)V"⟩, prog_9_method_2_code, 3, none, [])
abbrev mi_Row_addAll : MI := (⟨"PanelFrames$Row", "addAll", "(LPanelFrames$Row;I)V"⟩, prog_9_method_3_code, 4, none, [])
abbrev mi_DrawList_append : MI := (⟨"PanelFrames$DrawList", "append", "(LPanelFrames$DrawList;)V"⟩, prog_3_method_7_code, 5, none, [])
abbrev mi_PF_end : MI := (⟨"PanelFrames", "end", "()I"⟩, prog_1_method_14_code, 3, some .int, [])
abbrev mi_Law_end : MI := (⟨"PanelFramesLaw", "end", "(LPanelFrames;[J)I"⟩, method_4_code, 3, some .int, [(0, 8, 11, 13)])
abbrev mi_Mo_give : MI := (⟨"PanelFramesModel", "give", "(I)V"⟩, prog_13_method_23_code, 2, none, [])
abbrev mi_Mo_wasTold : MI := (⟨"PanelFramesModel", "wasTold", "(I)Z"⟩, prog_13_method_21_code, 4, some .boolean, [])
abbrev mi_Mo_copyList : MI := (⟨"PanelFramesModel", "copyList", "(I)V"⟩, prog_13_method_25_code, 4, none, [])
abbrev mi_Mo_walk : MI := (⟨"PanelFramesModel", "walk", "(I)V"⟩, prog_13_method_66_code, 7, none, [])
abbrev mi_Mo_drawnCount : MI := (⟨"PanelFramesModel", "drawnCount", "(I)I"⟩, prog_13_method_67_code, 2, some .int, [])
abbrev mi_Mo_end : MI := (⟨"PanelFramesModel", "end", "()I"⟩, prog_13_method_24_code, 3, some .int, [])
abbrev mi_PF_isSize : MI := (⟨"PanelFrames", "isSize", "(II)Z"⟩, prog_1_method_22_code, 2, some .boolean, [])
abbrev mi_PF_want : MI := (⟨"PanelFrames", "want", "(Z)V"⟩, prog_1_method_2_code, 1, none, [])
abbrev mi_Panel_id : MI := (⟨"PanelFrames$Panel", "id", "()I"⟩, prog_7_method_2_code, 1, some .int, [])
abbrev mi_Att_tell : MI := (⟨"PanelFrames$Attention", "tell", "(I)V"⟩, prog_2_method_6_code, 2, none, [])
abbrev mi_Att_activate : MI := (⟨"PanelFrames$Attention", "activate", "(I)V"⟩, prog_2_method_5_code, 2, none, [])
abbrev mi_PF_holdTitle : MI := (⟨"PanelFrames", "holdTitle", "(LPanelFrames$Panel;I)V"⟩, prog_1_method_24_code, 4, none, [])
abbrev mi_Panel_shownHeight : MI := (⟨"PanelFrames$Panel", "shownHeight", "()I"⟩, prog_7_method_3_code, 1, some .int, [])
abbrev mi_Panel_tell : MI := (⟨"PanelFrames$Panel", "tell", "(II)V"⟩, prog_7_method_4_code, 3, none, [])
abbrev mi_Scroll_to : MI := (⟨"PanelFrames$Scroll", "to", "(II)V"⟩, prog_10_method_2_code, 3, none, [])
abbrev mi_Rect_be2 : MI := (⟨"PanelFrames$Rect", "be", "(LPanelFrames$Rect;)V"⟩, prog_8_method_3_code, 2, none, [])
abbrev mi_Rect_meet : MI := (⟨"PanelFrames$Rect", "meet", "(LPanelFrames$Rect;)V"⟩, prog_8_method_4_code, 2, none, [])
abbrev mi_Rect_meets : MI := (⟨"PanelFrames$Rect", "meets", "(LPanelFrames$Rect;)Z"⟩, prog_8_method_7_code, 2, some .boolean, [])
abbrev mi_DrawList_command : MI := (⟨"PanelFrames$DrawList", "command", "(LPanelFrames$Rect;II)V"⟩, prog_3_method_5_code, 4, none, [])
abbrev mi_DrawList_vertex : MI := (⟨"PanelFrames$DrawList", "vertex", "(III)V"⟩, prog_3_method_4_code, 4, none, [])
abbrev mi_DrawList_quad : MI := (⟨"PanelFrames$DrawList", "quad", "(LPanelFrames$Rect;IILPanelFrames$Rect;)V"⟩, prog_3_method_6_code, 11, none, [])
abbrev mi_PF_layout : MI := (⟨"PanelFrames", "layout", "()LPanelFrames$Layout;"⟩, prog_1_method_18_code, 1, some (.object "PanelFrames$Layout"), [])
abbrev mi_PF_clip : MI := (⟨"PanelFrames", "clip", "()LPanelFrames$Rect;"⟩, prog_1_method_19_code, 1, some (.object "PanelFrames$Rect"), [])
abbrev mi_PF_push : MI := (⟨"PanelFrames", "push", "(II)LPanelFrames$Level;"⟩, prog_1_method_21_code, 4, some (.object "PanelFrames$Level"), [])
abbrev mi_Layout_be : MI := (⟨"PanelFrames$Layout", "be", "(II)V"⟩, prog_5_method_2_code, 3, none, [])
abbrev mi_PF_tell : MI := (⟨"PanelFrames", "tell", "(LPanelFrames$Panel;II)V"⟩, prog_1_method_25_code, 7, none, [])
abbrev mi_PF_window : MI := (⟨"PanelFrames", "window", "(IIIII)Z"⟩, prog_1_method_23_code, 7, some .boolean, [])
abbrev mi_Law_window : MI := (⟨"PanelFramesLaw", "window", "(LPanelFrames;IIIII[J)I"⟩, method_5_code, 8, some .int, [(0, 23, 26, 22), (0, 23, 30, 13)])
abbrev mi_Mo_tell : MI := (⟨"PanelFramesModel", "tell", "(I)V"⟩, prog_13_method_33_code, 2, none, [])
abbrev mi_Mo_max : MI := (⟨"PanelFramesModel", "max", "(II)I"⟩, prog_13_method_4_code, 2, some .int, [])
abbrev mi_Mo_min : MI := (⟨"PanelFramesModel", "min", "(II)I"⟩, prog_13_method_3_code, 2, some .int, [])
abbrev mi_Mo_between : MI := (⟨"PanelFramesModel", "between", "(III)I"⟩, prog_13_method_5_code, 3, some .int, [])
abbrev mi_Mo_area : MI := (⟨"PanelFramesModel", "area", "(II)I"⟩, prog_13_method_31_code, 4, some .int, [])
abbrev mi_Mo_openThing : MI := (⟨"PanelFramesModel", "openThing", "(III)V"⟩, prog_13_method_30_code, 5, none, [])
abbrev mi_Mo_push : MI := (⟨"PanelFramesModel", "push", "(I)V"⟩, prog_13_method_32_code, 2, none, [])
abbrev mi_Mo_quad : MI := (⟨"PanelFramesModel", "quad", "(IIIIIIIIII)V"⟩, prog_13_method_26_code, 12, none, [])
abbrev mi_Mo_quadClipped : MI := (⟨"PanelFramesModel", "quadClipped", "(IIIIII)V"⟩, prog_13_method_27_code, 7, none, [])
abbrev mi_Mo_tellWindow : MI := (⟨"PanelFramesModel", "tellWindow", "(III)V"⟩, prog_13_method_35_code, 10, none, [])
abbrev mi_Mo_window : MI := (⟨"PanelFramesModel", "window", "(IIIII)Z"⟩, prog_13_method_36_code, 6, some .boolean, [])
abbrev mi_PF_isLabel : MI := (⟨"PanelFrames", "isLabel", "(I)Z"⟩, prog_1_method_16_code, 1, some .boolean, [])
abbrev mi_PF_open : MI := (⟨"PanelFrames", "open", "(I)Z"⟩, prog_1_method_26_code, 3, some .boolean, [])
abbrev mi_Law_open : MI := (⟨"PanelFramesLaw", "open", "(LPanelFrames;I[J)I"⟩, method_6_code, 4, some .int, [(0, 16, 19, 22), (0, 16, 22, 13)])
abbrev mi_Mo_isLabel : MI := (⟨"PanelFramesModel", "isLabel", "(I)Z"⟩, prog_13_method_34_code, 2, some .boolean, [])
abbrev mi_Mo_open : MI := (⟨"PanelFramesModel", "open", "(I)Z"⟩, prog_13_method_37_code, 2, some .boolean, [])
abbrev mi_PF_popup : MI := (⟨"PanelFrames", "popup", "(III)Z"⟩, prog_1_method_27_code, 4, some .boolean, [])
abbrev mi_Law_popup : MI := (⟨"PanelFramesLaw", "popup", "(LPanelFrames;III[J)I"⟩, method_7_code, 6, some .int, [(0, 19, 22, 22), (0, 19, 26, 13)])
abbrev mi_Mo_popup : MI := (⟨"PanelFramesModel", "popup", "(III)Z"⟩, prog_13_method_38_code, 4, some .boolean, [])
abbrev mi_PF_dismiss : MI := (⟨"PanelFrames", "dismiss", "()Z"⟩, prog_1_method_28_code, 2, some .boolean, [])
abbrev mi_Mo_dismiss : MI := (⟨"PanelFramesModel", "dismiss", "()Z"⟩, prog_13_method_39_code, 2, some .boolean, [])
abbrev mi_Layout_high : MI := (⟨"PanelFrames$Layout", "high", "()I"⟩, prog_5_method_7_code, 1, some .int, [])
abbrev mi_Layout_isNear : MI := (⟨"PanelFrames$Layout", "isNear", "()Z"⟩, prog_5_method_3_code, 1, some .boolean, [])
abbrev mi_Layout_x : MI := (⟨"PanelFrames$Layout", "x", "()I"⟩, prog_5_method_4_code, 1, some .int, [])
abbrev mi_Layout_y : MI := (⟨"PanelFrames$Layout", "y", "()I"⟩, prog_5_method_5_code, 1, some .int, [])
abbrev mi_Layout_put : MI := (⟨"PanelFrames$Layout", "put", "(LPanelFrames$Rect;II)V"⟩, prog_5_method_6_code, 6, none, [])
abbrev mi_PF_close : MI := (⟨"PanelFrames", "close", "()I"⟩, prog_1_method_29_code, 2, some .int, [])
abbrev mi_Law_close : MI := (⟨"PanelFramesLaw", "close", "(LPanelFrames;[J)I"⟩, method_8_code, 3, some .int, [(0, 8, 11, 13)])
abbrev mi_Mo_put : MI := (⟨"PanelFramesModel", "put", "(IZIIII)V"⟩, prog_13_method_43_code, 7, none, [])
abbrev mi_Mo_close : MI := (⟨"PanelFramesModel", "close", "()I"⟩, prog_13_method_40_code, 4, some .int, [])
abbrev mi_PF_wantItem : MI := (⟨"PanelFrames", "wantItem", "(III)V"⟩, prog_1_method_30_code, 4, none, [])
abbrev mi_PF_under : MI := (⟨"PanelFrames", "under", "(II)I"⟩, prog_1_method_15_code, 3, some .int, [])
abbrev mi_PF_idOf : MI := (⟨"PanelFrames", "idOf", "(I)I"⟩, prog_1_method_17_code, 2, some .int, [])
abbrev mi_Att_tellItem : MI := (⟨"PanelFrames$Attention", "tellItem", "(I)V"⟩, prog_2_method_7_code, 2, none, [])
abbrev mi_PF_panel : MI := (⟨"PanelFrames", "panel", "()LPanelFrames$Panel;"⟩, prog_1_method_20_code, 1, some (.object "PanelFrames$Panel"), [])
abbrev mi_PF_behave : MI := (⟨"PanelFrames", "behave", "(II)Z"⟩, prog_1_method_31_code, 6, some .boolean, [])
abbrev mi_PF_draw : MI := (⟨"PanelFrames", "draw", "(I)V"⟩, prog_1_method_32_code, 2, none, [])
abbrev mi_PF_drawSign : MI := (⟨"PanelFrames", "drawSign", "(II)V"⟩, prog_1_method_33_code, 4, none, [])
abbrev mi_PF_drawLabel : MI := (⟨"PanelFrames", "drawLabel", "(I)V"⟩, prog_1_method_34_code, 6, none, [])
abbrev mi_PF_button : MI := (⟨"PanelFrames", "button", "(II)Z"⟩, prog_1_method_35_code, 5, some .boolean, [])
abbrev mi_Law_button : MI := (⟨"PanelFramesLaw", "button", "(LPanelFrames;II[J)I"⟩, method_9_code, 5, some .int, [(0, 17, 20, 22), (0, 17, 24, 13)])
abbrev mi_Mo_bars : MI := (⟨"PanelFramesModel", "bars", "(Z)Z"⟩, prog_13_method_51_code, 2, some .boolean, [])
abbrev mi_Mo_nextX : MI := (⟨"PanelFramesModel", "nextX", "(I)I"⟩, prog_13_method_41_code, 2, some .int, [])
abbrev mi_Mo_nextY : MI := (⟨"PanelFramesModel", "nextY", "(I)I"⟩, prog_13_method_42_code, 2, some .int, [])
abbrev mi_Mo_idOf : MI := (⟨"PanelFramesModel", "idOf", "(I)I"⟩, prog_13_method_44_code, 3, some .int, [])
abbrev mi_Mo_lay : MI := (⟨"PanelFramesModel", "lay", "(III)I"⟩, prog_13_method_45_code, 7, some .int, [])
abbrev mi_Mo_hasBehaved : MI := (⟨"PanelFramesModel", "hasBehaved", "(I)Z"⟩, prog_13_method_22_code, 4, some .boolean, [])
abbrev mi_Mo_behaves : MI := (⟨"PanelFramesModel", "behaves", "(I)Z"⟩, prog_13_method_46_code, 8, some .boolean, [])
abbrev mi_Mo_shape : MI := (⟨"PanelFramesModel", "shape", "(I)V"⟩, prog_13_method_29_code, 2, none, [])
abbrev mi_Mo_digits : MI := (⟨"PanelFramesModel", "digits", "(I)V"⟩, prog_13_method_28_code, 4, none, [])
abbrev mi_Mo_button : MI := (⟨"PanelFramesModel", "button", "(II)Z"⟩, prog_13_method_52_code, 5, some .boolean, [])
abbrev mi_Store_slot : MI := (⟨"PanelFrames$Store", "slot", "(I)I"⟩, prog_11_method_2_code, 3, some .int, [])
abbrev mi_Store_find : MI := (⟨"PanelFrames$Store", "find", "(I)I"⟩, prog_11_method_3_code, 3, some .int, [])
abbrev mi_Store_number : MI := (⟨"PanelFrames$Store", "number", "(I)I"⟩, prog_11_method_5_code, 3, some .int, [])
abbrev mi_Store_make : MI := (⟨"PanelFrames$Store", "make", "(I)I"⟩, prog_11_method_4_code, 3, some .int, [])
abbrev mi_Store_put : MI := (⟨"PanelFrames$Store", "put", "(II)V"⟩, prog_11_method_6_code, 4, none, [])
abbrev mi_PF_flip : MI := (⟨"PanelFrames", "flip", "(IZ)V"⟩, prog_1_method_36_code, 3, none, [])
abbrev mi_PF_check : MI := (⟨"PanelFrames", "check", "(I)I"⟩, prog_1_method_37_code, 3, some .int, [])
abbrev mi_Law_check : MI := (⟨"PanelFramesLaw", "check", "(LPanelFrames;I[J)I"⟩, method_10_code, 4, some .int, [(0, 9, 12, 22), (0, 9, 15, 13)])
abbrev mi_Mo_find : MI := (⟨"PanelFramesModel", "find", "(I)I"⟩, prog_13_method_47_code, 3, some .int, [])
abbrev mi_Mo_numberOf : MI := (⟨"PanelFramesModel", "numberOf", "(I)I"⟩, prog_13_method_49_code, 2, some .int, [])
abbrev mi_Mo_made : MI := (⟨"PanelFramesModel", "made", "(I)I"⟩, prog_13_method_48_code, 3, some .int, [])
abbrev mi_Mo_keep : MI := (⟨"PanelFramesModel", "keep", "(II)V"⟩, prog_13_method_50_code, 4, none, [])
abbrev mi_Mo_check : MI := (⟨"PanelFramesModel", "check", "(I)I"⟩, prog_13_method_53_code, 3, some .int, [])
abbrev mi_PF_slider : MI := (⟨"PanelFrames", "slider", "(IIII)I"⟩, prog_1_method_38_code, 7, some .int, [])
abbrev mi_Law_slider : MI := (⟨"PanelFramesLaw", "slider", "(LPanelFrames;IIII[J)I"⟩, method_11_code, 7, some .int, [(0, 14, 17, 22), (0, 14, 21, 13)])
abbrev mi_Mo_slider : MI := (⟨"PanelFramesModel", "slider", "(IIII)I"⟩, prog_13_method_54_code, 7, some .int, [])
abbrev mi_Store_shift : MI := (⟨"PanelFrames$Store", "shift", "(III)V"⟩, prog_11_method_7_code, 5, none, [])
abbrev mi_Store_edit : MI := (⟨"PanelFrames$Store", "edit", "(ILPanelFrames$Input;)V"⟩, prog_11_method_8_code, 5, none, [])
abbrev mi_PF_field : MI := (⟨"PanelFrames", "field", "(II)I"⟩, prog_1_method_39_code, 7, some .int, [])
abbrev mi_Law_field : MI := (⟨"PanelFramesLaw", "field", "(LPanelFrames;II[J)I"⟩, method_12_code, 5, some .int, [(0, 10, 13, 22), (0, 10, 17, 13)])
abbrev mi_Mo_edit : MI := (⟨"PanelFramesModel", "edit", "(I)V"⟩, prog_13_method_56_code, 5, none, [])
abbrev mi_Mo_field : MI := (⟨"PanelFramesModel", "field", "(II)I"⟩, prog_13_method_55_code, 7, some .int, [])
abbrev mi_PF_tree : MI := (⟨"PanelFrames", "tree", "(II)Z"⟩, prog_1_method_40_code, 5, some .boolean, [])
abbrev mi_Law_tree : MI := (⟨"PanelFramesLaw", "tree", "(LPanelFrames;II[J)I"⟩, method_13_code, 5, some .int, [(0, 17, 20, 22), (0, 17, 24, 13)])
abbrev mi_Mo_tree : MI := (⟨"PanelFramesModel", "tree", "(II)Z"⟩, prog_13_method_57_code, 7, some .boolean, [])
abbrev mi_PF_child : MI := (⟨"PanelFrames", "child", "(III)V"⟩, prog_1_method_41_code, 7, none, [])
abbrev mi_Law_child : MI := (⟨"PanelFramesLaw", "child", "(LPanelFrames;III)I"⟩, method_14_code, 5, some .int, [(0, 7, 10, 22), (0, 7, 14, 13)])
abbrev mi_Mo_child : MI := (⟨"PanelFramesModel", "child", "(III)V"⟩, prog_13_method_58_code, 7, none, [])
abbrev mi_PF_scope : MI := (⟨"PanelFrames", "scope", "(I)V"⟩, prog_1_method_42_code, 2, none, [])
abbrev mi_Law_scope : MI := (⟨"PanelFramesLaw", "scope", "(LPanelFrames;I)I"⟩, method_15_code, 3, some .int, [(0, 5, 8, 22), (0, 5, 11, 13)])
abbrev mi_Mo_scope : MI := (⟨"PanelFramesModel", "scope", "(I)V"⟩, prog_13_method_59_code, 3, none, [])
abbrev mi_PF_group : MI := (⟨"PanelFrames", "group", "()V"⟩, prog_1_method_43_code, 3, none, [])
abbrev mi_Law_group : MI := (⟨"PanelFramesLaw", "group", "(LPanelFrames;)I"⟩, method_16_code, 2, some .int, [(0, 4, 7, 13)])
abbrev mi_Mo_group : MI := (⟨"PanelFramesModel", "group", "()V"⟩, prog_13_method_60_code, 6, none, [])
abbrev mi_PF_near : MI := (⟨"PanelFrames", "near", "()V"⟩, prog_1_method_44_code, 1, none, [])
abbrev mi_Law_near : MI := (⟨"PanelFramesLaw", "near", "(LPanelFrames;)I"⟩, method_17_code, 2, some .int, [(0, 4, 7, 13)])
abbrev mi_Mo_near : MI := (⟨"PanelFramesModel", "near", "()V"⟩, prog_13_method_61_code, 1, none, [])
abbrev mi_PF_look : MI := (⟨"PanelFrames", "look", "(I)I"⟩, prog_1_method_45_code, 2, some .int, [])
abbrev mi_Mo_look : MI := (⟨"PanelFramesModel", "look", "(I)I"⟩, prog_13_method_62_code, 2, some .int, [])
abbrev mi_PF_placeOf : MI := (⟨"PanelFrames", "placeOf", "(I)I"⟩, prog_1_method_46_code, 3, some .int, [])
abbrev mi_PF_place : MI := (⟨"PanelFrames", "place", "(II)I"⟩, prog_1_method_47_code, 4, some .int, [])
abbrev mi_Mo_place : MI := (⟨"PanelFramesModel", "place", "(II)I"⟩, prog_13_method_63_code, 3, some .int, [])
abbrev mi_PF_kept : MI := (⟨"PanelFrames", "kept", "(I)I"⟩, prog_1_method_48_code, 2, some .int, [])
abbrev mi_Mo_kept : MI := (⟨"PanelFramesModel", "kept", "(I)I"⟩, prog_13_method_64_code, 2, some .int, [])
abbrev mi_PF_text : MI := (⟨"PanelFrames", "text", "(II)I"⟩, prog_1_method_49_code, 4, some .int, [])
abbrev mi_Mo_text : MI := (⟨"PanelFramesModel", "text", "(II)I"⟩, prog_13_method_65_code, 4, some .int, [])
abbrev mi_PF_drawn : MI := (⟨"PanelFrames", "drawn", "(I)I"⟩, prog_1_method_50_code, 2, some .int, [])
abbrev mi_Mo_drawn : MI := (⟨"PanelFramesModel", "drawn", "(I)I"⟩, prog_13_method_68_code, 2, some .int, [])
abbrev mi_Row_get : MI := (⟨"PanelFrames$Row", "get", "(I)I"⟩, prog_9_method_4_code, 2, some .int, [])
abbrev mi_PF_command : MI := (⟨"PanelFrames", "command", "(II)I"⟩, prog_1_method_51_code, 3, some .int, [])
abbrev mi_Mo_command : MI := (⟨"PanelFramesModel", "command", "(II)I"⟩, prog_13_method_69_code, 5, some .int, [])
abbrev mi_PF_index : MI := (⟨"PanelFrames", "index", "(I)I"⟩, prog_1_method_52_code, 2, some .int, [])
abbrev mi_Mo_index : MI := (⟨"PanelFramesModel", "index", "(I)I"⟩, prog_13_method_70_code, 3, some .int, [])
abbrev mi_PF_vertex : MI := (⟨"PanelFrames", "vertex", "(II)I"⟩, prog_1_method_53_code, 3, some .int, [])
abbrev mi_Mo_vertex : MI := (⟨"PanelFramesModel", "vertex", "(II)I"⟩, prog_13_method_71_code, 5, some .int, [])
abbrev mi_Law_law : MI := (⟨"PanelFramesLaw", "law", "([I)Z"⟩, code, 7, some .boolean, [])
theorem bp_m100 : (Int8.ofInt (-100)).toInt32 = (-100 : Int32) := by decide
theorem bp_m9 : (Int8.ofInt (-9)).toInt32 = (-9 : Int32) := by decide
theorem bp_6 : (Int8.ofInt 6).toInt32 = (6 : Int32) := by decide
theorem bp_7 : (Int8.ofInt 7).toInt32 = (7 : Int32) := by decide
theorem bp_8 : (Int8.ofInt 8).toInt32 = (8 : Int32) := by decide
theorem bp_9 : (Int8.ofInt 9).toInt32 = (9 : Int32) := by decide
theorem bp_10 : (Int8.ofInt 10).toInt32 = (10 : Int32) := by decide
theorem bp_11 : (Int8.ofInt 11).toInt32 = (11 : Int32) := by decide
theorem bp_12 : (Int8.ofInt 12).toInt32 = (12 : Int32) := by decide
theorem bp_15 : (Int8.ofInt 15).toInt32 = (15 : Int32) := by decide
theorem bp_16 : (Int8.ofInt 16).toInt32 = (16 : Int32) := by decide
theorem bp_30 : (Int8.ofInt 30).toInt32 = (30 : Int32) := by decide
theorem bp_31 : (Int8.ofInt 31).toInt32 = (31 : Int32) := by decide
theorem bp_32 : (Int8.ofInt 32).toInt32 = (32 : Int32) := by decide
theorem bp_40 : (Int8.ofInt 40).toInt32 = (40 : Int32) := by decide
theorem bp_41 : (Int8.ofInt 41).toInt32 = (41 : Int32) := by decide
theorem bp_63 : (Int8.ofInt 63).toInt32 = (63 : Int32) := by decide
theorem bp_64 : (Int8.ofInt 64).toInt32 = (64 : Int32) := by decide
theorem bp_73 : (Int8.ofInt 73).toInt32 = (73 : Int32) := by decide
theorem bp_99 : (Int8.ofInt 99).toInt32 = (99 : Int32) := by decide
theorem bp_100 : (Int8.ofInt 100).toInt32 = (100 : Int32) := by decide
theorem bp_126 : (Int8.ofInt 126).toInt32 = (126 : Int32) := by decide
theorem ic_m1 : Int32.ofInt (-1) = (-1 : Int32) := by decide
theorem ic_0 : Int32.ofInt 0 = (0 : Int32) := by decide
theorem ic_1 : Int32.ofInt 1 = (1 : Int32) := by decide
theorem ic_2 : Int32.ofInt 2 = (2 : Int32) := by decide
theorem ic_3 : Int32.ofInt 3 = (3 : Int32) := by decide
theorem ic_4 : Int32.ofInt 4 = (4 : Int32) := by decide
theorem ic_5 : Int32.ofInt 5 = (5 : Int32) := by decide
theorem ic_6 : Int32.ofInt 6 = (6 : Int32) := by decide
theorem lc_0 : Int64.ofNat (((0 : Fin 2)) : Nat) = (0 : Int64) := by decide
theorem lc_1 : Int64.ofNat (((1 : Fin 2)) : Nat) = (1 : Int64) := by decide
theorem sp_m10000 : (Int16.ofInt (-10000)).toInt32 = (-10000 : Int32) := by decide
theorem sp_m1000 : (Int16.ofInt (-1000)).toInt32 = (-1000 : Int32) := by decide
theorem sp_160 : (Int16.ofInt 160).toInt32 = (160 : Int32) := by decide
theorem sp_192 : (Int16.ofInt 192).toInt32 = (192 : Int32) := by decide
theorem sp_200 : (Int16.ofInt 200).toInt32 = (200 : Int32) := by decide
theorem sp_400 : (Int16.ofInt 400).toInt32 = (400 : Int32) := by decide
theorem sp_480 : (Int16.ofInt 480).toInt32 = (480 : Int32) := by decide
theorem sp_600 : (Int16.ofInt 600).toInt32 = (600 : Int32) := by decide
theorem sp_768 : (Int16.ofInt 768).toInt32 = (768 : Int32) := by decide
theorem sp_999 : (Int16.ofInt 999).toInt32 = (999 : Int32) := by decide
theorem sp_1000 : (Int16.ofInt 1000).toInt32 = (1000 : Int32) := by decide
theorem sp_1008 : (Int16.ofInt 1008).toInt32 = (1008 : Int32) := by decide
set_option maxRecDepth 100000 in
theorem lj_Input_3 : Cond.methodLink "PanelFrames$Input" 3 Lib.objectInit ∈ lw_tbl := (in_1 (List.mem_of_getElem? (i := 33) rfl))
set_option maxRecDepth 100000 in
theorem la_16 : Cond.arrayClass (newarray.typeOf .int) ∈ lw_tbl := (in_1 (List.mem_of_getElem? (i := 95) rfl))
set_option maxRecDepth 100000 in
theorem lf_Input_11 : LkF "PanelFrames$Input" 11 2 0 := Or.inl (in_1 (List.mem_of_getElem? (i := 34) rfl))
set_option maxRecDepth 100000 in
theorem lf_Input_15 : LkF "PanelFrames$Input" 15 2 1 := Or.inl (in_1 (List.mem_of_getElem? (i := 35) rfl))
set_option maxRecDepth 100000 in
theorem lf_Input_18 : LkF "PanelFrames$Input" 18 2 2 := Or.inl (in_1 (List.mem_of_getElem? (i := 36) rfl))
set_option maxRecDepth 100000 in
theorem la_17 : Cond.arrayClass (newarray.typeOf .boolean) ∈ lw_tbl := (in_1 (List.mem_of_getElem? (i := 96) rfl))
set_option maxRecDepth 100000 in
theorem lf_Input_21 : LkF "PanelFrames$Input" 21 2 12 := Or.inl (in_1 (List.mem_of_getElem? (i := 54) rfl))
set_option maxRecDepth 100000 in
theorem lf_Input_25 : LkF "PanelFrames$Input" 25 2 13 := Or.inl (in_1 (List.mem_of_getElem? (i := 55) rfl))
set_option maxRecDepth 100000 in
theorem lf_Input_28 : LkF "PanelFrames$Input" 28 2 14 := Or.inl (in_1 (List.mem_of_getElem? (i := 58) rfl))
set_option maxRecDepth 100000 in
theorem lf_Input_31 : LkF "PanelFrames$Input" 31 2 15 := Or.inl (in_1 (List.mem_of_getElem? (i := 60) rfl))
set_option maxRecDepth 100000 in
theorem lj_Store_3 : Cond.methodLink "PanelFrames$Store" 3 Lib.objectInit ∈ lw_tbl := (in_1 (List.mem_of_getElem? (i := 102) rfl))
set_option maxRecDepth 100000 in
theorem lf_Store_11 : LkF "PanelFrames$Store" 11 3 0 := Or.inl (in_1 (List.mem_of_getElem? (i := 103) rfl))
set_option maxRecDepth 100000 in
theorem lf_Store_15 : LkF "PanelFrames$Store" 15 3 1 := Or.inl (in_1 (List.mem_of_getElem? (i := 104) rfl))
set_option maxRecDepth 100000 in
theorem lf_Store_18 : LkF "PanelFrames$Store" 18 3 2 := Or.inl (in_1 (List.mem_of_getElem? (i := 105) rfl))
set_option maxRecDepth 100000 in
theorem lf_Store_21 : LkF "PanelFrames$Store" 21 3 3 := Or.inl (in_1 (List.mem_of_getElem? (i := 107) rfl))
set_option maxRecDepth 100000 in
theorem la_18 : Cond.arrayClass (newarray.typeOf .byte) ∈ lw_tbl := (in_1 (List.mem_of_getElem? (i := 126) rfl))
set_option maxRecDepth 100000 in
theorem lf_Store_24 : LkF "PanelFrames$Store" 24 3 4 := Or.inl (in_1 (List.mem_of_getElem? (i := 109) rfl))
set_option maxRecDepth 100000 in
theorem lj_Att_1 : Cond.methodLink "PanelFrames$Attention" 1 Lib.objectInit ∈ lw_tbl := (in_1 (List.mem_of_getElem? (i := 132) rfl))
set_option maxRecDepth 100000 in
theorem lj_Rect_1 : Cond.methodLink "PanelFrames$Rect" 1 Lib.objectInit ∈ lw_tbl := (in_1 (List.mem_of_getElem? (i := 178) rfl))
set_option maxRecDepth 100000 in
theorem lj_Row_3 : Cond.methodLink "PanelFrames$Row" 3 Lib.objectInit ∈ lw_tbl := (in_1 (List.mem_of_getElem? (i := 213) rfl))
set_option maxRecDepth 100000 in
theorem lf_Row_9 : LkF "PanelFrames$Row" 9 0 0 := Or.inl (in_1 (List.mem_of_getElem? (i := 214) rfl))
set_option maxRecDepth 100000 in
theorem lj_DrawList_1 : Cond.methodLink "PanelFrames$DrawList" 1 Lib.objectInit ∈ lw_tbl := (in_1 (List.mem_of_getElem? (i := 207) rfl))
set_option maxRecDepth 100000 in
theorem lc_DrawList_7 : LkC "PanelFrames$DrawList" 7 0 := (in_1 (List.mem_of_getElem? (i := 208) rfl))
set_option maxRecDepth 100000 in
theorem hy_Row_init : hyOk mi_Row_init.1 0 := ⟨by decide +kernel, by decide +kernel, by decide +kernel⟩
set_option maxRecDepth 100000 in
theorem pn_Row : plainName "PanelFrames$Row" = true := by decide +kernel
set_option maxRecDepth 100000 in
theorem li_DrawList_9 : LkI "PanelFrames$DrawList" 9 mi_Row_init 0 := ⟨Or.inr ⟨"PanelFrames", (in_1 (List.mem_of_getElem? (i := 210) rfl))⟩, (in_1 (List.mem_of_getElem? (i := 211) rfl)), (in_1 (List.mem_of_getElem? (i := 212) rfl)), rfl, hy_Row_init, pn_Row, rfl, rfl⟩
set_option maxRecDepth 100000 in
theorem lf_DrawList_10 : LkF "PanelFrames$DrawList" 10 4 0 := Or.inl (in_1 (List.mem_of_getElem? (i := 225) rfl))
set_option maxRecDepth 100000 in
theorem lf_DrawList_16 : LkF "PanelFrames$DrawList" 16 4 1 := Or.inl (in_1 (List.mem_of_getElem? (i := 227) rfl))
set_option maxRecDepth 100000 in
theorem lf_DrawList_19 : LkF "PanelFrames$DrawList" 19 4 2 := Or.inl (in_1 (List.mem_of_getElem? (i := 229) rfl))
set_option maxRecDepth 100000 in
theorem lj_Scroll_1 : Cond.methodLink "PanelFrames$Scroll" 1 Lib.objectInit ∈ lw_tbl := (in_2 (List.mem_of_getElem? (i := 10) rfl))
set_option maxRecDepth 100000 in
theorem lj_Panel_3 : Cond.methodLink "PanelFrames$Panel" 3 Lib.objectInit ∈ lw_tbl := (in_2 (List.mem_of_getElem? (i := 2) rfl))
set_option maxRecDepth 100000 in
theorem lc_Panel_9 : LkC "PanelFrames$Panel" 9 1 := (in_2 (List.mem_of_getElem? (i := 3) rfl))
set_option maxRecDepth 100000 in
theorem hy_Rect_init : hyOk mi_Rect_init.1 0 := ⟨by decide +kernel, by decide +kernel, by decide +kernel⟩
set_option maxRecDepth 100000 in
theorem pn_Rect : plainName "PanelFrames$Rect" = true := by decide +kernel
set_option maxRecDepth 100000 in
theorem li_Panel_11 : LkI "PanelFrames$Panel" 11 mi_Rect_init 0 := ⟨Or.inr ⟨"PanelFrames", (in_2 (List.mem_of_getElem? (i := 4) rfl))⟩, (in_1 (List.mem_of_getElem? (i := 176) rfl)), (in_1 (List.mem_of_getElem? (i := 177) rfl)), rfl, hy_Rect_init, pn_Rect, rfl, rfl⟩
set_option maxRecDepth 100000 in
theorem lf_Panel_12 : LkF "PanelFrames$Panel" 12 7 1 := Or.inl (in_2 (List.mem_of_getElem? (i := 24) rfl))
set_option maxRecDepth 100000 in
theorem lc_Panel_18 : LkC "PanelFrames$Panel" 18 6 := (in_2 (List.mem_of_getElem? (i := 5) rfl))
set_option maxRecDepth 100000 in
theorem hy_Scroll_init : hyOk mi_Scroll_init.1 0 := ⟨by decide +kernel, by decide +kernel, by decide +kernel⟩
set_option maxRecDepth 100000 in
theorem pn_Scroll : plainName "PanelFrames$Scroll" = true := by decide +kernel
set_option maxRecDepth 100000 in
theorem li_Panel_20 : LkI "PanelFrames$Panel" 20 mi_Scroll_init 0 := ⟨Or.inr ⟨"PanelFrames", (in_2 (List.mem_of_getElem? (i := 7) rfl))⟩, (in_2 (List.mem_of_getElem? (i := 8) rfl)), (in_2 (List.mem_of_getElem? (i := 9) rfl)), rfl, hy_Scroll_init, pn_Scroll, rfl, rfl⟩
set_option maxRecDepth 100000 in
theorem lf_Panel_21 : LkF "PanelFrames$Panel" 21 7 2 := Or.inl (in_2 (List.mem_of_getElem? (i := 26) rfl))
set_option maxRecDepth 100000 in
theorem lc_Panel_25 : LkC "PanelFrames$Panel" 25 4 := (in_2 (List.mem_of_getElem? (i := 20) rfl))
set_option maxRecDepth 100000 in
theorem hy_DrawList_init : hyOk mi_DrawList_init.1 0 := ⟨by decide +kernel, by decide +kernel, by decide +kernel⟩
set_option maxRecDepth 100000 in
theorem pn_DrawList : plainName "PanelFrames$DrawList" = true := by decide +kernel
set_option maxRecDepth 100000 in
theorem li_Panel_27 : LkI "PanelFrames$Panel" 27 mi_DrawList_init 0 := ⟨Or.inr ⟨"PanelFrames", (in_2 (List.mem_of_getElem? (i := 21) rfl))⟩, (in_1 (List.mem_of_getElem? (i := 205) rfl)), (in_1 (List.mem_of_getElem? (i := 206) rfl)), rfl, hy_DrawList_init, pn_DrawList, rfl, rfl⟩
set_option maxRecDepth 100000 in
theorem lf_Panel_28 : LkF "PanelFrames$Panel" 28 7 3 := Or.inl (in_2 (List.mem_of_getElem? (i := 28) rfl))
set_option maxRecDepth 100000 in
theorem lf_Panel_32 : LkF "PanelFrames$Panel" 32 7 0 := Or.inl (in_2 (List.mem_of_getElem? (i := 22) rfl))
set_option maxRecDepth 100000 in
theorem lj_Layout_1 : Cond.methodLink "PanelFrames$Layout" 1 Lib.objectInit ∈ lw_tbl := (in_2 (List.mem_of_getElem? (i := 71) rfl))
set_option maxRecDepth 100000 in
theorem lj_Level_1 : Cond.methodLink "PanelFrames$Level" 1 Lib.objectInit ∈ lw_tbl := (in_2 (List.mem_of_getElem? (i := 65) rfl))
set_option maxRecDepth 100000 in
theorem lc_Level_7 : LkC "PanelFrames$Level" 7 5 := (in_2 (List.mem_of_getElem? (i := 66) rfl))
set_option maxRecDepth 100000 in
theorem hy_Layout_init : hyOk mi_Layout_init.1 0 := ⟨by decide +kernel, by decide +kernel, by decide +kernel⟩
set_option maxRecDepth 100000 in
theorem pn_Layout : plainName "PanelFrames$Layout" = true := by decide +kernel
set_option maxRecDepth 100000 in
theorem li_Level_9 : LkI "PanelFrames$Level" 9 mi_Layout_init 0 := ⟨Or.inr ⟨"PanelFrames", (in_2 (List.mem_of_getElem? (i := 68) rfl))⟩, (in_2 (List.mem_of_getElem? (i := 69) rfl)), (in_2 (List.mem_of_getElem? (i := 70) rfl)), rfl, hy_Layout_init, pn_Layout, rfl, rfl⟩
set_option maxRecDepth 100000 in
theorem lf_Level_10 : LkF "PanelFrames$Level" 10 8 3 := Or.inl (in_2 (List.mem_of_getElem? (i := 115) rfl))
set_option maxRecDepth 100000 in
theorem lc_Level_16 : LkC "PanelFrames$Level" 16 1 := (in_2 (List.mem_of_getElem? (i := 110) rfl))
set_option maxRecDepth 100000 in
theorem li_Level_18 : LkI "PanelFrames$Level" 18 mi_Rect_init 0 := ⟨Or.inr ⟨"PanelFrames", (in_2 (List.mem_of_getElem? (i := 111) rfl))⟩, (in_1 (List.mem_of_getElem? (i := 176) rfl)), (in_1 (List.mem_of_getElem? (i := 177) rfl)), rfl, hy_Rect_init, pn_Rect, rfl, rfl⟩
set_option maxRecDepth 100000 in
theorem lf_Level_19 : LkF "PanelFrames$Level" 19 8 4 := Or.inl (in_2 (List.mem_of_getElem? (i := 117) rfl))
set_option maxRecDepth 100000 in
theorem lf_Rect_7 : LkF "PanelFrames$Rect" 7 1 0 := Or.inl (in_1 (List.mem_of_getElem? (i := 179) rfl))
set_option maxRecDepth 100000 in
theorem lf_Rect_13 : LkF "PanelFrames$Rect" 13 1 1 := Or.inl (in_1 (List.mem_of_getElem? (i := 183) rfl))
set_option maxRecDepth 100000 in
theorem lf_Rect_16 : LkF "PanelFrames$Rect" 16 1 2 := Or.inl (in_1 (List.mem_of_getElem? (i := 187) rfl))
set_option maxRecDepth 100000 in
theorem lf_Rect_19 : LkF "PanelFrames$Rect" 19 1 3 := Or.inl (in_1 (List.mem_of_getElem? (i := 190) rfl))
set_option maxRecDepth 100000 in
theorem lj_PF_1 : Cond.methodLink "PanelFrames" 1 Lib.objectInit ∈ lw_tbl := (in_1 (List.mem_of_getElem? (i := 25) rfl))
set_option maxRecDepth 100000 in
theorem lc_PF_7 : LkC "PanelFrames" 7 2 := (in_1 (List.mem_of_getElem? (i := 28) rfl))
set_option maxRecDepth 100000 in
theorem hy_Input_init : hyOk mi_Input_init.1 0 := ⟨by decide +kernel, by decide +kernel, by decide +kernel⟩
set_option maxRecDepth 100000 in
theorem pn_Input : plainName "PanelFrames$Input" = true := by decide +kernel
set_option maxRecDepth 100000 in
theorem li_PF_9 : LkI "PanelFrames" 9 mi_Input_init 0 := ⟨Or.inr ⟨"PanelFrames", (in_1 (List.mem_of_getElem? (i := 30) rfl))⟩, (in_1 (List.mem_of_getElem? (i := 31) rfl)), (in_1 (List.mem_of_getElem? (i := 32) rfl)), rfl, hy_Input_init, pn_Input, rfl, rfl⟩
set_option maxRecDepth 100000 in
theorem lf_PF_10 : LkF "PanelFrames" 10 10 0 := Or.inl (in_2 (List.mem_of_getElem? (i := 138) rfl))
set_option maxRecDepth 100000 in
theorem lc_PF_16 : LkC "PanelFrames" 16 3 := (in_1 (List.mem_of_getElem? (i := 97) rfl))
set_option maxRecDepth 100000 in
theorem hy_Store_init : hyOk mi_Store_init.1 0 := ⟨by decide +kernel, by decide +kernel, by decide +kernel⟩
set_option maxRecDepth 100000 in
theorem pn_Store : plainName "PanelFrames$Store" = true := by decide +kernel
set_option maxRecDepth 100000 in
theorem li_PF_18 : LkI "PanelFrames" 18 mi_Store_init 0 := ⟨Or.inr ⟨"PanelFrames", (in_1 (List.mem_of_getElem? (i := 99) rfl))⟩, (in_1 (List.mem_of_getElem? (i := 100) rfl)), (in_1 (List.mem_of_getElem? (i := 101) rfl)), rfl, hy_Store_init, pn_Store, rfl, rfl⟩
set_option maxRecDepth 100000 in
theorem lf_PF_19 : LkF "PanelFrames" 19 10 1 := Or.inl (in_2 (List.mem_of_getElem? (i := 139) rfl))
set_option maxRecDepth 100000 in
theorem lc_PF_23 : LkC "PanelFrames" 23 9 := (in_1 (List.mem_of_getElem? (i := 127) rfl))
set_option maxRecDepth 100000 in
theorem hy_Att_init : hyOk mi_Att_init.1 0 := ⟨by decide +kernel, by decide +kernel, by decide +kernel⟩
set_option maxRecDepth 100000 in
theorem pn_Att : plainName "PanelFrames$Attention" = true := by decide +kernel
set_option maxRecDepth 100000 in
theorem li_PF_25 : LkI "PanelFrames" 25 mi_Att_init 0 := ⟨Or.inr ⟨"PanelFrames", (in_1 (List.mem_of_getElem? (i := 129) rfl))⟩, (in_1 (List.mem_of_getElem? (i := 130) rfl)), (in_1 (List.mem_of_getElem? (i := 131) rfl)), rfl, hy_Att_init, pn_Att, rfl, rfl⟩
set_option maxRecDepth 100000 in
theorem lf_PF_26 : LkF "PanelFrames" 26 10 2 := Or.inl (in_2 (List.mem_of_getElem? (i := 140) rfl))
set_option maxRecDepth 100000 in
theorem lo_20 : Cond.arrayOver (.object (cR (acl 20))) ∈ lw_tbl := (in_1 (List.mem_of_getElem? (i := 167) rfl))
set_option maxRecDepth 100000 in
theorem lc_PF_30 : LkC "PanelFrames" 30 7 := (in_1 (List.mem_of_getElem? (i := 166) rfl))
set_option maxRecDepth 100000 in
theorem lf_PF_32 : LkF "PanelFrames" 32 10 3 := Or.inl (in_2 (List.mem_of_getElem? (i := 141) rfl))
set_option maxRecDepth 100000 in
theorem lf_PF_36 : LkF "PanelFrames" 36 10 4 := Or.inl (in_2 (List.mem_of_getElem? (i := 142) rfl))
set_option maxRecDepth 100000 in
theorem lo_21 : Cond.arrayOver (.object (cR (acl 21))) ∈ lw_tbl := (in_1 (List.mem_of_getElem? (i := 169) rfl))
set_option maxRecDepth 100000 in
theorem lc_PF_40 : LkC "PanelFrames" 40 8 := (in_1 (List.mem_of_getElem? (i := 168) rfl))
set_option maxRecDepth 100000 in
theorem lf_PF_42 : LkF "PanelFrames" 42 10 5 := Or.inl (in_2 (List.mem_of_getElem? (i := 143) rfl))
set_option maxRecDepth 100000 in
theorem lf_PF_46 : LkF "PanelFrames" 46 10 8 := Or.inl (in_2 (List.mem_of_getElem? (i := 146) rfl))
set_option maxRecDepth 100000 in
theorem lf_PF_50 : LkF "PanelFrames" 50 10 13 := Or.inl (in_2 (List.mem_of_getElem? (i := 151) rfl))
set_option maxRecDepth 100000 in
theorem lo_22 : Cond.arrayOver (.object (cR (acl 22))) ∈ lw_tbl := (in_1 (List.mem_of_getElem? (i := 171) rfl))
set_option maxRecDepth 100000 in
theorem lc_PF_53 : LkC "PanelFrames" 53 6 := (in_1 (List.mem_of_getElem? (i := 170) rfl))
set_option maxRecDepth 100000 in
theorem lf_PF_55 : LkF "PanelFrames" 55 10 15 := Or.inl (in_2 (List.mem_of_getElem? (i := 153) rfl))
set_option maxRecDepth 100000 in
theorem lf_PF_59 : LkF "PanelFrames" 59 10 16 := Or.inl (in_2 (List.mem_of_getElem? (i := 154) rfl))
set_option maxRecDepth 100000 in
theorem lo_23 : Cond.arrayOver (.object (cR (acl 23))) ∈ lw_tbl := (in_1 (List.mem_of_getElem? (i := 173) rfl))
set_option maxRecDepth 100000 in
theorem lc_PF_62 : LkC "PanelFrames" 62 1 := (in_1 (List.mem_of_getElem? (i := 172) rfl))
set_option maxRecDepth 100000 in
theorem lf_PF_64 : LkF "PanelFrames" 64 10 17 := Or.inl (in_2 (List.mem_of_getElem? (i := 155) rfl))
set_option maxRecDepth 100000 in
theorem lf_PF_68 : LkF "PanelFrames" 68 10 19 := Or.inl (in_2 (List.mem_of_getElem? (i := 157) rfl))
set_option maxRecDepth 100000 in
theorem li_PF_71 : LkI "PanelFrames" 71 mi_Rect_init 0 := ⟨Or.inr ⟨"PanelFrames", (in_1 (List.mem_of_getElem? (i := 175) rfl))⟩, (in_1 (List.mem_of_getElem? (i := 176) rfl)), (in_1 (List.mem_of_getElem? (i := 177) rfl)), rfl, hy_Rect_init, pn_Rect, rfl, rfl⟩
set_option maxRecDepth 100000 in
theorem lf_PF_72 : LkF "PanelFrames" 72 10 20 := Or.inl (in_2 (List.mem_of_getElem? (i := 158) rfl))
set_option maxRecDepth 100000 in
theorem lf_PF_76 : LkF "PanelFrames" 76 10 21 := Or.inl (in_2 (List.mem_of_getElem? (i := 159) rfl))
set_option maxRecDepth 100000 in
theorem lf_PF_79 : LkF "PanelFrames" 79 10 22 := Or.inl (in_2 (List.mem_of_getElem? (i := 160) rfl))
set_option maxRecDepth 100000 in
theorem lf_PF_82 : LkF "PanelFrames" 82 10 23 := Or.inl (in_2 (List.mem_of_getElem? (i := 161) rfl))
set_option maxRecDepth 100000 in
theorem lc_PF_85 : LkC "PanelFrames" 85 4 := (in_1 (List.mem_of_getElem? (i := 202) rfl))
set_option maxRecDepth 100000 in
theorem li_PF_87 : LkI "PanelFrames" 87 mi_DrawList_init 0 := ⟨Or.inr ⟨"PanelFrames", (in_1 (List.mem_of_getElem? (i := 204) rfl))⟩, (in_1 (List.mem_of_getElem? (i := 205) rfl)), (in_1 (List.mem_of_getElem? (i := 206) rfl)), rfl, hy_DrawList_init, pn_DrawList, rfl, rfl⟩
set_option maxRecDepth 100000 in
theorem lf_PF_88 : LkF "PanelFrames" 88 10 24 := Or.inl (in_2 (List.mem_of_getElem? (i := 162) rfl))
set_option maxRecDepth 100000 in
theorem hy_Panel_init : hyOk mi_Panel_init.1 1 := ⟨by decide +kernel, by decide +kernel, by decide +kernel⟩
set_option maxRecDepth 100000 in
theorem pn_Panel : plainName "PanelFrames$Panel" = true := by decide +kernel
set_option maxRecDepth 100000 in
theorem li_PF_92 : LkI "PanelFrames" 92 mi_Panel_init 1 := ⟨Or.inl (in_1 (List.mem_of_getElem? (i := 239) rfl)), (in_2 (List.mem_of_getElem? (i := 0) rfl)), (in_2 (List.mem_of_getElem? (i := 1) rfl)), rfl, hy_Panel_init, pn_Panel, rfl, rfl⟩
set_option maxRecDepth 100000 in
theorem hy_Level_init : hyOk mi_Level_init.1 0 := ⟨by decide +kernel, by decide +kernel, by decide +kernel⟩
set_option maxRecDepth 100000 in
theorem pn_Level : plainName "PanelFrames$Level" = true := by decide +kernel
set_option maxRecDepth 100000 in
theorem li_PF_95 : LkI "PanelFrames" 95 mi_Level_init 0 := ⟨Or.inr ⟨"PanelFrames", (in_2 (List.mem_of_getElem? (i := 62) rfl))⟩, (in_2 (List.mem_of_getElem? (i := 63) rfl)), (in_2 (List.mem_of_getElem? (i := 64) rfl)), rfl, hy_Level_init, pn_Level, rfl, rfl⟩
set_option maxRecDepth 100000 in
theorem hy_Rect_be : hyOk mi_Rect_be.1 4 := ⟨by decide +kernel, by decide +kernel, by decide +kernel⟩
set_option maxRecDepth 100000 in
theorem lv_PF_97 : LkV "PanelFrames" 97 mi_Rect_be 1 4 := ⟨Or.inl (in_2 (List.mem_of_getElem? (i := 134) rfl)), (in_2 (List.mem_of_getElem? (i := 135) rfl)), (in_2 (List.mem_of_getElem? (i := 136) rfl)), (in_2 (List.mem_of_getElem? (i := 137) rfl)), rfl, hy_Rect_be, pn_Rect⟩
set_option maxRecDepth 100000 in
theorem li_PF_96 : LkI "PanelFrames" 96 mi_Scroll_init 0 := ⟨Or.inr ⟨"PanelFrames", (in_2 (List.mem_of_getElem? (i := 133) rfl))⟩, (in_2 (List.mem_of_getElem? (i := 8) rfl)), (in_2 (List.mem_of_getElem? (i := 9) rfl)), rfl, hy_Scroll_init, pn_Scroll, rfl, rfl⟩
set_option maxRecDepth 100000 in
theorem lj_Mo_1 : Cond.methodLink "PanelFramesModel" 1 Lib.objectInit ∈ lw_tbl := (in_5 (List.mem_of_getElem? (i := 16) rfl))
set_option maxRecDepth 100000 in
theorem lf_Mo_7 : LkF "PanelFramesModel" 7 11 1 := Or.inl (in_5 (List.mem_of_getElem? (i := 19) rfl))
set_option maxRecDepth 100000 in
theorem lf_Mo_13 : LkF "PanelFramesModel" 13 11 10 := Or.inl (in_5 (List.mem_of_getElem? (i := 28) rfl))
set_option maxRecDepth 100000 in
theorem lf_Mo_17 : LkF "PanelFramesModel" 17 11 11 := Or.inl (in_5 (List.mem_of_getElem? (i := 29) rfl))
set_option maxRecDepth 100000 in
theorem lf_Mo_20 : LkF "PanelFramesModel" 20 11 12 := Or.inl (in_5 (List.mem_of_getElem? (i := 30) rfl))
set_option maxRecDepth 100000 in
theorem lf_Mo_23 : LkF "PanelFramesModel" 23 11 17 := Or.inl (in_5 (List.mem_of_getElem? (i := 35) rfl))
set_option maxRecDepth 100000 in
theorem lf_Mo_26 : LkF "PanelFramesModel" 26 11 23 := Or.inl (in_5 (List.mem_of_getElem? (i := 41) rfl))
set_option maxRecDepth 100000 in
theorem lf_Mo_30 : LkF "PanelFramesModel" 30 11 24 := Or.inl (in_5 (List.mem_of_getElem? (i := 42) rfl))
set_option maxRecDepth 100000 in
theorem lf_Mo_33 : LkF "PanelFramesModel" 33 11 26 := Or.inl (in_5 (List.mem_of_getElem? (i := 44) rfl))
set_option maxRecDepth 100000 in
theorem lf_Mo_36 : LkF "PanelFramesModel" 36 11 29 := Or.inl (in_5 (List.mem_of_getElem? (i := 47) rfl))
set_option maxRecDepth 100000 in
theorem lf_Mo_39 : LkF "PanelFramesModel" 39 11 30 := Or.inl (in_5 (List.mem_of_getElem? (i := 48) rfl))
set_option maxRecDepth 100000 in
theorem lf_Mo_42 : LkF "PanelFramesModel" 42 11 31 := Or.inl (in_5 (List.mem_of_getElem? (i := 49) rfl))
set_option maxRecDepth 100000 in
theorem lf_Mo_45 : LkF "PanelFramesModel" 45 11 32 := Or.inl (in_5 (List.mem_of_getElem? (i := 50) rfl))
set_option maxRecDepth 100000 in
theorem lf_Mo_48 : LkF "PanelFramesModel" 48 11 33 := Or.inl (in_5 (List.mem_of_getElem? (i := 51) rfl))
set_option maxRecDepth 100000 in
theorem lf_Mo_51 : LkF "PanelFramesModel" 51 11 34 := Or.inl (in_5 (List.mem_of_getElem? (i := 52) rfl))
set_option maxRecDepth 100000 in
theorem lf_Mo_54 : LkF "PanelFramesModel" 54 11 35 := Or.inl (in_5 (List.mem_of_getElem? (i := 53) rfl))
set_option maxRecDepth 100000 in
theorem lf_Mo_57 : LkF "PanelFramesModel" 57 11 36 := Or.inl (in_5 (List.mem_of_getElem? (i := 54) rfl))
set_option maxRecDepth 100000 in
theorem lf_Mo_60 : LkF "PanelFramesModel" 60 11 37 := Or.inl (in_5 (List.mem_of_getElem? (i := 55) rfl))
set_option maxRecDepth 100000 in
theorem lf_Mo_63 : LkF "PanelFramesModel" 63 11 38 := Or.inl (in_5 (List.mem_of_getElem? (i := 56) rfl))
set_option maxRecDepth 100000 in
theorem lf_Mo_66 : LkF "PanelFramesModel" 66 11 39 := Or.inl (in_5 (List.mem_of_getElem? (i := 57) rfl))
set_option maxRecDepth 100000 in
theorem lf_Mo_69 : LkF "PanelFramesModel" 69 11 40 := Or.inl (in_5 (List.mem_of_getElem? (i := 58) rfl))
set_option maxRecDepth 100000 in
theorem lf_Mo_72 : LkF "PanelFramesModel" 72 11 42 := Or.inl (in_5 (List.mem_of_getElem? (i := 60) rfl))
set_option maxRecDepth 100000 in
theorem lf_Mo_75 : LkF "PanelFramesModel" 75 11 43 := Or.inl (in_5 (List.mem_of_getElem? (i := 61) rfl))
set_option maxRecDepth 100000 in
theorem lf_Mo_78 : LkF "PanelFramesModel" 78 11 44 := Or.inl (in_5 (List.mem_of_getElem? (i := 62) rfl))
set_option maxRecDepth 100000 in
theorem lf_Mo_81 : LkF "PanelFramesModel" 81 11 45 := Or.inl (in_5 (List.mem_of_getElem? (i := 63) rfl))
set_option maxRecDepth 100000 in
theorem lf_Mo_84 : LkF "PanelFramesModel" 84 11 46 := Or.inl (in_5 (List.mem_of_getElem? (i := 64) rfl))
set_option maxRecDepth 100000 in
theorem lf_Mo_87 : LkF "PanelFramesModel" 87 11 47 := Or.inl (in_5 (List.mem_of_getElem? (i := 65) rfl))
set_option maxRecDepth 100000 in
theorem lf_Mo_90 : LkF "PanelFramesModel" 90 11 50 := Or.inl (in_5 (List.mem_of_getElem? (i := 68) rfl))
set_option maxRecDepth 100000 in
theorem lf_Mo_93 : LkF "PanelFramesModel" 93 11 51 := Or.inl (in_5 (List.mem_of_getElem? (i := 69) rfl))
set_option maxRecDepth 100000 in
theorem lf_Mo_96 : LkF "PanelFramesModel" 96 11 52 := Or.inl (in_5 (List.mem_of_getElem? (i := 70) rfl))
set_option maxRecDepth 100000 in
theorem lf_Mo_99 : LkF "PanelFramesModel" 99 11 53 := Or.inl (in_5 (List.mem_of_getElem? (i := 71) rfl))
set_option maxRecDepth 100000 in
theorem lf_Mo_102 : LkF "PanelFramesModel" 102 11 54 := Or.inl (in_5 (List.mem_of_getElem? (i := 72) rfl))
set_option maxRecDepth 100000 in
theorem lf_Mo_105 : LkF "PanelFramesModel" 105 11 55 := Or.inl (in_5 (List.mem_of_getElem? (i := 73) rfl))
set_option maxRecDepth 100000 in
theorem lf_Mo_108 : LkF "PanelFramesModel" 108 11 57 := Or.inl (in_5 (List.mem_of_getElem? (i := 75) rfl))
set_option maxRecDepth 100000 in
theorem lf_Mo_111 : LkF "PanelFramesModel" 111 11 59 := Or.inl (in_5 (List.mem_of_getElem? (i := 77) rfl))
set_option maxRecDepth 100000 in
theorem lf_Mo_114 : LkF "PanelFramesModel" 114 11 60 := Or.inl (in_5 (List.mem_of_getElem? (i := 78) rfl))
set_option maxRecDepth 100000 in
theorem lf_Mo_117 : LkF "PanelFramesModel" 117 11 61 := Or.inl (in_5 (List.mem_of_getElem? (i := 79) rfl))
set_option maxRecDepth 100000 in
theorem lf_Mo_120 : LkF "PanelFramesModel" 120 11 62 := Or.inl (in_5 (List.mem_of_getElem? (i := 80) rfl))
set_option maxRecDepth 100000 in
theorem lf_Mo_123 : LkF "PanelFramesModel" 123 11 63 := Or.inl (in_5 (List.mem_of_getElem? (i := 81) rfl))
set_option maxRecDepth 100000 in
theorem lf_Mo_126 : LkF "PanelFramesModel" 126 11 64 := Or.inl (in_5 (List.mem_of_getElem? (i := 82) rfl))
set_option maxRecDepth 100000 in
theorem lf_Mo_129 : LkF "PanelFramesModel" 129 11 65 := Or.inl (in_5 (List.mem_of_getElem? (i := 83) rfl))
set_option maxRecDepth 100000 in
theorem lf_Mo_132 : LkF "PanelFramesModel" 132 11 66 := Or.inl (in_5 (List.mem_of_getElem? (i := 84) rfl))
set_option maxRecDepth 100000 in
theorem lf_Mo_135 : LkF "PanelFramesModel" 135 11 67 := Or.inl (in_5 (List.mem_of_getElem? (i := 85) rfl))
set_option maxRecDepth 100000 in
theorem lf_Mo_138 : LkF "PanelFramesModel" 138 11 68 := Or.inl (in_5 (List.mem_of_getElem? (i := 86) rfl))
set_option maxRecDepth 100000 in
theorem lf_Mo_141 : LkF "PanelFramesModel" 141 11 69 := Or.inl (in_5 (List.mem_of_getElem? (i := 87) rfl))
set_option maxRecDepth 100000 in
theorem lf_Mo_144 : LkF "PanelFramesModel" 144 11 71 := Or.inl (in_5 (List.mem_of_getElem? (i := 89) rfl))
set_option maxRecDepth 100000 in
theorem lf_Mo_147 : LkF "PanelFramesModel" 147 11 72 := Or.inl (in_5 (List.mem_of_getElem? (i := 90) rfl))
set_option maxRecDepth 100000 in
theorem lf_Mo_150 : LkF "PanelFramesModel" 150 11 73 := Or.inl (in_5 (List.mem_of_getElem? (i := 91) rfl))
set_option maxRecDepth 100000 in
theorem lf_Mo_153 : LkF "PanelFramesModel" 153 11 74 := Or.inl (in_5 (List.mem_of_getElem? (i := 92) rfl))
set_option maxRecDepth 100000 in
theorem lf_Mo_156 : LkF "PanelFramesModel" 156 11 75 := Or.inl (in_5 (List.mem_of_getElem? (i := 93) rfl))
set_option maxRecDepth 100000 in
theorem lf_Mo_159 : LkF "PanelFramesModel" 159 11 76 := Or.inl (in_5 (List.mem_of_getElem? (i := 94) rfl))
set_option maxRecDepth 100000 in
theorem lf_Mo_162 : LkF "PanelFramesModel" 162 11 77 := Or.inl (in_5 (List.mem_of_getElem? (i := 95) rfl))
set_option maxRecDepth 100000 in
theorem lf_Mo_165 : LkF "PanelFramesModel" 165 11 78 := Or.inl (in_5 (List.mem_of_getElem? (i := 96) rfl))
set_option maxRecDepth 100000 in
theorem ld_Mo_168 : Cond.constant "PanelFramesModel" 168 (77000 : Int32) ∈ lw_tbl := (in_5 (List.mem_of_getElem? (i := 17) rfl))
set_option maxRecDepth 100000 in
theorem lf_Mo_169 : LkF "PanelFramesModel" 169 11 80 := Or.inl (in_5 (List.mem_of_getElem? (i := 98) rfl))
set_option maxRecDepth 100000 in
theorem lf_Mo_172 : LkF "PanelFramesModel" 172 11 81 := Or.inl (in_5 (List.mem_of_getElem? (i := 99) rfl))
set_option maxRecDepth 100000 in
theorem lf_Input_34 : LkF "PanelFrames$Input" 34 2 4 := Or.inl (in_1 (List.mem_of_getElem? (i := 38) rfl))
set_option maxRecDepth 100000 in
theorem lf_Input_38 : LkF "PanelFrames$Input" 38 2 3 := Or.inl (in_1 (List.mem_of_getElem? (i := 37) rfl))
set_option maxRecDepth 100000 in
theorem hy_Input_add : hyOk mi_Input_add.1 3 := ⟨by decide +kernel, by decide +kernel, by decide +kernel⟩
set_option maxRecDepth 100000 in
theorem lv_PF_126 : LkV "PanelFrames" 126 mi_Input_add 2 3 := ⟨Or.inl (in_2 (List.mem_of_getElem? (i := 218) rfl)), (in_2 (List.mem_of_getElem? (i := 219) rfl)), (in_2 (List.mem_of_getElem? (i := 220) rfl)), (in_2 (List.mem_of_getElem? (i := 221) rfl)), rfl, hy_Input_add, pn_Input⟩
set_option maxRecDepth 100000 in
theorem lf_Mo_175 : LkF "PanelFramesModel" 175 11 0 := Or.inl (in_5 (List.mem_of_getElem? (i := 18) rfl))
set_option maxRecDepth 100000 in
theorem lf_Mo_185 : LkF "PanelFramesModel" 185 11 2 := Or.inl (in_5 (List.mem_of_getElem? (i := 20) rfl))
set_option maxRecDepth 100000 in
theorem hy_Mo_event : hyOk mi_Mo_event.1 4 := ⟨by decide +kernel, by decide +kernel, by decide +kernel⟩
set_option maxRecDepth 100000 in
theorem pn_Mo : plainName "PanelFramesModel" = true := by decide +kernel
set_option maxRecDepth 100000 in
theorem lv_Mo_188 : LkV "PanelFramesModel" 188 mi_Mo_event 11 4 := ⟨Or.inl (in_6 (List.mem_of_getElem? (i := 51) rfl)), (in_6 (List.mem_of_getElem? (i := 53) rfl)), (List.mem_append_left _ (List.mem_of_getElem? (i := 28) rfl)), (in_6 (List.mem_of_getElem? (i := 54) rfl)), rfl, hy_Mo_event, pn_Mo⟩
set_option maxRecDepth 100000 in
theorem lf_Att_36 : LkF "PanelFrames$Attention" 36 9 2 := Or.inl (in_1 (List.mem_of_getElem? (i := 137) rfl))
set_option maxRecDepth 100000 in
theorem lf_Att_38 : LkF "PanelFrames$Attention" 38 9 3 := Or.inl (in_1 (List.mem_of_getElem? (i := 139) rfl))
set_option maxRecDepth 100000 in
theorem lf_Att_33 : LkF "PanelFrames$Attention" 33 9 8 := Or.inl (in_1 (List.mem_of_getElem? (i := 146) rfl))
set_option maxRecDepth 100000 in
theorem lf_Att_7 : LkF "PanelFrames$Attention" 7 9 0 := Or.inl (in_1 (List.mem_of_getElem? (i := 133) rfl))
set_option maxRecDepth 100000 in
theorem lf_Att_13 : LkF "PanelFrames$Attention" 13 9 1 := Or.inl (in_1 (List.mem_of_getElem? (i := 135) rfl))
set_option maxRecDepth 100000 in
theorem hy_Att_focus : hyOk mi_Att_focus.1 1 := ⟨by decide +kernel, by decide +kernel, by decide +kernel⟩
set_option maxRecDepth 100000 in
theorem lv_Att_16 : LkV "PanelFrames$Attention" 16 mi_Att_focus 9 1 := ⟨Or.inl (in_3 (List.mem_of_getElem? (i := 80) rfl)), (in_3 (List.mem_of_getElem? (i := 81) rfl)), (in_3 (List.mem_of_getElem? (i := 82) rfl)), (in_3 (List.mem_of_getElem? (i := 83) rfl)), rfl, hy_Att_focus, pn_Att⟩
set_option maxRecDepth 100000 in
theorem lf_PF_104 : LkF "PanelFrames" 104 10 7 := Or.inl (in_2 (List.mem_of_getElem? (i := 145) rfl))
set_option maxRecDepth 100000 in
theorem lf_PF_114 : LkF "PanelFrames" 114 10 6 := Or.inl (in_2 (List.mem_of_getElem? (i := 144) rfl))
set_option maxRecDepth 100000 in
theorem hy_Att_none : hyOk mi_Att_none.1 0 := ⟨by decide +kernel, by decide +kernel, by decide +kernel⟩
set_option maxRecDepth 100000 in
theorem lv_PF_117 : LkV "PanelFrames" 117 mi_Att_none 9 0 := ⟨Or.inl (in_3 (List.mem_of_getElem? (i := 76) rfl)), (in_3 (List.mem_of_getElem? (i := 77) rfl)), (in_3 (List.mem_of_getElem? (i := 78) rfl)), (in_3 (List.mem_of_getElem? (i := 79) rfl)), rfl, hy_Att_none, pn_Att⟩
set_option maxRecDepth 100000 in
theorem lf_PF_120 : LkF "PanelFrames" 120 10 18 := Or.inl (in_2 (List.mem_of_getElem? (i := 156) rfl))
set_option maxRecDepth 100000 in
theorem lf_PF_123 : LkF "PanelFrames" 123 7 9 := Or.inr ⟨"PanelFrames", (in_2 (List.mem_of_getElem? (i := 39) rfl))⟩
set_option maxRecDepth 100000 in
theorem hy_PF_breakFrame : hyOk mi_PF_breakFrame.1 0 := ⟨by decide +kernel, by decide +kernel, by decide +kernel⟩
set_option maxRecDepth 100000 in
theorem pn_PF : plainName "PanelFrames" = true := by decide +kernel
set_option maxRecDepth 100000 in
theorem lv_PF_108 : LkV "PanelFrames" 108 mi_PF_breakFrame 10 0 := ⟨Or.inl (in_3 (List.mem_of_getElem? (i := 72) rfl)), (in_3 (List.mem_of_getElem? (i := 74) rfl)), (List.mem_append_left _ (List.mem_of_getElem? (i := 3) rfl)), (in_3 (List.mem_of_getElem? (i := 75) rfl)), rfl, hy_PF_breakFrame, pn_PF⟩
set_option maxRecDepth 100000 in
theorem lx_PF_111 : LkX "PanelFrames" 113 111 33 := ⟨(in_3 (List.mem_of_getElem? (i := 84) rfl)), by decide +kernel⟩
set_option maxRecDepth 100000 in
theorem lf_Input_41 : LkF "PanelFrames$Input" 41 2 7 := Or.inl (in_1 (List.mem_of_getElem? (i := 44) rfl))
set_option maxRecDepth 100000 in
theorem lf_Input_44 : LkF "PanelFrames$Input" 44 2 8 := Or.inl (in_1 (List.mem_of_getElem? (i := 46) rfl))
set_option maxRecDepth 100000 in
theorem lf_Input_47 : LkF "PanelFrames$Input" 47 2 10 := Or.inl (in_1 (List.mem_of_getElem? (i := 50) rfl))
set_option maxRecDepth 100000 in
theorem lf_Input_51 : LkF "PanelFrames$Input" 51 2 11 := Or.inl (in_1 (List.mem_of_getElem? (i := 52) rfl))
set_option maxRecDepth 100000 in
theorem lf_Input_61 : LkF "PanelFrames$Input" 61 2 5 := Or.inl (in_1 (List.mem_of_getElem? (i := 40) rfl))
set_option maxRecDepth 100000 in
theorem lf_Input_64 : LkF "PanelFrames$Input" 64 2 6 := Or.inl (in_1 (List.mem_of_getElem? (i := 42) rfl))
set_option maxRecDepth 100000 in
theorem lf_Input_67 : LkF "PanelFrames$Input" 67 2 9 := Or.inl (in_1 (List.mem_of_getElem? (i := 48) rfl))
set_option maxRecDepth 100000 in
theorem hy_Input_clear : hyOk mi_Input_clear.1 0 := ⟨by decide +kernel, by decide +kernel, by decide +kernel⟩
set_option maxRecDepth 100000 in
theorem lv_Input_54 : LkV "PanelFrames$Input" 54 mi_Input_clear 2 0 := ⟨Or.inl (in_3 (List.mem_of_getElem? (i := 150) rfl)), (in_3 (List.mem_of_getElem? (i := 152) rfl)), (List.mem_append_left _ (List.mem_of_getElem? (i := 5) rfl)), (in_3 (List.mem_of_getElem? (i := 153) rfl)), rfl, hy_Input_clear, pn_Input⟩
set_option maxRecDepth 100000 in
theorem hy_Input_take2 : hyOk mi_Input_take2.1 3 := ⟨by decide +kernel, by decide +kernel, by decide +kernel⟩
set_option maxRecDepth 100000 in
theorem lv_Input_57 : LkV "PanelFrames$Input" 57 mi_Input_take2 2 3 := ⟨Or.inl (in_3 (List.mem_of_getElem? (i := 154) rfl)), (in_3 (List.mem_of_getElem? (i := 156) rfl)), (List.mem_append_left _ (List.mem_of_getElem? (i := 6) rfl)), (in_3 (List.mem_of_getElem? (i := 157) rfl)), rfl, hy_Input_take2, pn_Input⟩
set_option maxRecDepth 100000 in
theorem lf_PF_182 : LkF "PanelFrames" 182 7 1 := Or.inr ⟨"PanelFrames", (in_2 (List.mem_of_getElem? (i := 25) rfl))⟩
set_option maxRecDepth 100000 in
theorem lf_PF_141 : LkF "PanelFrames" 141 2 5 := Or.inr ⟨"PanelFrames", (in_1 (List.mem_of_getElem? (i := 41) rfl))⟩
set_option maxRecDepth 100000 in
theorem lf_PF_147 : LkF "PanelFrames" 147 2 6 := Or.inr ⟨"PanelFrames", (in_1 (List.mem_of_getElem? (i := 43) rfl))⟩
set_option maxRecDepth 100000 in
theorem hy_Rect_has : hyOk mi_Rect_has.1 2 := ⟨by decide +kernel, by decide +kernel, by decide +kernel⟩
set_option maxRecDepth 100000 in
theorem lv_PF_162 : LkV "PanelFrames" 162 mi_Rect_has 1 2 := ⟨Or.inl (in_3 (List.mem_of_getElem? (i := 162) rfl)), (in_3 (List.mem_of_getElem? (i := 163) rfl)), (in_3 (List.mem_of_getElem? (i := 164) rfl)), (in_3 (List.mem_of_getElem? (i := 165) rfl)), rfl, hy_Rect_has, pn_Rect⟩
set_option maxRecDepth 100000 in
theorem lf_PF_138 : LkF "PanelFrames" 138 2 10 := Or.inr ⟨"PanelFrames", (in_1 (List.mem_of_getElem? (i := 51) rfl))⟩
set_option maxRecDepth 100000 in
theorem lf_PF_185 : LkF "PanelFrames" 185 9 0 := Or.inr ⟨"PanelFrames", (in_1 (List.mem_of_getElem? (i := 134) rfl))⟩
set_option maxRecDepth 100000 in
theorem lf_PF_188 : LkF "PanelFrames" 188 2 9 := Or.inr ⟨"PanelFrames", (in_1 (List.mem_of_getElem? (i := 49) rfl))⟩
set_option maxRecDepth 100000 in
theorem lf_PF_166 : LkF "PanelFrames" 166 10 11 := Or.inl (in_2 (List.mem_of_getElem? (i := 149) rfl))
set_option maxRecDepth 100000 in
theorem lf_PF_169 : LkF "PanelFrames" 169 10 12 := Or.inl (in_2 (List.mem_of_getElem? (i := 150) rfl))
set_option maxRecDepth 100000 in
theorem lf_PF_191 : LkF "PanelFrames" 191 1 0 := Or.inr ⟨"PanelFrames", (in_1 (List.mem_of_getElem? (i := 182) rfl))⟩
set_option maxRecDepth 100000 in
theorem lf_PF_194 : LkF "PanelFrames" 194 1 1 := Or.inr ⟨"PanelFrames", (in_1 (List.mem_of_getElem? (i := 186) rfl))⟩
set_option maxRecDepth 100000 in
theorem lf_PF_197 : LkF "PanelFrames" 197 1 2 := Or.inr ⟨"PanelFrames", (in_1 (List.mem_of_getElem? (i := 189) rfl))⟩
set_option maxRecDepth 100000 in
theorem lf_PF_200 : LkF "PanelFrames" 200 1 3 := Or.inr ⟨"PanelFrames", (in_1 (List.mem_of_getElem? (i := 192) rfl))⟩
set_option maxRecDepth 100000 in
theorem lf_Att_20 : LkF "PanelFrames$Attention" 20 9 4 := Or.inl (in_1 (List.mem_of_getElem? (i := 141) rfl))
set_option maxRecDepth 100000 in
theorem lf_Att_23 : LkF "PanelFrames$Attention" 23 9 5 := Or.inl (in_1 (List.mem_of_getElem? (i := 142) rfl))
set_option maxRecDepth 100000 in
theorem lf_Att_27 : LkF "PanelFrames$Attention" 27 9 6 := Or.inl (in_1 (List.mem_of_getElem? (i := 143) rfl))
set_option maxRecDepth 100000 in
theorem lf_Att_30 : LkF "PanelFrames$Attention" 30 9 7 := Or.inl (in_1 (List.mem_of_getElem? (i := 145) rfl))
set_option maxRecDepth 100000 in
theorem hy_PF_may : hyOk mi_PF_may.1 1 := ⟨by decide +kernel, by decide +kernel, by decide +kernel⟩
set_option maxRecDepth 100000 in
theorem lv_PF_130 : LkV "PanelFrames" 130 mi_PF_may 10 1 := ⟨Or.inl (in_3 (List.mem_of_getElem? (i := 68) rfl)), (in_3 (List.mem_of_getElem? (i := 70) rfl)), (List.mem_append_left _ (List.mem_of_getElem? (i := 2) rfl)), (in_3 (List.mem_of_getElem? (i := 71) rfl)), rfl, hy_PF_may, pn_PF⟩
set_option maxRecDepth 100000 in
theorem hy_Input_take : hyOk mi_Input_take.1 0 := ⟨by decide +kernel, by decide +kernel, by decide +kernel⟩
set_option maxRecDepth 100000 in
theorem lv_PF_134 : LkV "PanelFrames" 134 mi_Input_take 2 0 := ⟨Or.inl (in_3 (List.mem_of_getElem? (i := 146) rfl)), (in_3 (List.mem_of_getElem? (i := 147) rfl)), (in_3 (List.mem_of_getElem? (i := 148) rfl)), (in_3 (List.mem_of_getElem? (i := 149) rfl)), rfl, hy_Input_take, pn_Input⟩
set_option maxRecDepth 100000 in
theorem lf_PF_144 : LkF "PanelFrames" 144 10 9 := Or.inl (in_2 (List.mem_of_getElem? (i := 147) rfl))
set_option maxRecDepth 100000 in
theorem lf_PF_150 : LkF "PanelFrames" 150 10 10 := Or.inl (in_2 (List.mem_of_getElem? (i := 148) rfl))
set_option maxRecDepth 100000 in
theorem hy_PF_underMouse : hyOk mi_PF_underMouse.1 0 := ⟨by decide +kernel, by decide +kernel, by decide +kernel⟩
set_option maxRecDepth 100000 in
theorem lv_PF_153 : LkV "PanelFrames" 153 mi_PF_underMouse 10 0 := ⟨Or.inl (in_3 (List.mem_of_getElem? (i := 158) rfl)), (in_3 (List.mem_of_getElem? (i := 160) rfl)), (List.mem_append_left _ (List.mem_of_getElem? (i := 7) rfl)), (in_3 (List.mem_of_getElem? (i := 161) rfl)), rfl, hy_PF_underMouse, pn_PF⟩
set_option maxRecDepth 100000 in
theorem hy_PF_toFront : hyOk mi_PF_toFront.1 1 := ⟨by decide +kernel, by decide +kernel, by decide +kernel⟩
set_option maxRecDepth 100000 in
theorem lv_PF_156 : LkV "PanelFrames" 156 mi_PF_toFront 10 1 := ⟨Or.inl (in_3 (List.mem_of_getElem? (i := 166) rfl)), (in_3 (List.mem_of_getElem? (i := 168) rfl)), (List.mem_append_left _ (List.mem_of_getElem? (i := 8) rfl)), (in_3 (List.mem_of_getElem? (i := 169) rfl)), rfl, hy_PF_toFront, pn_PF⟩
set_option maxRecDepth 100000 in
theorem hy_PF_drag : hyOk mi_PF_drag.1 0 := ⟨by decide +kernel, by decide +kernel, by decide +kernel⟩
set_option maxRecDepth 100000 in
theorem lv_PF_159 : LkV "PanelFrames" 159 mi_PF_drag 10 0 := ⟨Or.inl (in_3 (List.mem_of_getElem? (i := 170) rfl)), (in_3 (List.mem_of_getElem? (i := 172) rfl)), (List.mem_append_left _ (List.mem_of_getElem? (i := 9) rfl)), (in_3 (List.mem_of_getElem? (i := 173) rfl)), rfl, hy_PF_drag, pn_PF⟩
set_option maxRecDepth 100000 in
theorem lf_PF_172 : LkF "PanelFrames" 172 2 13 := Or.inr ⟨"PanelFrames", (in_1 (List.mem_of_getElem? (i := 57) rfl))⟩
set_option maxRecDepth 100000 in
theorem hy_Att_begin : hyOk mi_Att_begin.1 1 := ⟨by decide +kernel, by decide +kernel, by decide +kernel⟩
set_option maxRecDepth 100000 in
theorem lv_PF_176 : LkV "PanelFrames" 176 mi_Att_begin 9 1 := ⟨Or.inl (in_3 (List.mem_of_getElem? (i := 174) rfl)), (in_3 (List.mem_of_getElem? (i := 175) rfl)), (in_3 (List.mem_of_getElem? (i := 176) rfl)), (in_3 (List.mem_of_getElem? (i := 177) rfl)), rfl, hy_Att_begin, pn_Att⟩
set_option maxRecDepth 100000 in
theorem lf_PF_179 : LkF "PanelFrames" 179 10 14 := Or.inl (in_2 (List.mem_of_getElem? (i := 152) rfl))
set_option maxRecDepth 100000 in
theorem hy_PF_begin : hyOk mi_PF_begin.1 0 := ⟨by decide +kernel, by decide +kernel, by decide +kernel⟩
set_option maxRecDepth 100000 in
theorem lv_Law_7 : LkV "PanelFramesLaw" 7 mi_PF_begin 10 0 := ⟨Or.inl (in_3 (List.mem_of_getElem? (i := 64) rfl)), (in_3 (List.mem_of_getElem? (i := 65) rfl)), (in_3 (List.mem_of_getElem? (i := 66) rfl)), (in_3 (List.mem_of_getElem? (i := 67) rfl)), rfl, hy_PF_begin, pn_PF⟩
set_option maxRecDepth 100000 in
theorem lh_Law_13 : LkH "PanelFramesLaw" 13 33 := ⟨(in_3 (List.mem_of_getElem? (i := 63) rfl)), by decide⟩
set_option maxRecDepth 100000 in
theorem lf_Mo_236 : LkF "PanelFramesModel" 236 11 18 := Or.inl (in_5 (List.mem_of_getElem? (i := 36) rfl))
set_option maxRecDepth 100000 in
theorem lf_Mo_255 : LkF "PanelFramesModel" 255 11 19 := Or.inl (in_5 (List.mem_of_getElem? (i := 37) rfl))
set_option maxRecDepth 100000 in
theorem lf_Mo_264 : LkF "PanelFramesModel" 264 11 20 := Or.inl (in_5 (List.mem_of_getElem? (i := 38) rfl))
set_option maxRecDepth 100000 in
theorem lf_Mo_291 : LkF "PanelFramesModel" 291 11 22 := Or.inl (in_5 (List.mem_of_getElem? (i := 40) rfl))
set_option maxRecDepth 100000 in
theorem lf_Mo_294 : LkF "PanelFramesModel" 294 11 21 := Or.inl (in_5 (List.mem_of_getElem? (i := 39) rfl))
set_option maxRecDepth 100000 in
theorem lf_Mo_246 : LkF "PanelFramesModel" 246 11 48 := Or.inl (in_5 (List.mem_of_getElem? (i := 66) rfl))
set_option maxRecDepth 100000 in
theorem lf_Mo_279 : LkF "PanelFramesModel" 279 11 56 := Or.inl (in_5 (List.mem_of_getElem? (i := 74) rfl))
set_option maxRecDepth 100000 in
theorem lf_Mo_282 : LkF "PanelFramesModel" 282 11 58 := Or.inl (in_5 (List.mem_of_getElem? (i := 76) rfl))
set_option maxRecDepth 100000 in
theorem lf_Mo_285 : LkF "PanelFramesModel" 285 11 70 := Or.inl (in_5 (List.mem_of_getElem? (i := 88) rfl))
set_option maxRecDepth 100000 in
theorem hy_Mo_fails : hyOk mi_Mo_fails.1 1 := ⟨by decide +kernel, by decide +kernel, by decide +kernel⟩
set_option maxRecDepth 100000 in
theorem lv_Mo_297 : LkV "PanelFramesModel" 297 mi_Mo_fails 11 1 := ⟨Or.inl (in_6 (List.mem_of_getElem? (i := 79) rfl)), (in_6 (List.mem_of_getElem? (i := 81) rfl)), (List.mem_append_left _ (List.mem_of_getElem? (i := 30) rfl)), (in_6 (List.mem_of_getElem? (i := 82) rfl)), rfl, hy_Mo_fails, pn_Mo⟩
set_option maxRecDepth 100000 in
theorem lf_Mo_217 : LkF "PanelFramesModel" 217 11 16 := Or.inl (in_5 (List.mem_of_getElem? (i := 34) rfl))
set_option maxRecDepth 100000 in
theorem lf_Mo_214 : LkF "PanelFramesModel" 214 11 15 := Or.inl (in_5 (List.mem_of_getElem? (i := 33) rfl))
set_option maxRecDepth 100000 in
theorem lf_Mo_192 : LkF "PanelFramesModel" 192 11 3 := Or.inl (in_5 (List.mem_of_getElem? (i := 21) rfl))
set_option maxRecDepth 100000 in
theorem lf_Mo_195 : LkF "PanelFramesModel" 195 11 4 := Or.inl (in_5 (List.mem_of_getElem? (i := 22) rfl))
set_option maxRecDepth 100000 in
theorem lf_Mo_198 : LkF "PanelFramesModel" 198 11 9 := Or.inl (in_5 (List.mem_of_getElem? (i := 27) rfl))
set_option maxRecDepth 100000 in
theorem lf_Mo_202 : LkF "PanelFramesModel" 202 11 13 := Or.inl (in_5 (List.mem_of_getElem? (i := 31) rfl))
set_option maxRecDepth 100000 in
theorem lf_Mo_205 : LkF "PanelFramesModel" 205 11 14 := Or.inl (in_5 (List.mem_of_getElem? (i := 32) rfl))
set_option maxRecDepth 100000 in
theorem lf_Mo_208 : LkF "PanelFramesModel" 208 11 7 := Or.inl (in_5 (List.mem_of_getElem? (i := 25) rfl))
set_option maxRecDepth 100000 in
theorem lf_Mo_211 : LkF "PanelFramesModel" 211 11 8 := Or.inl (in_5 (List.mem_of_getElem? (i := 26) rfl))
set_option maxRecDepth 100000 in
theorem hy_Mo_take : hyOk mi_Mo_take.1 3 := ⟨by decide +kernel, by decide +kernel, by decide +kernel⟩
set_option maxRecDepth 100000 in
theorem lv_Mo_220 : LkV "PanelFramesModel" 220 mi_Mo_take 11 3 := ⟨Or.inl (in_6 (List.mem_of_getElem? (i := 87) rfl)), (in_6 (List.mem_of_getElem? (i := 89) rfl)), (List.mem_append_left _ (List.mem_of_getElem? (i := 32) rfl)), (in_6 (List.mem_of_getElem? (i := 90) rfl)), rfl, hy_Mo_take, pn_Mo⟩
set_option maxRecDepth 100000 in
theorem hy_Mo_height : hyOk mi_Mo_height.1 1 := ⟨by decide +kernel, by decide +kernel, by decide +kernel⟩
set_option maxRecDepth 100000 in
theorem lv_Mo_224 : LkV "PanelFramesModel" 224 mi_Mo_height 11 1 := ⟨Or.inl (in_6 (List.mem_of_getElem? (i := 99) rfl)), (in_6 (List.mem_of_getElem? (i := 101) rfl)), (List.mem_append_left _ (List.mem_of_getElem? (i := 35) rfl)), (in_6 (List.mem_of_getElem? (i := 102) rfl)), rfl, hy_Mo_height, pn_Mo⟩
set_option maxRecDepth 100000 in
theorem hy_Mo_isIn : hyOk mi_Mo_isIn.1 6 := ⟨by decide +kernel, by decide +kernel, by decide +kernel⟩
set_option maxRecDepth 100000 in
theorem lv_Mo_228 : LkV "PanelFramesModel" 228 mi_Mo_isIn 11 6 := ⟨Or.inl (in_6 (List.mem_of_getElem? (i := 103) rfl)), (in_6 (List.mem_of_getElem? (i := 105) rfl)), (List.mem_append_left _ (List.mem_of_getElem? (i := 36) rfl)), (in_6 (List.mem_of_getElem? (i := 106) rfl)), rfl, hy_Mo_isIn, pn_Mo⟩
set_option maxRecDepth 100000 in
theorem hy_Mo_hasMouse : hyOk mi_Mo_hasMouse.1 1 := ⟨by decide +kernel, by decide +kernel, by decide +kernel⟩
set_option maxRecDepth 100000 in
theorem lv_Mo_232 : LkV "PanelFramesModel" 232 mi_Mo_hasMouse 11 1 := ⟨Or.inl (in_6 (List.mem_of_getElem? (i := 95) rfl)), (in_6 (List.mem_of_getElem? (i := 97) rfl)), (List.mem_append_left _ (List.mem_of_getElem? (i := 34) rfl)), (in_6 (List.mem_of_getElem? (i := 98) rfl)), rfl, hy_Mo_hasMouse, pn_Mo⟩
set_option maxRecDepth 100000 in
theorem hy_Mo_takeAll : hyOk mi_Mo_takeAll.1 0 := ⟨by decide +kernel, by decide +kernel, by decide +kernel⟩
set_option maxRecDepth 100000 in
theorem lv_Mo_243 : LkV "PanelFramesModel" 243 mi_Mo_takeAll 11 0 := ⟨Or.inl (in_6 (List.mem_of_getElem? (i := 83) rfl)), (in_6 (List.mem_of_getElem? (i := 85) rfl)), (List.mem_append_left _ (List.mem_of_getElem? (i := 31) rfl)), (in_6 (List.mem_of_getElem? (i := 86) rfl)), rfl, hy_Mo_takeAll, pn_Mo⟩
set_option maxRecDepth 100000 in
theorem hy_Mo_breaks : hyOk mi_Mo_breaks.1 0 := ⟨by decide +kernel, by decide +kernel, by decide +kernel⟩
set_option maxRecDepth 100000 in
theorem lv_Mo_239 : LkV "PanelFramesModel" 239 mi_Mo_breaks 11 0 := ⟨Or.inl (in_6 (List.mem_of_getElem? (i := 75) rfl)), (in_6 (List.mem_of_getElem? (i := 77) rfl)), (List.mem_append_left _ (List.mem_of_getElem? (i := 29) rfl)), (in_6 (List.mem_of_getElem? (i := 78) rfl)), rfl, hy_Mo_breaks, pn_Mo⟩
set_option maxRecDepth 100000 in
theorem lf_Mo_249 : LkF "PanelFramesModel" 249 11 49 := Or.inl (in_5 (List.mem_of_getElem? (i := 67) rfl))
set_option maxRecDepth 100000 in
theorem hy_Mo_findWindow : hyOk mi_Mo_findWindow.1 0 := ⟨by decide +kernel, by decide +kernel, by decide +kernel⟩
set_option maxRecDepth 100000 in
theorem lv_Mo_252 : LkV "PanelFramesModel" 252 mi_Mo_findWindow 11 0 := ⟨Or.inl (in_6 (List.mem_of_getElem? (i := 91) rfl)), (in_6 (List.mem_of_getElem? (i := 93) rfl)), (List.mem_append_left _ (List.mem_of_getElem? (i := 33) rfl)), (in_6 (List.mem_of_getElem? (i := 94) rfl)), rfl, hy_Mo_findWindow, pn_Mo⟩
set_option maxRecDepth 100000 in
theorem lf_Mo_258 : LkF "PanelFramesModel" 258 11 5 := Or.inl (in_5 (List.mem_of_getElem? (i := 23) rfl))
set_option maxRecDepth 100000 in
theorem lf_Mo_261 : LkF "PanelFramesModel" 261 11 6 := Or.inl (in_5 (List.mem_of_getElem? (i := 24) rfl))
set_option maxRecDepth 100000 in
theorem lf_Mo_267 : LkF "PanelFramesModel" 267 11 25 := Or.inl (in_5 (List.mem_of_getElem? (i := 43) rfl))
set_option maxRecDepth 100000 in
theorem lf_Mo_270 : LkF "PanelFramesModel" 270 11 27 := Or.inl (in_5 (List.mem_of_getElem? (i := 45) rfl))
set_option maxRecDepth 100000 in
theorem lf_Mo_273 : LkF "PanelFramesModel" 273 11 28 := Or.inl (in_5 (List.mem_of_getElem? (i := 46) rfl))
set_option maxRecDepth 100000 in
theorem lf_Mo_276 : LkF "PanelFramesModel" 276 11 41 := Or.inl (in_5 (List.mem_of_getElem? (i := 59) rfl))
set_option maxRecDepth 100000 in
theorem lf_Mo_288 : LkF "PanelFramesModel" 288 11 82 := Or.inl (in_5 (List.mem_of_getElem? (i := 100) rfl))
set_option maxRecDepth 100000 in
theorem lf_DrawList_22 : LkF "PanelFrames$DrawList" 22 0 1 := Or.inr ⟨"PanelFrames", (in_1 (List.mem_of_getElem? (i := 218) rfl))⟩
set_option maxRecDepth 100000 in
theorem lf_Row_15 : LkF "PanelFrames$Row" 15 0 1 := Or.inl (in_1 (List.mem_of_getElem? (i := 217) rfl))
set_option maxRecDepth 100000 in
theorem lj_Row_19 : Cond.methodLink "PanelFrames$Row" 19 arraycopyName ∈ lw_tbl := (in_3 (List.mem_of_getElem? (i := 202) rfl))
set_option maxRecDepth 100000 in
theorem hy_Row_add : hyOk mi_Row_add.1 1 := ⟨by decide +kernel, by decide +kernel, by decide +kernel⟩
set_option maxRecDepth 100000 in
theorem lv_Row_25 : LkV "PanelFrames$Row" 25 mi_Row_add 0 1 := ⟨Or.inl (in_3 (List.mem_of_getElem? (i := 209) rfl)), (in_3 (List.mem_of_getElem? (i := 199) rfl)), (in_3 (List.mem_of_getElem? (i := 200) rfl)), (in_3 (List.mem_of_getElem? (i := 201) rfl)), rfl, hy_Row_add, pn_Row⟩
set_option maxRecDepth 100000 in
theorem hy_DrawList_made : hyOk mi_DrawList_made.1 0 := ⟨by decide +kernel, by decide +kernel, by decide +kernel⟩
set_option maxRecDepth 100000 in
theorem lv_DrawList_52 : LkV "PanelFrames$DrawList" 52 mi_DrawList_made 4 0 := ⟨Or.inl (in_3 (List.mem_of_getElem? (i := 197) rfl)), (in_3 (List.mem_of_getElem? (i := 40) rfl)), (in_3 (List.mem_of_getElem? (i := 41) rfl)), (in_3 (List.mem_of_getElem? (i := 42) rfl)), rfl, hy_DrawList_made, pn_DrawList⟩
set_option maxRecDepth 100000 in
theorem hy_Row_addAll : hyOk mi_Row_addAll.1 2 := ⟨by decide +kernel, by decide +kernel, by decide +kernel⟩
set_option maxRecDepth 100000 in
theorem lv_DrawList_64 : LkV "PanelFrames$DrawList" 64 mi_Row_addAll 0 2 := ⟨Or.inl (in_3 (List.mem_of_getElem? (i := 205) rfl)), (in_3 (List.mem_of_getElem? (i := 206) rfl)), (in_3 (List.mem_of_getElem? (i := 207) rfl)), (in_3 (List.mem_of_getElem? (i := 208) rfl)), rfl, hy_Row_addAll, pn_Row⟩
set_option maxRecDepth 100000 in
theorem lf_DrawList_48 : LkF "PanelFrames$DrawList" 48 0 0 := Or.inr ⟨"PanelFrames", (in_1 (List.mem_of_getElem? (i := 215) rfl))⟩
set_option maxRecDepth 100000 in
theorem lv_DrawList_26 : LkV "PanelFrames$DrawList" 26 mi_Row_add 0 1 := ⟨Or.inl (in_3 (List.mem_of_getElem? (i := 198) rfl)), (in_3 (List.mem_of_getElem? (i := 199) rfl)), (in_3 (List.mem_of_getElem? (i := 200) rfl)), (in_3 (List.mem_of_getElem? (i := 201) rfl)), rfl, hy_Row_add, pn_Row⟩
set_option maxRecDepth 100000 in
theorem hy_Att_end : hyOk mi_Att_end.1 0 := ⟨by decide +kernel, by decide +kernel, by decide +kernel⟩
set_option maxRecDepth 100000 in
theorem lv_PF_203 : LkV "PanelFrames" 203 mi_Att_end 9 0 := ⟨Or.inl (in_3 (List.mem_of_getElem? (i := 185) rfl)), (in_3 (List.mem_of_getElem? (i := 186) rfl)), (in_3 (List.mem_of_getElem? (i := 187) rfl)), (in_3 (List.mem_of_getElem? (i := 188) rfl)), rfl, hy_Att_end, pn_Att⟩
set_option maxRecDepth 100000 in
theorem hy_DrawList_clear : hyOk mi_DrawList_clear.1 0 := ⟨by decide +kernel, by decide +kernel, by decide +kernel⟩
set_option maxRecDepth 100000 in
theorem lv_PF_206 : LkV "PanelFrames" 206 mi_DrawList_clear 4 0 := ⟨Or.inl (in_3 (List.mem_of_getElem? (i := 189) rfl)), (in_3 (List.mem_of_getElem? (i := 190) rfl)), (in_3 (List.mem_of_getElem? (i := 191) rfl)), (in_3 (List.mem_of_getElem? (i := 192) rfl)), rfl, hy_DrawList_clear, pn_DrawList⟩
set_option maxRecDepth 100000 in
theorem lf_PF_216 : LkF "PanelFrames" 216 4 0 := Or.inr ⟨"PanelFrames", (in_1 (List.mem_of_getElem? (i := 226) rfl))⟩
set_option maxRecDepth 100000 in
theorem lf_PF_220 : LkF "PanelFrames" 220 0 1 := Or.inr ⟨"PanelFrames", (in_1 (List.mem_of_getElem? (i := 219) rfl))⟩
set_option maxRecDepth 100000 in
theorem lf_PF_209 : LkF "PanelFrames" 209 7 3 := Or.inr ⟨"PanelFrames", (in_2 (List.mem_of_getElem? (i := 29) rfl))⟩
set_option maxRecDepth 100000 in
theorem hy_DrawList_append : hyOk mi_DrawList_append.1 1 := ⟨by decide +kernel, by decide +kernel, by decide +kernel⟩
set_option maxRecDepth 100000 in
theorem lv_PF_212 : LkV "PanelFrames" 212 mi_DrawList_append 4 1 := ⟨Or.inl (in_3 (List.mem_of_getElem? (i := 193) rfl)), (in_3 (List.mem_of_getElem? (i := 194) rfl)), (in_3 (List.mem_of_getElem? (i := 195) rfl)), (in_3 (List.mem_of_getElem? (i := 196) rfl)), rfl, hy_DrawList_append, pn_DrawList⟩
set_option maxRecDepth 100000 in
theorem hy_PF_end : hyOk mi_PF_end.1 0 := ⟨by decide +kernel, by decide +kernel, by decide +kernel⟩
set_option maxRecDepth 100000 in
theorem lv_Law_15 : LkV "PanelFramesLaw" 15 mi_PF_end 10 0 := ⟨Or.inl (in_3 (List.mem_of_getElem? (i := 181) rfl)), (in_3 (List.mem_of_getElem? (i := 182) rfl)), (in_3 (List.mem_of_getElem? (i := 183) rfl)), (in_3 (List.mem_of_getElem? (i := 184) rfl)), rfl, hy_PF_end, pn_PF⟩
set_option maxRecDepth 100000 in
theorem lf_Mo_307 : LkF "PanelFramesModel" 307 11 83 := Or.inl (in_5 (List.mem_of_getElem? (i := 101) rfl))
set_option maxRecDepth 100000 in
theorem lf_Mo_397 : LkF "PanelFramesModel" 397 11 84 := Or.inl (in_5 (List.mem_of_getElem? (i := 102) rfl))
set_option maxRecDepth 100000 in
theorem lf_Mo_400 : LkF "PanelFramesModel" 400 11 85 := Or.inl (in_5 (List.mem_of_getElem? (i := 103) rfl))
set_option maxRecDepth 100000 in
theorem lf_Mo_403 : LkF "PanelFramesModel" 403 11 86 := Or.inl (in_5 (List.mem_of_getElem? (i := 104) rfl))
set_option maxRecDepth 100000 in
theorem lf_Mo_406 : LkF "PanelFramesModel" 406 11 87 := Or.inl (in_5 (List.mem_of_getElem? (i := 105) rfl))
set_option maxRecDepth 100000 in
theorem hy_Mo_walk : hyOk mi_Mo_walk.1 1 := ⟨by decide +kernel, by decide +kernel, by decide +kernel⟩
set_option maxRecDepth 100000 in
theorem lv_Mo_409 : LkV "PanelFramesModel" 409 mi_Mo_walk 11 1 := ⟨Or.inl (in_6 (List.mem_of_getElem? (i := 127) rfl)), (in_6 (List.mem_of_getElem? (i := 129) rfl)), (List.mem_append_left _ (List.mem_of_getElem? (i := 41) rfl)), (in_6 (List.mem_of_getElem? (i := 130) rfl)), rfl, hy_Mo_walk, pn_Mo⟩
set_option maxRecDepth 100000 in
theorem hy_Mo_wasTold : hyOk mi_Mo_wasTold.1 1 := ⟨by decide +kernel, by decide +kernel, by decide +kernel⟩
set_option maxRecDepth 100000 in
theorem lv_Mo_304 : LkV "PanelFramesModel" 304 mi_Mo_wasTold 11 1 := ⟨Or.inl (in_6 (List.mem_of_getElem? (i := 115) rfl)), (in_6 (List.mem_of_getElem? (i := 117) rfl)), (List.mem_append_left _ (List.mem_of_getElem? (i := 38) rfl)), (in_6 (List.mem_of_getElem? (i := 118) rfl)), rfl, hy_Mo_wasTold, pn_Mo⟩
set_option maxRecDepth 100000 in
theorem hy_Mo_give : hyOk mi_Mo_give.1 1 := ⟨by decide +kernel, by decide +kernel, by decide +kernel⟩
set_option maxRecDepth 100000 in
theorem lv_Mo_300 : LkV "PanelFramesModel" 300 mi_Mo_give 11 1 := ⟨Or.inl (in_6 (List.mem_of_getElem? (i := 111) rfl)), (in_6 (List.mem_of_getElem? (i := 113) rfl)), (List.mem_append_left _ (List.mem_of_getElem? (i := 37) rfl)), (in_6 (List.mem_of_getElem? (i := 114) rfl)), rfl, hy_Mo_give, pn_Mo⟩
set_option maxRecDepth 100000 in
theorem hy_Mo_drawnCount : hyOk mi_Mo_drawnCount.1 1 := ⟨by decide +kernel, by decide +kernel, by decide +kernel⟩
set_option maxRecDepth 100000 in
theorem lv_Mo_313 : LkV "PanelFramesModel" 313 mi_Mo_drawnCount 11 1 := ⟨Or.inl (in_6 (List.mem_of_getElem? (i := 123) rfl)), (in_6 (List.mem_of_getElem? (i := 125) rfl)), (List.mem_append_left _ (List.mem_of_getElem? (i := 40) rfl)), (in_6 (List.mem_of_getElem? (i := 126) rfl)), rfl, hy_Mo_drawnCount, pn_Mo⟩
set_option maxRecDepth 100000 in
theorem hy_Mo_copyList : hyOk mi_Mo_copyList.1 1 := ⟨by decide +kernel, by decide +kernel, by decide +kernel⟩
set_option maxRecDepth 100000 in
theorem lv_Mo_310 : LkV "PanelFramesModel" 310 mi_Mo_copyList 11 1 := ⟨Or.inl (in_6 (List.mem_of_getElem? (i := 119) rfl)), (in_6 (List.mem_of_getElem? (i := 121) rfl)), (List.mem_append_left _ (List.mem_of_getElem? (i := 39) rfl)), (in_6 (List.mem_of_getElem? (i := 122) rfl)), rfl, hy_Mo_copyList, pn_Mo⟩
set_option maxRecDepth 100000 in
theorem lx_PF_101 : LkX "PanelFrames" 103 101 32 := ⟨(in_3 (List.mem_of_getElem? (i := 224) rfl)), by decide +kernel⟩
set_option maxRecDepth 100000 in
theorem hy_Panel_id : hyOk mi_Panel_id.1 0 := ⟨by decide +kernel, by decide +kernel, by decide +kernel⟩
set_option maxRecDepth 100000 in
theorem lv_PF_277 : LkV "PanelFrames" 277 mi_Panel_id 7 0 := ⟨Or.inl (in_4 (List.mem_of_getElem? (i := 3) rfl)), (in_4 (List.mem_of_getElem? (i := 4) rfl)), (in_4 (List.mem_of_getElem? (i := 5) rfl)), (in_4 (List.mem_of_getElem? (i := 6) rfl)), rfl, hy_Panel_id, pn_Panel⟩
set_option maxRecDepth 100000 in
theorem hy_Att_tell : hyOk mi_Att_tell.1 1 := ⟨by decide +kernel, by decide +kernel, by decide +kernel⟩
set_option maxRecDepth 100000 in
theorem lv_PF_279 : LkV "PanelFrames" 279 mi_Att_tell 9 1 := ⟨Or.inl (in_4 (List.mem_of_getElem? (i := 7) rfl)), (in_4 (List.mem_of_getElem? (i := 8) rfl)), (in_4 (List.mem_of_getElem? (i := 9) rfl)), (in_4 (List.mem_of_getElem? (i := 10) rfl)), rfl, hy_Att_tell, pn_Att⟩
set_option maxRecDepth 100000 in
theorem lf_PF_281 : LkF "PanelFrames" 281 7 0 := Or.inr ⟨"PanelFrames", (in_2 (List.mem_of_getElem? (i := 23) rfl))⟩
set_option maxRecDepth 100000 in
theorem hy_Att_activate : hyOk mi_Att_activate.1 1 := ⟨by decide +kernel, by decide +kernel, by decide +kernel⟩
set_option maxRecDepth 100000 in
theorem lv_PF_282 : LkV "PanelFrames" 282 mi_Att_activate 9 1 := ⟨Or.inl (in_4 (List.mem_of_getElem? (i := 11) rfl)), (in_4 (List.mem_of_getElem? (i := 12) rfl)), (in_4 (List.mem_of_getElem? (i := 13) rfl)), (in_4 (List.mem_of_getElem? (i := 14) rfl)), rfl, hy_Att_activate, pn_Att⟩
set_option maxRecDepth 100000 in
theorem lf_PF_285 : LkF "PanelFrames" 285 2 11 := Or.inr ⟨"PanelFrames", (in_1 (List.mem_of_getElem? (i := 53) rfl))⟩
set_option maxRecDepth 100000 in
theorem lf_PF_274 : LkF "PanelFrames" 274 7 8 := Or.inr ⟨"PanelFrames", (in_2 (List.mem_of_getElem? (i := 38) rfl))⟩
set_option maxRecDepth 100000 in
theorem lf_Panel_36 : LkF "PanelFrames$Panel" 36 7 8 := Or.inl (in_2 (List.mem_of_getElem? (i := 37) rfl))
set_option maxRecDepth 100000 in
theorem lf_Panel_40 : LkF "PanelFrames$Panel" 40 7 5 := Or.inl (in_2 (List.mem_of_getElem? (i := 32) rfl))
set_option maxRecDepth 100000 in
theorem lf_Panel_43 : LkF "PanelFrames$Panel" 43 7 7 := Or.inl (in_2 (List.mem_of_getElem? (i := 35) rfl))
set_option maxRecDepth 100000 in
theorem lf_Panel_46 : LkF "PanelFrames$Panel" 46 7 4 := Or.inl (in_2 (List.mem_of_getElem? (i := 30) rfl))
set_option maxRecDepth 100000 in
theorem lf_Panel_49 : LkF "PanelFrames$Panel" 49 1 0 := Or.inr ⟨"PanelFrames", (in_1 (List.mem_of_getElem? (i := 180) rfl))⟩
set_option maxRecDepth 100000 in
theorem lf_Panel_52 : LkF "PanelFrames$Panel" 52 1 1 := Or.inr ⟨"PanelFrames", (in_1 (List.mem_of_getElem? (i := 184) rfl))⟩
set_option maxRecDepth 100000 in
theorem hy_Panel_shownHeight : hyOk mi_Panel_shownHeight.1 0 := ⟨by decide +kernel, by decide +kernel, by decide +kernel⟩
set_option maxRecDepth 100000 in
theorem lv_Panel_55 : LkV "PanelFrames$Panel" 55 mi_Panel_shownHeight 7 0 := ⟨Or.inl (in_4 (List.mem_of_getElem? (i := 23) rfl)), (in_4 (List.mem_of_getElem? (i := 24) rfl)), (in_4 (List.mem_of_getElem? (i := 25) rfl)), (in_4 (List.mem_of_getElem? (i := 26) rfl)), rfl, hy_Panel_shownHeight, pn_Panel⟩
set_option maxRecDepth 100000 in
theorem lv_Panel_59 : LkV "PanelFrames$Panel" 59 mi_Rect_be 1 4 := ⟨Or.inl (in_4 (List.mem_of_getElem? (i := 27) rfl)), (in_2 (List.mem_of_getElem? (i := 135) rfl)), (in_2 (List.mem_of_getElem? (i := 136) rfl)), (in_2 (List.mem_of_getElem? (i := 137) rfl)), rfl, hy_Rect_be, pn_Rect⟩
set_option maxRecDepth 100000 in
theorem lf_Scroll_7 : LkF "PanelFrames$Scroll" 7 6 1 := Or.inl (in_2 (List.mem_of_getElem? (i := 13) rfl))
set_option maxRecDepth 100000 in
theorem lj_Scroll_13 : Cond.methodLink "PanelFrames$Scroll" 13 Lib.Math.min.name ∈ lw_tbl := (in_4 (List.mem_of_getElem? (i := 32) rfl))
set_option maxRecDepth 100000 in
theorem lj_Scroll_19 : Cond.methodLink "PanelFrames$Scroll" 19 Lib.Math.max.name ∈ lw_tbl := (in_4 (List.mem_of_getElem? (i := 35) rfl))
set_option maxRecDepth 100000 in
theorem lf_Scroll_22 : LkF "PanelFrames$Scroll" 22 6 0 := Or.inl (in_2 (List.mem_of_getElem? (i := 11) rfl))
set_option maxRecDepth 100000 in
theorem lv_Rect_22 : LkV "PanelFrames$Rect" 22 mi_Rect_be 1 4 := ⟨Or.inl (in_4 (List.mem_of_getElem? (i := 42) rfl)), (in_2 (List.mem_of_getElem? (i := 135) rfl)), (in_2 (List.mem_of_getElem? (i := 136) rfl)), (in_2 (List.mem_of_getElem? (i := 137) rfl)), rfl, hy_Rect_be, pn_Rect⟩
set_option maxRecDepth 100000 in
theorem lj_Rect_26 : Cond.methodLink "PanelFrames$Rect" 26 Lib.Math.max.name ∈ lw_tbl := (in_4 (List.mem_of_getElem? (i := 47) rfl))
set_option maxRecDepth 100000 in
theorem lj_Rect_32 : Cond.methodLink "PanelFrames$Rect" 32 Lib.Math.min.name ∈ lw_tbl := (in_4 (List.mem_of_getElem? (i := 48) rfl))
set_option maxRecDepth 100000 in
theorem lf_DrawList_30 : LkF "PanelFrames$DrawList" 30 1 0 := Or.inr ⟨"PanelFrames", (in_1 (List.mem_of_getElem? (i := 181) rfl))⟩
set_option maxRecDepth 100000 in
theorem lf_DrawList_35 : LkF "PanelFrames$DrawList" 35 1 1 := Or.inr ⟨"PanelFrames", (in_1 (List.mem_of_getElem? (i := 185) rfl))⟩
set_option maxRecDepth 100000 in
theorem lf_DrawList_38 : LkF "PanelFrames$DrawList" 38 1 2 := Or.inr ⟨"PanelFrames", (in_1 (List.mem_of_getElem? (i := 188) rfl))⟩
set_option maxRecDepth 100000 in
theorem lf_DrawList_41 : LkF "PanelFrames$DrawList" 41 1 3 := Or.inr ⟨"PanelFrames", (in_1 (List.mem_of_getElem? (i := 191) rfl))⟩
set_option maxRecDepth 100000 in
theorem hy_Rect_meets : hyOk mi_Rect_meets.1 1 := ⟨by decide +kernel, by decide +kernel, by decide +kernel⟩
set_option maxRecDepth 100000 in
theorem lv_DrawList_44 : LkV "PanelFrames$DrawList" 44 mi_Rect_meets 1 1 := ⟨Or.inl (in_4 (List.mem_of_getElem? (i := 53) rfl)), (in_4 (List.mem_of_getElem? (i := 54) rfl)), (in_4 (List.mem_of_getElem? (i := 55) rfl)), (in_4 (List.mem_of_getElem? (i := 56) rfl)), rfl, hy_Rect_meets, pn_Rect⟩
set_option maxRecDepth 100000 in
theorem hy_DrawList_command : hyOk mi_DrawList_command.1 3 := ⟨by decide +kernel, by decide +kernel, by decide +kernel⟩
set_option maxRecDepth 100000 in
theorem lv_DrawList_56 : LkV "PanelFrames$DrawList" 56 mi_DrawList_command 4 3 := ⟨Or.inl (in_4 (List.mem_of_getElem? (i := 57) rfl)), (in_4 (List.mem_of_getElem? (i := 59) rfl)), (List.mem_append_left _ (List.mem_of_getElem? (i := 12) rfl)), (in_4 (List.mem_of_getElem? (i := 60) rfl)), rfl, hy_DrawList_command, pn_DrawList⟩
set_option maxRecDepth 100000 in
theorem hy_DrawList_vertex : hyOk mi_DrawList_vertex.1 3 := ⟨by decide +kernel, by decide +kernel, by decide +kernel⟩
set_option maxRecDepth 100000 in
theorem lv_DrawList_60 : LkV "PanelFrames$DrawList" 60 mi_DrawList_vertex 4 3 := ⟨Or.inl (in_4 (List.mem_of_getElem? (i := 61) rfl)), (in_4 (List.mem_of_getElem? (i := 63) rfl)), (List.mem_append_left _ (List.mem_of_getElem? (i := 13) rfl)), (in_4 (List.mem_of_getElem? (i := 64) rfl)), rfl, hy_DrawList_vertex, pn_DrawList⟩
set_option maxRecDepth 100000 in
theorem lf_PF_232 : LkF "PanelFrames" 232 8 5 := Or.inr ⟨"PanelFrames", (in_2 (List.mem_of_getElem? (i := 119) rfl))⟩
set_option maxRecDepth 100000 in
theorem lf_PF_236 : LkF "PanelFrames" 236 8 4 := Or.inr ⟨"PanelFrames", (in_2 (List.mem_of_getElem? (i := 118) rfl))⟩
set_option maxRecDepth 100000 in
theorem lf_PF_242 : LkF "PanelFrames" 242 8 0 := Or.inr ⟨"PanelFrames", (in_2 (List.mem_of_getElem? (i := 112) rfl))⟩
set_option maxRecDepth 100000 in
theorem lf_PF_225 : LkF "PanelFrames" 225 8 1 := Or.inr ⟨"PanelFrames", (in_2 (List.mem_of_getElem? (i := 113) rfl))⟩
set_option maxRecDepth 100000 in
theorem lf_PF_248 : LkF "PanelFrames" 248 8 3 := Or.inr ⟨"PanelFrames", (in_2 (List.mem_of_getElem? (i := 116) rfl))⟩
set_option maxRecDepth 100000 in
theorem hy_PF_layout : hyOk mi_PF_layout.1 0 := ⟨by decide +kernel, by decide +kernel, by decide +kernel⟩
set_option maxRecDepth 100000 in
theorem lv_PF_245 : LkV "PanelFrames" 245 mi_PF_layout 10 0 := ⟨Or.inl (in_4 (List.mem_of_getElem? (i := 69) rfl)), (in_4 (List.mem_of_getElem? (i := 71) rfl)), (List.mem_append_left _ (List.mem_of_getElem? (i := 15) rfl)), (in_4 (List.mem_of_getElem? (i := 72) rfl)), rfl, hy_PF_layout, pn_PF⟩
set_option maxRecDepth 100000 in
theorem hy_PF_clip : hyOk mi_PF_clip.1 0 := ⟨by decide +kernel, by decide +kernel, by decide +kernel⟩
set_option maxRecDepth 100000 in
theorem lv_PF_251 : LkV "PanelFrames" 251 mi_PF_clip 10 0 := ⟨Or.inl (in_4 (List.mem_of_getElem? (i := 73) rfl)), (in_4 (List.mem_of_getElem? (i := 75) rfl)), (List.mem_append_left _ (List.mem_of_getElem? (i := 16) rfl)), (in_4 (List.mem_of_getElem? (i := 76) rfl)), rfl, hy_PF_clip, pn_PF⟩
set_option maxRecDepth 100000 in
theorem hy_Rect_be2 : hyOk mi_Rect_be2.1 1 := ⟨by decide +kernel, by decide +kernel, by decide +kernel⟩
set_option maxRecDepth 100000 in
theorem lv_PF_254 : LkV "PanelFrames" 254 mi_Rect_be2 1 1 := ⟨Or.inl (in_4 (List.mem_of_getElem? (i := 38) rfl)), (in_4 (List.mem_of_getElem? (i := 39) rfl)), (in_4 (List.mem_of_getElem? (i := 40) rfl)), (in_4 (List.mem_of_getElem? (i := 41) rfl)), rfl, hy_Rect_be2, pn_Rect⟩
set_option maxRecDepth 100000 in
theorem lf_Layout_7 : LkF "PanelFrames$Layout" 7 5 0 := Or.inl (in_2 (List.mem_of_getElem? (i := 72) rfl))
set_option maxRecDepth 100000 in
theorem lf_Layout_13 : LkF "PanelFrames$Layout" 13 5 1 := Or.inl (in_2 (List.mem_of_getElem? (i := 74) rfl))
set_option maxRecDepth 100000 in
theorem lf_Layout_16 : LkF "PanelFrames$Layout" 16 5 2 := Or.inl (in_2 (List.mem_of_getElem? (i := 75) rfl))
set_option maxRecDepth 100000 in
theorem lf_Layout_19 : LkF "PanelFrames$Layout" 19 5 3 := Or.inl (in_2 (List.mem_of_getElem? (i := 77) rfl))
set_option maxRecDepth 100000 in
theorem lf_Layout_22 : LkF "PanelFrames$Layout" 22 5 7 := Or.inl (in_2 (List.mem_of_getElem? (i := 81) rfl))
set_option maxRecDepth 100000 in
theorem lf_Layout_25 : LkF "PanelFrames$Layout" 25 5 8 := Or.inl (in_2 (List.mem_of_getElem? (i := 83) rfl))
set_option maxRecDepth 100000 in
theorem lf_Layout_28 : LkF "PanelFrames$Layout" 28 5 9 := Or.inl (in_2 (List.mem_of_getElem? (i := 84) rfl))
set_option maxRecDepth 100000 in
theorem lf_Layout_32 : LkF "PanelFrames$Layout" 32 5 10 := Or.inl (in_2 (List.mem_of_getElem? (i := 85) rfl))
set_option maxRecDepth 100000 in
theorem hy_Panel_tell : hyOk mi_Panel_tell.1 2 := ⟨by decide +kernel, by decide +kernel, by decide +kernel⟩
set_option maxRecDepth 100000 in
theorem lv_PF_288 : LkV "PanelFrames" 288 mi_Panel_tell 7 2 := ⟨Or.inl (in_4 (List.mem_of_getElem? (i := 19) rfl)), (in_4 (List.mem_of_getElem? (i := 20) rfl)), (in_4 (List.mem_of_getElem? (i := 21) rfl)), (in_4 (List.mem_of_getElem? (i := 22) rfl)), rfl, hy_Panel_tell, pn_Panel⟩
set_option maxRecDepth 100000 in
theorem lf_PF_291 : LkF "PanelFrames" 291 7 2 := Or.inr ⟨"PanelFrames", (in_2 (List.mem_of_getElem? (i := 27) rfl))⟩
set_option maxRecDepth 100000 in
theorem lf_PF_295 : LkF "PanelFrames" 295 6 0 := Or.inr ⟨"PanelFrames", (in_2 (List.mem_of_getElem? (i := 12) rfl))⟩
set_option maxRecDepth 100000 in
theorem lf_PF_298 : LkF "PanelFrames" 298 2 7 := Or.inr ⟨"PanelFrames", (in_1 (List.mem_of_getElem? (i := 45) rfl))⟩
set_option maxRecDepth 100000 in
theorem hy_Scroll_to : hyOk mi_Scroll_to.1 2 := ⟨by decide +kernel, by decide +kernel, by decide +kernel⟩
set_option maxRecDepth 100000 in
theorem lv_PF_301 : LkV "PanelFrames" 301 mi_Scroll_to 6 2 := ⟨Or.inl (in_4 (List.mem_of_getElem? (i := 28) rfl)), (in_4 (List.mem_of_getElem? (i := 29) rfl)), (in_4 (List.mem_of_getElem? (i := 30) rfl)), (in_4 (List.mem_of_getElem? (i := 31) rfl)), rfl, hy_Scroll_to, pn_Scroll⟩
set_option maxRecDepth 100000 in
theorem hy_Rect_meet : hyOk mi_Rect_meet.1 1 := ⟨by decide +kernel, by decide +kernel, by decide +kernel⟩
set_option maxRecDepth 100000 in
theorem lv_PF_304 : LkV "PanelFrames" 304 mi_Rect_meet 1 1 := ⟨Or.inl (in_4 (List.mem_of_getElem? (i := 43) rfl)), (in_4 (List.mem_of_getElem? (i := 44) rfl)), (in_4 (List.mem_of_getElem? (i := 45) rfl)), (in_4 (List.mem_of_getElem? (i := 46) rfl)), rfl, hy_Rect_meet, pn_Rect⟩
set_option maxRecDepth 100000 in
theorem hy_DrawList_quad : hyOk mi_DrawList_quad.1 4 := ⟨by decide +kernel, by decide +kernel, by decide +kernel⟩
set_option maxRecDepth 100000 in
theorem lv_PF_307 : LkV "PanelFrames" 307 mi_DrawList_quad 4 4 := ⟨Or.inl (in_4 (List.mem_of_getElem? (i := 49) rfl)), (in_4 (List.mem_of_getElem? (i := 50) rfl)), (in_4 (List.mem_of_getElem? (i := 51) rfl)), (in_4 (List.mem_of_getElem? (i := 52) rfl)), rfl, hy_DrawList_quad, pn_DrawList⟩
set_option maxRecDepth 100000 in
theorem hy_PF_push : hyOk mi_PF_push.1 2 := ⟨by decide +kernel, by decide +kernel, by decide +kernel⟩
set_option maxRecDepth 100000 in
theorem lv_PF_311 : LkV "PanelFrames" 311 mi_PF_push 10 2 := ⟨Or.inl (in_4 (List.mem_of_getElem? (i := 65) rfl)), (in_4 (List.mem_of_getElem? (i := 67) rfl)), (List.mem_append_left _ (List.mem_of_getElem? (i := 14) rfl)), (in_4 (List.mem_of_getElem? (i := 68) rfl)), rfl, hy_PF_push, pn_PF⟩
set_option maxRecDepth 100000 in
theorem lf_PF_239 : LkF "PanelFrames" 239 8 2 := Or.inr ⟨"PanelFrames", (in_2 (List.mem_of_getElem? (i := 114) rfl))⟩
set_option maxRecDepth 100000 in
theorem hy_Layout_be : hyOk mi_Layout_be.1 2 := ⟨by decide +kernel, by decide +kernel, by decide +kernel⟩
set_option maxRecDepth 100000 in
theorem lv_PF_315 : LkV "PanelFrames" 315 mi_Layout_be 5 2 := ⟨Or.inl (in_4 (List.mem_of_getElem? (i := 77) rfl)), (in_4 (List.mem_of_getElem? (i := 78) rfl)), (in_4 (List.mem_of_getElem? (i := 79) rfl)), (in_4 (List.mem_of_getElem? (i := 80) rfl)), rfl, hy_Layout_be, pn_Layout⟩
set_option maxRecDepth 100000 in
theorem hy_PF_isSize : hyOk mi_PF_isSize.1 2 := ⟨by decide +kernel, by decide +kernel, by decide +kernel⟩
set_option maxRecDepth 100000 in
theorem ls_PF_257 : LkS "PanelFrames" 257 mi_PF_isSize 2 := ⟨(in_3 (List.mem_of_getElem? (i := 218) rfl)), (in_3 (List.mem_of_getElem? (i := 219) rfl)), (in_1 (List.mem_of_getElem? (i := 1) rfl)), Or.inl ⟨(in_3 (List.mem_of_getElem? (i := 220) rfl)), rfl⟩, hy_PF_isSize, pn_PF⟩
set_option maxRecDepth 100000 in
theorem hy_PF_want : hyOk mi_PF_want.1 1 := ⟨by decide +kernel, by decide +kernel, by decide +kernel⟩
set_option maxRecDepth 100000 in
theorem ls_PF_260 : LkS "PanelFrames" 260 mi_PF_want 1 := ⟨(in_3 (List.mem_of_getElem? (i := 221) rfl)), (in_3 (List.mem_of_getElem? (i := 222) rfl)), (in_1 (List.mem_of_getElem? (i := 1) rfl)), Or.inl ⟨(in_3 (List.mem_of_getElem? (i := 223) rfl)), rfl⟩, hy_PF_want, pn_PF⟩
set_option maxRecDepth 100000 in
theorem lf_PF_263 : LkF "PanelFrames" 263 7 6 := Or.inr ⟨"PanelFrames", (in_2 (List.mem_of_getElem? (i := 34) rfl))⟩
set_option maxRecDepth 100000 in
theorem hy_PF_holdTitle : hyOk mi_PF_holdTitle.1 2 := ⟨by decide +kernel, by decide +kernel, by decide +kernel⟩
set_option maxRecDepth 100000 in
theorem lv_PF_266 : LkV "PanelFrames" 266 mi_PF_holdTitle 10 2 := ⟨Or.inl (in_3 (List.mem_of_getElem? (i := 239) rfl)), (in_4 (List.mem_of_getElem? (i := 1) rfl)), (List.mem_append_left _ (List.mem_of_getElem? (i := 10) rfl)), (in_4 (List.mem_of_getElem? (i := 2) rfl)), rfl, hy_PF_holdTitle, pn_PF⟩
set_option maxRecDepth 100000 in
theorem hy_PF_tell : hyOk mi_PF_tell.1 3 := ⟨by decide +kernel, by decide +kernel, by decide +kernel⟩
set_option maxRecDepth 100000 in
theorem lv_PF_270 : LkV "PanelFrames" 270 mi_PF_tell 10 3 := ⟨Or.inl (in_4 (List.mem_of_getElem? (i := 15) rfl)), (in_4 (List.mem_of_getElem? (i := 17) rfl)), (List.mem_append_left _ (List.mem_of_getElem? (i := 11) rfl)), (in_4 (List.mem_of_getElem? (i := 18) rfl)), rfl, hy_PF_tell, pn_PF⟩
set_option maxRecDepth 100000 in
theorem hy_PF_window : hyOk mi_PF_window.1 5 := ⟨by decide +kernel, by decide +kernel, by decide +kernel⟩
set_option maxRecDepth 100000 in
theorem lv_Law_18 : LkV "PanelFramesLaw" 18 mi_PF_window 10 5 := ⟨Or.inl (in_3 (List.mem_of_getElem? (i := 214) rfl)), (in_3 (List.mem_of_getElem? (i := 215) rfl)), (in_3 (List.mem_of_getElem? (i := 216) rfl)), (in_3 (List.mem_of_getElem? (i := 217) rfl)), rfl, hy_PF_window, pn_PF⟩
set_option maxRecDepth 100000 in
theorem lh_Law_22 : LkH "PanelFramesLaw" 22 32 := ⟨(in_3 (List.mem_of_getElem? (i := 213) rfl)), by decide⟩
set_option maxRecDepth 100000 in
theorem hy_Mo_min : hyOk mi_Mo_min.1 2 := ⟨by decide +kernel, by decide +kernel, by decide +kernel⟩
set_option maxRecDepth 100000 in
theorem ls_Mo_178 : LkS "PanelFramesModel" 178 mi_Mo_min 2 := ⟨(in_6 (List.mem_of_getElem? (i := 149) rfl)), (in_6 (List.mem_of_getElem? (i := 150) rfl)), (in_1 (List.mem_of_getElem? (i := 12) rfl)), Or.inl ⟨(in_6 (List.mem_of_getElem? (i := 151) rfl)), rfl⟩, hy_Mo_min, pn_Mo⟩
set_option maxRecDepth 100000 in
theorem hy_Mo_max : hyOk mi_Mo_max.1 2 := ⟨by decide +kernel, by decide +kernel, by decide +kernel⟩
set_option maxRecDepth 100000 in
theorem ls_Mo_182 : LkS "PanelFramesModel" 182 mi_Mo_max 2 := ⟨(in_6 (List.mem_of_getElem? (i := 143) rfl)), (in_6 (List.mem_of_getElem? (i := 144) rfl)), (in_1 (List.mem_of_getElem? (i := 12) rfl)), Or.inl ⟨(in_6 (List.mem_of_getElem? (i := 145) rfl)), rfl⟩, hy_Mo_max, pn_Mo⟩
set_option maxRecDepth 100000 in
theorem hy_Mo_quad : hyOk mi_Mo_quad.1 10 := ⟨by decide +kernel, by decide +kernel, by decide +kernel⟩
set_option maxRecDepth 100000 in
theorem lv_Mo_316 : LkV "PanelFramesModel" 316 mi_Mo_quad 11 10 := ⟨Or.inl (in_6 (List.mem_of_getElem? (i := 168) rfl)), (in_6 (List.mem_of_getElem? (i := 170) rfl)), (List.mem_append_left _ (List.mem_of_getElem? (i := 48) rfl)), (in_6 (List.mem_of_getElem? (i := 171) rfl)), rfl, hy_Mo_quad, pn_Mo⟩
set_option maxRecDepth 100000 in
theorem hy_Mo_tell : hyOk mi_Mo_tell.1 1 := ⟨by decide +kernel, by decide +kernel, by decide +kernel⟩
set_option maxRecDepth 100000 in
theorem lv_Mo_324 : LkV "PanelFramesModel" 324 mi_Mo_tell 11 1 := ⟨Or.inl (in_6 (List.mem_of_getElem? (i := 139) rfl)), (in_6 (List.mem_of_getElem? (i := 141) rfl)), (List.mem_append_left _ (List.mem_of_getElem? (i := 43) rfl)), (in_6 (List.mem_of_getElem? (i := 142) rfl)), rfl, hy_Mo_tell, pn_Mo⟩
set_option maxRecDepth 100000 in
theorem hy_Mo_between : hyOk mi_Mo_between.1 3 := ⟨by decide +kernel, by decide +kernel, by decide +kernel⟩
set_option maxRecDepth 100000 in
theorem ls_Mo_327 : LkS "PanelFramesModel" 327 mi_Mo_between 3 := ⟨(in_6 (List.mem_of_getElem? (i := 146) rfl)), (in_6 (List.mem_of_getElem? (i := 147) rfl)), (in_1 (List.mem_of_getElem? (i := 12) rfl)), Or.inl ⟨(in_6 (List.mem_of_getElem? (i := 148) rfl)), rfl⟩, hy_Mo_between, pn_Mo⟩
set_option maxRecDepth 100000 in
theorem hy_Mo_area : hyOk mi_Mo_area.1 2 := ⟨by decide +kernel, by decide +kernel, by decide +kernel⟩
set_option maxRecDepth 100000 in
theorem lv_Mo_331 : LkV "PanelFramesModel" 331 mi_Mo_area 11 2 := ⟨Or.inl (in_6 (List.mem_of_getElem? (i := 152) rfl)), (in_6 (List.mem_of_getElem? (i := 154) rfl)), (List.mem_append_left _ (List.mem_of_getElem? (i := 44) rfl)), (in_6 (List.mem_of_getElem? (i := 155) rfl)), rfl, hy_Mo_area, pn_Mo⟩
set_option maxRecDepth 100000 in
theorem hy_Mo_openThing : hyOk mi_Mo_openThing.1 3 := ⟨by decide +kernel, by decide +kernel, by decide +kernel⟩
set_option maxRecDepth 100000 in
theorem lv_Mo_334 : LkV "PanelFramesModel" 334 mi_Mo_openThing 11 3 := ⟨Or.inl (in_6 (List.mem_of_getElem? (i := 156) rfl)), (in_6 (List.mem_of_getElem? (i := 158) rfl)), (List.mem_append_left _ (List.mem_of_getElem? (i := 45) rfl)), (in_6 (List.mem_of_getElem? (i := 159) rfl)), rfl, hy_Mo_openThing, pn_Mo⟩
set_option maxRecDepth 100000 in
theorem hy_Mo_push : hyOk mi_Mo_push.1 1 := ⟨by decide +kernel, by decide +kernel, by decide +kernel⟩
set_option maxRecDepth 100000 in
theorem lv_Mo_337 : LkV "PanelFramesModel" 337 mi_Mo_push 11 1 := ⟨Or.inl (in_6 (List.mem_of_getElem? (i := 160) rfl)), (in_6 (List.mem_of_getElem? (i := 162) rfl)), (List.mem_append_left _ (List.mem_of_getElem? (i := 46) rfl)), (in_6 (List.mem_of_getElem? (i := 163) rfl)), rfl, hy_Mo_push, pn_Mo⟩
set_option maxRecDepth 100000 in
theorem hy_Mo_quadClipped : hyOk mi_Mo_quadClipped.1 6 := ⟨by decide +kernel, by decide +kernel, by decide +kernel⟩
set_option maxRecDepth 100000 in
theorem lv_Mo_320 : LkV "PanelFramesModel" 320 mi_Mo_quadClipped 11 6 := ⟨Or.inl (in_6 (List.mem_of_getElem? (i := 164) rfl)), (in_6 (List.mem_of_getElem? (i := 166) rfl)), (List.mem_append_left _ (List.mem_of_getElem? (i := 47) rfl)), (in_6 (List.mem_of_getElem? (i := 167) rfl)), rfl, hy_Mo_quadClipped, pn_Mo⟩
set_option maxRecDepth 100000 in
theorem hy_Mo_tellWindow : hyOk mi_Mo_tellWindow.1 3 := ⟨by decide +kernel, by decide +kernel, by decide +kernel⟩
set_option maxRecDepth 100000 in
theorem lv_Mo_340 : LkV "PanelFramesModel" 340 mi_Mo_tellWindow 11 3 := ⟨Or.inl (in_6 (List.mem_of_getElem? (i := 135) rfl)), (in_6 (List.mem_of_getElem? (i := 137) rfl)), (List.mem_append_left _ (List.mem_of_getElem? (i := 42) rfl)), (in_6 (List.mem_of_getElem? (i := 138) rfl)), rfl, hy_Mo_tellWindow, pn_Mo⟩
set_option maxRecDepth 100000 in
theorem hy_PF_isLabel : hyOk mi_PF_isLabel.1 1 := ⟨by decide +kernel, by decide +kernel, by decide +kernel⟩
set_option maxRecDepth 100000 in
theorem ls_PF_319 : LkS "PanelFrames" 319 mi_PF_isLabel 1 := ⟨(in_4 (List.mem_of_getElem? (i := 88) rfl)), (in_4 (List.mem_of_getElem? (i := 89) rfl)), (in_1 (List.mem_of_getElem? (i := 1) rfl)), Or.inl ⟨(in_4 (List.mem_of_getElem? (i := 90) rfl)), rfl⟩, hy_PF_isLabel, pn_PF⟩
set_option maxRecDepth 100000 in
theorem lf_PF_323 : LkF "PanelFrames" 323 7 4 := Or.inr ⟨"PanelFrames", (in_2 (List.mem_of_getElem? (i := 31) rfl))⟩
set_option maxRecDepth 100000 in
theorem lf_PF_326 : LkF "PanelFrames" 326 7 5 := Or.inr ⟨"PanelFrames", (in_2 (List.mem_of_getElem? (i := 33) rfl))⟩
set_option maxRecDepth 100000 in
theorem hy_PF_open : hyOk mi_PF_open.1 1 := ⟨by decide +kernel, by decide +kernel, by decide +kernel⟩
set_option maxRecDepth 100000 in
theorem lv_Law_24 : LkV "PanelFramesLaw" 24 mi_PF_open 10 1 := ⟨Or.inl (in_4 (List.mem_of_getElem? (i := 84) rfl)), (in_4 (List.mem_of_getElem? (i := 85) rfl)), (in_4 (List.mem_of_getElem? (i := 86) rfl)), (in_4 (List.mem_of_getElem? (i := 87) rfl)), rfl, hy_PF_open, pn_PF⟩
set_option maxRecDepth 100000 in
theorem hy_Mo_isLabel : hyOk mi_Mo_isLabel.1 1 := ⟨by decide +kernel, by decide +kernel, by decide +kernel⟩
set_option maxRecDepth 100000 in
theorem lv_Mo_343 : LkV "PanelFramesModel" 343 mi_Mo_isLabel 11 1 := ⟨Or.inl (in_6 (List.mem_of_getElem? (i := 176) rfl)), (in_6 (List.mem_of_getElem? (i := 178) rfl)), (List.mem_append_left _ (List.mem_of_getElem? (i := 49) rfl)), (in_6 (List.mem_of_getElem? (i := 179) rfl)), rfl, hy_Mo_isLabel, pn_Mo⟩
set_option maxRecDepth 100000 in
theorem hy_PF_popup : hyOk mi_PF_popup.1 3 := ⟨by decide +kernel, by decide +kernel, by decide +kernel⟩
set_option maxRecDepth 100000 in
theorem lv_Law_28 : LkV "PanelFramesLaw" 28 mi_PF_popup 10 3 := ⟨Or.inl (in_4 (List.mem_of_getElem? (i := 94) rfl)), (in_4 (List.mem_of_getElem? (i := 95) rfl)), (in_4 (List.mem_of_getElem? (i := 96) rfl)), (in_4 (List.mem_of_getElem? (i := 97) rfl)), rfl, hy_PF_popup, pn_PF⟩
set_option maxRecDepth 100000 in
theorem hy_Layout_isNear : hyOk mi_Layout_isNear.1 0 := ⟨by decide +kernel, by decide +kernel, by decide +kernel⟩
set_option maxRecDepth 100000 in
theorem lv_Layout_35 : LkV "PanelFrames$Layout" 35 mi_Layout_isNear 5 0 := ⟨Or.inl (in_4 (List.mem_of_getElem? (i := 117) rfl)), (in_4 (List.mem_of_getElem? (i := 119) rfl)), (List.mem_append_left _ (List.mem_of_getElem? (i := 17) rfl)), (in_4 (List.mem_of_getElem? (i := 120) rfl)), rfl, hy_Layout_isNear, pn_Layout⟩
set_option maxRecDepth 100000 in
theorem lf_Layout_39 : LkF "PanelFrames$Layout" 39 5 6 := Or.inl (in_2 (List.mem_of_getElem? (i := 80) rfl))
set_option maxRecDepth 100000 in
theorem lf_Layout_42 : LkF "PanelFrames$Layout" 42 5 4 := Or.inl (in_2 (List.mem_of_getElem? (i := 78) rfl))
set_option maxRecDepth 100000 in
theorem hy_Layout_x : hyOk mi_Layout_x.1 0 := ⟨by decide +kernel, by decide +kernel, by decide +kernel⟩
set_option maxRecDepth 100000 in
theorem lv_Layout_45 : LkV "PanelFrames$Layout" 45 mi_Layout_x 5 0 := ⟨Or.inl (in_4 (List.mem_of_getElem? (i := 113) rfl)), (in_4 (List.mem_of_getElem? (i := 114) rfl)), (in_4 (List.mem_of_getElem? (i := 115) rfl)), (in_4 (List.mem_of_getElem? (i := 116) rfl)), rfl, hy_Layout_x, pn_Layout⟩
set_option maxRecDepth 100000 in
theorem hy_Layout_y : hyOk mi_Layout_y.1 0 := ⟨by decide +kernel, by decide +kernel, by decide +kernel⟩
set_option maxRecDepth 100000 in
theorem lv_Layout_49 : LkV "PanelFrames$Layout" 49 mi_Layout_y 5 0 := ⟨Or.inl (in_4 (List.mem_of_getElem? (i := 121) rfl)), (in_4 (List.mem_of_getElem? (i := 122) rfl)), (in_4 (List.mem_of_getElem? (i := 123) rfl)), (in_4 (List.mem_of_getElem? (i := 124) rfl)), rfl, hy_Layout_y, pn_Layout⟩
set_option maxRecDepth 100000 in
theorem lf_Layout_52 : LkF "PanelFrames$Layout" 52 5 5 := Or.inl (in_2 (List.mem_of_getElem? (i := 79) rfl))
set_option maxRecDepth 100000 in
theorem lj_Layout_55 : Cond.methodLink "PanelFrames$Layout" 55 Lib.Math.max.name ∈ lw_tbl := (in_4 (List.mem_of_getElem? (i := 125) rfl))
set_option maxRecDepth 100000 in
theorem lv_Layout_61 : LkV "PanelFrames$Layout" 61 mi_Rect_be 1 4 := ⟨Or.inl (in_4 (List.mem_of_getElem? (i := 126) rfl)), (in_2 (List.mem_of_getElem? (i := 135) rfl)), (in_2 (List.mem_of_getElem? (i := 136) rfl)), (in_2 (List.mem_of_getElem? (i := 137) rfl)), rfl, hy_Rect_be, pn_Rect⟩
set_option maxRecDepth 100000 in
theorem lf_PF_337 : LkF "PanelFrames" 337 5 7 := Or.inr ⟨"PanelFrames", (in_2 (List.mem_of_getElem? (i := 82) rfl))⟩
set_option maxRecDepth 100000 in
theorem lf_PF_340 : LkF "PanelFrames" 340 5 0 := Or.inr ⟨"PanelFrames", (in_2 (List.mem_of_getElem? (i := 73) rfl))⟩
set_option maxRecDepth 100000 in
theorem hy_Layout_high : hyOk mi_Layout_high.1 0 := ⟨by decide +kernel, by decide +kernel, by decide +kernel⟩
set_option maxRecDepth 100000 in
theorem lv_PF_329 : LkV "PanelFrames" 329 mi_Layout_high 5 0 := ⟨Or.inl (in_4 (List.mem_of_getElem? (i := 105) rfl)), (in_4 (List.mem_of_getElem? (i := 106) rfl)), (in_4 (List.mem_of_getElem? (i := 107) rfl)), (in_4 (List.mem_of_getElem? (i := 108) rfl)), rfl, hy_Layout_high, pn_Layout⟩
set_option maxRecDepth 100000 in
theorem hy_Layout_put : hyOk mi_Layout_put.1 3 := ⟨by decide +kernel, by decide +kernel, by decide +kernel⟩
set_option maxRecDepth 100000 in
theorem lv_PF_343 : LkV "PanelFrames" 343 mi_Layout_put 5 3 := ⟨Or.inl (in_4 (List.mem_of_getElem? (i := 109) rfl)), (in_4 (List.mem_of_getElem? (i := 110) rfl)), (in_4 (List.mem_of_getElem? (i := 111) rfl)), (in_4 (List.mem_of_getElem? (i := 112) rfl)), rfl, hy_Layout_put, pn_Layout⟩
set_option maxRecDepth 100000 in
theorem lf_PF_332 : LkF "PanelFrames" 332 6 1 := Or.inr ⟨"PanelFrames", (in_2 (List.mem_of_getElem? (i := 14) rfl))⟩
set_option maxRecDepth 100000 in
theorem lf_PF_334 : LkF "PanelFrames" 334 5 2 := Or.inr ⟨"PanelFrames", (in_2 (List.mem_of_getElem? (i := 76) rfl))⟩
set_option maxRecDepth 100000 in
theorem hy_PF_close : hyOk mi_PF_close.1 0 := ⟨by decide +kernel, by decide +kernel, by decide +kernel⟩
set_option maxRecDepth 100000 in
theorem lv_Law_32 : LkV "PanelFramesLaw" 32 mi_PF_close 10 0 := ⟨Or.inl (in_4 (List.mem_of_getElem? (i := 101) rfl)), (in_4 (List.mem_of_getElem? (i := 102) rfl)), (in_4 (List.mem_of_getElem? (i := 103) rfl)), (in_4 (List.mem_of_getElem? (i := 104) rfl)), rfl, hy_PF_close, pn_PF⟩
set_option maxRecDepth 100000 in
theorem hy_Mo_put : hyOk mi_Mo_put.1 6 := ⟨by decide +kernel, by decide +kernel, by decide +kernel⟩
set_option maxRecDepth 100000 in
theorem lv_Mo_346 : LkV "PanelFramesModel" 346 mi_Mo_put 11 6 := ⟨Or.inl (in_6 (List.mem_of_getElem? (i := 192) rfl)), (in_6 (List.mem_of_getElem? (i := 194) rfl)), (List.mem_append_left _ (List.mem_of_getElem? (i := 50) rfl)), (in_6 (List.mem_of_getElem? (i := 195) rfl)), rfl, hy_Mo_put, pn_Mo⟩
set_option maxRecDepth 100000 in
theorem hy_PF_under : hyOk mi_PF_under.1 2 := ⟨by decide +kernel, by decide +kernel, by decide +kernel⟩
set_option maxRecDepth 100000 in
theorem ls_PF_228 : LkS "PanelFrames" 228 mi_PF_under 2 := ⟨(in_4 (List.mem_of_getElem? (i := 142) rfl)), (in_4 (List.mem_of_getElem? (i := 143) rfl)), (in_1 (List.mem_of_getElem? (i := 1) rfl)), Or.inl ⟨(in_4 (List.mem_of_getElem? (i := 144) rfl)), rfl⟩, hy_PF_under, pn_PF⟩
set_option maxRecDepth 100000 in
theorem lv_Att_41 : LkV "PanelFrames$Attention" 41 mi_Att_tell 9 1 := ⟨Or.inl (in_4 (List.mem_of_getElem? (i := 153) rfl)), (in_4 (List.mem_of_getElem? (i := 8) rfl)), (in_4 (List.mem_of_getElem? (i := 9) rfl)), (in_4 (List.mem_of_getElem? (i := 10) rfl)), rfl, hy_Att_tell, pn_Att⟩
set_option maxRecDepth 100000 in
theorem hy_Att_tellItem : hyOk mi_Att_tellItem.1 1 := ⟨by decide +kernel, by decide +kernel, by decide +kernel⟩
set_option maxRecDepth 100000 in
theorem lv_PF_347 : LkV "PanelFrames" 347 mi_Att_tellItem 9 1 := ⟨Or.inl (in_4 (List.mem_of_getElem? (i := 149) rfl)), (in_4 (List.mem_of_getElem? (i := 150) rfl)), (in_4 (List.mem_of_getElem? (i := 151) rfl)), (in_4 (List.mem_of_getElem? (i := 152) rfl)), rfl, hy_Att_tellItem, pn_Att⟩
set_option maxRecDepth 100000 in
theorem hy_PF_panel : hyOk mi_PF_panel.1 0 := ⟨by decide +kernel, by decide +kernel, by decide +kernel⟩
set_option maxRecDepth 100000 in
theorem lv_PF_350 : LkV "PanelFrames" 350 mi_PF_panel 10 0 := ⟨Or.inl (in_4 (List.mem_of_getElem? (i := 154) rfl)), (in_4 (List.mem_of_getElem? (i := 156) rfl)), (List.mem_append_left _ (List.mem_of_getElem? (i := 21) rfl)), (in_4 (List.mem_of_getElem? (i := 157) rfl)), rfl, hy_PF_panel, pn_PF⟩
set_option maxRecDepth 100000 in
theorem lf_PF_354 : LkF "PanelFrames" 354 9 1 := Or.inr ⟨"PanelFrames", (in_1 (List.mem_of_getElem? (i := 136) rfl))⟩
set_option maxRecDepth 100000 in
theorem lv_PF_357 : LkV "PanelFrames" 357 mi_Att_focus 9 1 := ⟨Or.inl (in_4 (List.mem_of_getElem? (i := 158) rfl)), (in_3 (List.mem_of_getElem? (i := 81) rfl)), (in_3 (List.mem_of_getElem? (i := 82) rfl)), (in_3 (List.mem_of_getElem? (i := 83) rfl)), rfl, hy_Att_focus, pn_Att⟩
set_option maxRecDepth 100000 in
theorem lf_PF_360 : LkF "PanelFrames" 360 9 6 := Or.inr ⟨"PanelFrames", (in_1 (List.mem_of_getElem? (i := 144) rfl))⟩
set_option maxRecDepth 100000 in
theorem lf_PF_363 : LkF "PanelFrames" 363 9 2 := Or.inr ⟨"PanelFrames", (in_1 (List.mem_of_getElem? (i := 138) rfl))⟩
set_option maxRecDepth 100000 in
theorem lf_PF_365 : LkF "PanelFrames" 365 9 3 := Or.inr ⟨"PanelFrames", (in_1 (List.mem_of_getElem? (i := 140) rfl))⟩
set_option maxRecDepth 100000 in
theorem lf_PF_368 : LkF "PanelFrames" 368 2 14 := Or.inr ⟨"PanelFrames", (in_1 (List.mem_of_getElem? (i := 59) rfl))⟩
set_option maxRecDepth 100000 in
theorem hy_PF_drawSign : hyOk mi_PF_drawSign.1 2 := ⟨by decide +kernel, by decide +kernel, by decide +kernel⟩
set_option maxRecDepth 100000 in
theorem lv_PF_371 : LkV "PanelFrames" 371 mi_PF_drawSign 10 2 := ⟨Or.inl (in_4 (List.mem_of_getElem? (i := 167) rfl)), (in_4 (List.mem_of_getElem? (i := 169) rfl)), (List.mem_append_left _ (List.mem_of_getElem? (i := 24) rfl)), (in_4 (List.mem_of_getElem? (i := 170) rfl)), rfl, hy_PF_drawSign, pn_PF⟩
set_option maxRecDepth 100000 in
theorem hy_PF_wantItem : hyOk mi_PF_wantItem.1 3 := ⟨by decide +kernel, by decide +kernel, by decide +kernel⟩
set_option maxRecDepth 100000 in
theorem lv_PF_374 : LkV "PanelFrames" 374 mi_PF_wantItem 10 3 := ⟨Or.inl (in_4 (List.mem_of_getElem? (i := 134) rfl)), (in_4 (List.mem_of_getElem? (i := 136) rfl)), (List.mem_append_left _ (List.mem_of_getElem? (i := 18) rfl)), (in_4 (List.mem_of_getElem? (i := 137) rfl)), rfl, hy_PF_wantItem, pn_PF⟩
set_option maxRecDepth 100000 in
theorem hy_PF_idOf : hyOk mi_PF_idOf.1 1 := ⟨by decide +kernel, by decide +kernel, by decide +kernel⟩
set_option maxRecDepth 100000 in
theorem lv_PF_378 : LkV "PanelFrames" 378 mi_PF_idOf 10 1 := ⟨Or.inl (in_4 (List.mem_of_getElem? (i := 138) rfl)), (in_4 (List.mem_of_getElem? (i := 140) rfl)), (List.mem_append_left _ (List.mem_of_getElem? (i := 19) rfl)), (in_4 (List.mem_of_getElem? (i := 141) rfl)), rfl, hy_PF_idOf, pn_PF⟩
set_option maxRecDepth 100000 in
theorem hy_PF_behave : hyOk mi_PF_behave.1 2 := ⟨by decide +kernel, by decide +kernel, by decide +kernel⟩
set_option maxRecDepth 100000 in
theorem lv_PF_382 : LkV "PanelFrames" 382 mi_PF_behave 10 2 := ⟨Or.inl (in_4 (List.mem_of_getElem? (i := 145) rfl)), (in_4 (List.mem_of_getElem? (i := 147) rfl)), (List.mem_append_left _ (List.mem_of_getElem? (i := 20) rfl)), (in_4 (List.mem_of_getElem? (i := 148) rfl)), rfl, hy_PF_behave, pn_PF⟩
set_option maxRecDepth 100000 in
theorem hy_PF_draw : hyOk mi_PF_draw.1 1 := ⟨by decide +kernel, by decide +kernel, by decide +kernel⟩
set_option maxRecDepth 100000 in
theorem lv_PF_385 : LkV "PanelFrames" 385 mi_PF_draw 10 1 := ⟨Or.inl (in_4 (List.mem_of_getElem? (i := 159) rfl)), (in_4 (List.mem_of_getElem? (i := 161) rfl)), (List.mem_append_left _ (List.mem_of_getElem? (i := 22) rfl)), (in_4 (List.mem_of_getElem? (i := 162) rfl)), rfl, hy_PF_draw, pn_PF⟩
set_option maxRecDepth 100000 in
theorem hy_PF_drawLabel : hyOk mi_PF_drawLabel.1 1 := ⟨by decide +kernel, by decide +kernel, by decide +kernel⟩
set_option maxRecDepth 100000 in
theorem lv_PF_388 : LkV "PanelFrames" 388 mi_PF_drawLabel 10 1 := ⟨Or.inl (in_4 (List.mem_of_getElem? (i := 163) rfl)), (in_4 (List.mem_of_getElem? (i := 165) rfl)), (List.mem_append_left _ (List.mem_of_getElem? (i := 23) rfl)), (in_4 (List.mem_of_getElem? (i := 166) rfl)), rfl, hy_PF_drawLabel, pn_PF⟩
set_option maxRecDepth 100000 in
theorem hy_PF_button : hyOk mi_PF_button.1 2 := ⟨by decide +kernel, by decide +kernel, by decide +kernel⟩
set_option maxRecDepth 100000 in
theorem lv_Law_35 : LkV "PanelFramesLaw" 35 mi_PF_button 10 2 := ⟨Or.inl (in_4 (List.mem_of_getElem? (i := 130) rfl)), (in_4 (List.mem_of_getElem? (i := 131) rfl)), (in_4 (List.mem_of_getElem? (i := 132) rfl)), (in_4 (List.mem_of_getElem? (i := 133) rfl)), rfl, hy_PF_button, pn_PF⟩
set_option maxRecDepth 100000 in
theorem hy_Mo_nextX : hyOk mi_Mo_nextX.1 1 := ⟨by decide +kernel, by decide +kernel, by decide +kernel⟩
set_option maxRecDepth 100000 in
theorem lv_Mo_350 : LkV "PanelFramesModel" 350 mi_Mo_nextX 11 1 := ⟨Or.inl (in_6 (List.mem_of_getElem? (i := 208) rfl)), (in_6 (List.mem_of_getElem? (i := 210) rfl)), (List.mem_append_left _ (List.mem_of_getElem? (i := 53) rfl)), (in_6 (List.mem_of_getElem? (i := 211) rfl)), rfl, hy_Mo_nextX, pn_Mo⟩
set_option maxRecDepth 100000 in
theorem hy_Mo_nextY : hyOk mi_Mo_nextY.1 1 := ⟨by decide +kernel, by decide +kernel, by decide +kernel⟩
set_option maxRecDepth 100000 in
theorem lv_Mo_353 : LkV "PanelFramesModel" 353 mi_Mo_nextY 11 1 := ⟨Or.inl (in_6 (List.mem_of_getElem? (i := 212) rfl)), (in_6 (List.mem_of_getElem? (i := 214) rfl)), (List.mem_append_left _ (List.mem_of_getElem? (i := 54) rfl)), (in_6 (List.mem_of_getElem? (i := 215) rfl)), rfl, hy_Mo_nextY, pn_Mo⟩
set_option maxRecDepth 100000 in
theorem hy_Mo_idOf : hyOk mi_Mo_idOf.1 1 := ⟨by decide +kernel, by decide +kernel, by decide +kernel⟩
set_option maxRecDepth 100000 in
theorem lv_Mo_356 : LkV "PanelFramesModel" 356 mi_Mo_idOf 11 1 := ⟨Or.inl (in_6 (List.mem_of_getElem? (i := 216) rfl)), (in_6 (List.mem_of_getElem? (i := 218) rfl)), (List.mem_append_left _ (List.mem_of_getElem? (i := 55) rfl)), (in_6 (List.mem_of_getElem? (i := 219) rfl)), rfl, hy_Mo_idOf, pn_Mo⟩
set_option maxRecDepth 100000 in
theorem hy_Mo_hasBehaved : hyOk mi_Mo_hasBehaved.1 1 := ⟨by decide +kernel, by decide +kernel, by decide +kernel⟩
set_option maxRecDepth 100000 in
theorem lv_Mo_359 : LkV "PanelFramesModel" 359 mi_Mo_hasBehaved 11 1 := ⟨Or.inl (in_6 (List.mem_of_getElem? (i := 224) rfl)), (in_6 (List.mem_of_getElem? (i := 226) rfl)), (List.mem_append_left _ (List.mem_of_getElem? (i := 57) rfl)), (in_6 (List.mem_of_getElem? (i := 227) rfl)), rfl, hy_Mo_hasBehaved, pn_Mo⟩
set_option maxRecDepth 100000 in
theorem hy_Mo_bars : hyOk mi_Mo_bars.1 1 := ⟨by decide +kernel, by decide +kernel, by decide +kernel⟩
set_option maxRecDepth 100000 in
theorem lv_Mo_371 : LkV "PanelFramesModel" 371 mi_Mo_bars 11 1 := ⟨Or.inl (in_6 (List.mem_of_getElem? (i := 200) rfl)), (in_6 (List.mem_of_getElem? (i := 202) rfl)), (List.mem_append_left _ (List.mem_of_getElem? (i := 51) rfl)), (in_6 (List.mem_of_getElem? (i := 203) rfl)), rfl, hy_Mo_bars, pn_Mo⟩
set_option maxRecDepth 100000 in
theorem hy_Mo_lay : hyOk mi_Mo_lay.1 3 := ⟨by decide +kernel, by decide +kernel, by decide +kernel⟩
set_option maxRecDepth 100000 in
theorem lv_Mo_375 : LkV "PanelFramesModel" 375 mi_Mo_lay 11 3 := ⟨Or.inl (in_6 (List.mem_of_getElem? (i := 204) rfl)), (in_6 (List.mem_of_getElem? (i := 206) rfl)), (List.mem_append_left _ (List.mem_of_getElem? (i := 52) rfl)), (in_6 (List.mem_of_getElem? (i := 207) rfl)), rfl, hy_Mo_lay, pn_Mo⟩
set_option maxRecDepth 100000 in
theorem hy_Mo_behaves : hyOk mi_Mo_behaves.1 1 := ⟨by decide +kernel, by decide +kernel, by decide +kernel⟩
set_option maxRecDepth 100000 in
theorem lv_Mo_378 : LkV "PanelFramesModel" 378 mi_Mo_behaves 11 1 := ⟨Or.inl (in_6 (List.mem_of_getElem? (i := 220) rfl)), (in_6 (List.mem_of_getElem? (i := 222) rfl)), (List.mem_append_left _ (List.mem_of_getElem? (i := 56) rfl)), (in_6 (List.mem_of_getElem? (i := 223) rfl)), rfl, hy_Mo_behaves, pn_Mo⟩
set_option maxRecDepth 100000 in
theorem hy_Mo_shape : hyOk mi_Mo_shape.1 1 := ⟨by decide +kernel, by decide +kernel, by decide +kernel⟩
set_option maxRecDepth 100000 in
theorem lv_Mo_381 : LkV "PanelFramesModel" 381 mi_Mo_shape 11 1 := ⟨Or.inl (in_6 (List.mem_of_getElem? (i := 228) rfl)), (in_6 (List.mem_of_getElem? (i := 230) rfl)), (List.mem_append_left _ (List.mem_of_getElem? (i := 58) rfl)), (in_6 (List.mem_of_getElem? (i := 231) rfl)), rfl, hy_Mo_shape, pn_Mo⟩
set_option maxRecDepth 100000 in
theorem hy_Mo_digits : hyOk mi_Mo_digits.1 1 := ⟨by decide +kernel, by decide +kernel, by decide +kernel⟩
set_option maxRecDepth 100000 in
theorem lv_Mo_384 : LkV "PanelFramesModel" 384 mi_Mo_digits 11 1 := ⟨Or.inl (in_6 (List.mem_of_getElem? (i := 232) rfl)), (in_6 (List.mem_of_getElem? (i := 234) rfl)), (List.mem_append_left _ (List.mem_of_getElem? (i := 59) rfl)), (in_6 (List.mem_of_getElem? (i := 235) rfl)), rfl, hy_Mo_digits, pn_Mo⟩
set_option maxRecDepth 100000 in
theorem hy_Store_slot : hyOk mi_Store_slot.1 1 := ⟨by decide +kernel, by decide +kernel, by decide +kernel⟩
set_option maxRecDepth 100000 in
theorem lv_Store_28 : LkV "PanelFrames$Store" 28 mi_Store_slot 3 1 := ⟨Or.inl (in_3 (List.mem_of_getElem? (i := 26) rfl)), (in_3 (List.mem_of_getElem? (i := 28) rfl)), (List.mem_append_left _ (List.mem_of_getElem? (i := 1) rfl)), (in_3 (List.mem_of_getElem? (i := 29) rfl)), rfl, hy_Store_slot, pn_Store⟩
set_option maxRecDepth 100000 in
theorem hy_Store_find : hyOk mi_Store_find.1 1 := ⟨by decide +kernel, by decide +kernel, by decide +kernel⟩
set_option maxRecDepth 100000 in
theorem lv_Store_36 : LkV "PanelFrames$Store" 36 mi_Store_find 3 1 := ⟨Or.inl (in_3 (List.mem_of_getElem? (i := 22) rfl)), (in_3 (List.mem_of_getElem? (i := 23) rfl)), (in_3 (List.mem_of_getElem? (i := 24) rfl)), (in_3 (List.mem_of_getElem? (i := 25) rfl)), rfl, hy_Store_find, pn_Store⟩
set_option maxRecDepth 100000 in
theorem lf_Store_32 : LkF "PanelFrames$Store" 32 3 5 := Or.inl (in_1 (List.mem_of_getElem? (i := 111) rfl))
set_option maxRecDepth 100000 in
theorem hy_Store_make : hyOk mi_Store_make.1 1 := ⟨by decide +kernel, by decide +kernel, by decide +kernel⟩
set_option maxRecDepth 100000 in
theorem lv_Store_39 : LkV "PanelFrames$Store" 39 mi_Store_make 3 1 := ⟨Or.inl (in_4 (List.mem_of_getElem? (i := 186) rfl)), (in_4 (List.mem_of_getElem? (i := 188) rfl)), (List.mem_append_left _ (List.mem_of_getElem? (i := 26) rfl)), (in_4 (List.mem_of_getElem? (i := 189) rfl)), rfl, hy_Store_make, pn_Store⟩
set_option maxRecDepth 100000 in
theorem hy_Store_number : hyOk mi_Store_number.1 1 := ⟨by decide +kernel, by decide +kernel, by decide +kernel⟩
set_option maxRecDepth 100000 in
theorem lv_PF_391 : LkV "PanelFrames" 391 mi_Store_number 3 1 := ⟨Or.inl (in_3 (List.mem_of_getElem? (i := 18) rfl)), (in_3 (List.mem_of_getElem? (i := 19) rfl)), (in_3 (List.mem_of_getElem? (i := 20) rfl)), (in_3 (List.mem_of_getElem? (i := 21) rfl)), rfl, hy_Store_number, pn_Store⟩
set_option maxRecDepth 100000 in
theorem hy_Store_put : hyOk mi_Store_put.1 2 := ⟨by decide +kernel, by decide +kernel, by decide +kernel⟩
set_option maxRecDepth 100000 in
theorem lv_PF_393 : LkV "PanelFrames" 393 mi_Store_put 3 2 := ⟨Or.inl (in_4 (List.mem_of_getElem? (i := 182) rfl)), (in_4 (List.mem_of_getElem? (i := 183) rfl)), (in_4 (List.mem_of_getElem? (i := 184) rfl)), (in_4 (List.mem_of_getElem? (i := 185) rfl)), rfl, hy_Store_put, pn_Store⟩
set_option maxRecDepth 100000 in
theorem hy_PF_flip : hyOk mi_PF_flip.1 2 := ⟨by decide +kernel, by decide +kernel, by decide +kernel⟩
set_option maxRecDepth 100000 in
theorem lv_PF_395 : LkV "PanelFrames" 395 mi_PF_flip 10 2 := ⟨Or.inl (in_4 (List.mem_of_getElem? (i := 178) rfl)), (in_4 (List.mem_of_getElem? (i := 180) rfl)), (List.mem_append_left _ (List.mem_of_getElem? (i := 25) rfl)), (in_4 (List.mem_of_getElem? (i := 181) rfl)), rfl, hy_PF_flip, pn_PF⟩
set_option maxRecDepth 100000 in
theorem hy_PF_check : hyOk mi_PF_check.1 1 := ⟨by decide +kernel, by decide +kernel, by decide +kernel⟩
set_option maxRecDepth 100000 in
theorem lv_Law_39 : LkV "PanelFramesLaw" 39 mi_PF_check 10 1 := ⟨Or.inl (in_4 (List.mem_of_getElem? (i := 174) rfl)), (in_4 (List.mem_of_getElem? (i := 175) rfl)), (in_4 (List.mem_of_getElem? (i := 176) rfl)), (in_4 (List.mem_of_getElem? (i := 177) rfl)), rfl, hy_PF_check, pn_PF⟩
set_option maxRecDepth 100000 in
theorem lf_Mo_362 : LkF "PanelFramesModel" 362 11 79 := Or.inl (in_5 (List.mem_of_getElem? (i := 97) rfl))
set_option maxRecDepth 100000 in
theorem hy_Mo_find : hyOk mi_Mo_find.1 1 := ⟨by decide +kernel, by decide +kernel, by decide +kernel⟩
set_option maxRecDepth 100000 in
theorem lv_Mo_365 : LkV "PanelFramesModel" 365 mi_Mo_find 11 1 := ⟨Or.inl (in_7 (List.mem_of_getElem? (i := 4) rfl)), (in_7 (List.mem_of_getElem? (i := 6) rfl)), (List.mem_append_left _ (List.mem_of_getElem? (i := 61) rfl)), (in_7 (List.mem_of_getElem? (i := 7) rfl)), rfl, hy_Mo_find, pn_Mo⟩
set_option maxRecDepth 100000 in
theorem hy_Mo_made : hyOk mi_Mo_made.1 1 := ⟨by decide +kernel, by decide +kernel, by decide +kernel⟩
set_option maxRecDepth 100000 in
theorem lv_Mo_368 : LkV "PanelFramesModel" 368 mi_Mo_made 11 1 := ⟨Or.inl (in_7 (List.mem_of_getElem? (i := 12) rfl)), (in_7 (List.mem_of_getElem? (i := 14) rfl)), (List.mem_append_left _ (List.mem_of_getElem? (i := 63) rfl)), (in_7 (List.mem_of_getElem? (i := 15) rfl)), rfl, hy_Mo_made, pn_Mo⟩
set_option maxRecDepth 100000 in
theorem hy_Mo_numberOf : hyOk mi_Mo_numberOf.1 1 := ⟨by decide +kernel, by decide +kernel, by decide +kernel⟩
set_option maxRecDepth 100000 in
theorem lv_Mo_387 : LkV "PanelFramesModel" 387 mi_Mo_numberOf 11 1 := ⟨Or.inl (in_7 (List.mem_of_getElem? (i := 0) rfl)), (in_7 (List.mem_of_getElem? (i := 2) rfl)), (List.mem_append_left _ (List.mem_of_getElem? (i := 60) rfl)), (in_7 (List.mem_of_getElem? (i := 3) rfl)), rfl, hy_Mo_numberOf, pn_Mo⟩
set_option maxRecDepth 100000 in
theorem hy_Mo_keep : hyOk mi_Mo_keep.1 2 := ⟨by decide +kernel, by decide +kernel, by decide +kernel⟩
set_option maxRecDepth 100000 in
theorem lv_Mo_390 : LkV "PanelFramesModel" 390 mi_Mo_keep 11 2 := ⟨Or.inl (in_7 (List.mem_of_getElem? (i := 8) rfl)), (in_7 (List.mem_of_getElem? (i := 10) rfl)), (List.mem_append_left _ (List.mem_of_getElem? (i := 62) rfl)), (in_7 (List.mem_of_getElem? (i := 11) rfl)), rfl, hy_Mo_keep, pn_Mo⟩
set_option maxRecDepth 100000 in
theorem lj_PF_399 : Cond.methodLink "PanelFrames" 399 Lib.Math.min.name ∈ lw_tbl := (in_4 (List.mem_of_getElem? (i := 197) rfl))
set_option maxRecDepth 100000 in
theorem lj_PF_404 : Cond.methodLink "PanelFrames" 404 Lib.Math.max.name ∈ lw_tbl := (in_4 (List.mem_of_getElem? (i := 198) rfl))
set_option maxRecDepth 100000 in
theorem hy_PF_slider : hyOk mi_PF_slider.1 4 := ⟨by decide +kernel, by decide +kernel, by decide +kernel⟩
set_option maxRecDepth 100000 in
theorem lv_Law_43 : LkV "PanelFramesLaw" 43 mi_PF_slider 10 4 := ⟨Or.inl (in_4 (List.mem_of_getElem? (i := 193) rfl)), (in_4 (List.mem_of_getElem? (i := 194) rfl)), (in_4 (List.mem_of_getElem? (i := 195) rfl)), (in_4 (List.mem_of_getElem? (i := 196) rfl)), rfl, hy_PF_slider, pn_PF⟩
set_option maxRecDepth 100000 in
theorem lf_Store_42 : LkF "PanelFrames$Store" 42 2 13 := Or.inr ⟨"PanelFrames", (in_1 (List.mem_of_getElem? (i := 56) rfl))⟩
set_option maxRecDepth 100000 in
theorem lf_Store_52 : LkF "PanelFrames$Store" 52 2 8 := Or.inr ⟨"PanelFrames", (in_1 (List.mem_of_getElem? (i := 47) rfl))⟩
set_option maxRecDepth 100000 in
theorem hy_Store_shift : hyOk mi_Store_shift.1 3 := ⟨by decide +kernel, by decide +kernel, by decide +kernel⟩
set_option maxRecDepth 100000 in
theorem lv_Store_48 : LkV "PanelFrames$Store" 48 mi_Store_shift 3 3 := ⟨Or.inl (in_4 (List.mem_of_getElem? (i := 210) rfl)), (in_4 (List.mem_of_getElem? (i := 212) rfl)), (List.mem_append_left _ (List.mem_of_getElem? (i := 27) rfl)), (in_4 (List.mem_of_getElem? (i := 213) rfl)), rfl, hy_Store_shift, pn_Store⟩
set_option maxRecDepth 100000 in
theorem lf_Store_54 : LkF "PanelFrames$Store" 54 2 15 := Or.inr ⟨"PanelFrames", (in_1 (List.mem_of_getElem? (i := 61) rfl))⟩
set_option maxRecDepth 100000 in
theorem hy_Store_edit : hyOk mi_Store_edit.1 2 := ⟨by decide +kernel, by decide +kernel, by decide +kernel⟩
set_option maxRecDepth 100000 in
theorem lv_PF_407 : LkV "PanelFrames" 407 mi_Store_edit 3 2 := ⟨Or.inl (in_4 (List.mem_of_getElem? (i := 206) rfl)), (in_4 (List.mem_of_getElem? (i := 207) rfl)), (in_4 (List.mem_of_getElem? (i := 208) rfl)), (in_4 (List.mem_of_getElem? (i := 209) rfl)), rfl, hy_Store_edit, pn_Store⟩
set_option maxRecDepth 100000 in
theorem lv_PF_411 : LkV "PanelFrames" 411 mi_Store_find 3 1 := ⟨Or.inl (in_3 (List.mem_of_getElem? (i := 34) rfl)), (in_3 (List.mem_of_getElem? (i := 23) rfl)), (in_3 (List.mem_of_getElem? (i := 24) rfl)), (in_3 (List.mem_of_getElem? (i := 25) rfl)), rfl, hy_Store_find, pn_Store⟩
set_option maxRecDepth 100000 in
theorem lf_PF_414 : LkF "PanelFrames" 414 3 2 := Or.inr ⟨"PanelFrames", (in_1 (List.mem_of_getElem? (i := 106) rfl))⟩
set_option maxRecDepth 100000 in
theorem lf_PF_417 : LkF "PanelFrames" 417 3 4 := Or.inr ⟨"PanelFrames", (in_1 (List.mem_of_getElem? (i := 110) rfl))⟩
set_option maxRecDepth 100000 in
theorem hy_PF_field : hyOk mi_PF_field.1 2 := ⟨by decide +kernel, by decide +kernel, by decide +kernel⟩
set_option maxRecDepth 100000 in
theorem lv_Law_47 : LkV "PanelFramesLaw" 47 mi_PF_field 10 2 := ⟨Or.inl (in_4 (List.mem_of_getElem? (i := 202) rfl)), (in_4 (List.mem_of_getElem? (i := 203) rfl)), (in_4 (List.mem_of_getElem? (i := 204) rfl)), (in_4 (List.mem_of_getElem? (i := 205) rfl)), rfl, hy_PF_field, pn_PF⟩
set_option maxRecDepth 100000 in
theorem hy_Mo_edit : hyOk mi_Mo_edit.1 1 := ⟨by decide +kernel, by decide +kernel, by decide +kernel⟩
set_option maxRecDepth 100000 in
theorem lv_Mo_394 : LkV "PanelFramesModel" 394 mi_Mo_edit 11 1 := ⟨Or.inl (in_7 (List.mem_of_getElem? (i := 24) rfl)), (in_7 (List.mem_of_getElem? (i := 26) rfl)), (List.mem_append_left _ (List.mem_of_getElem? (i := 64) rfl)), (in_7 (List.mem_of_getElem? (i := 27) rfl)), rfl, hy_Mo_edit, pn_Mo⟩
set_option maxRecDepth 100000 in
theorem hy_PF_tree : hyOk mi_PF_tree.1 2 := ⟨by decide +kernel, by decide +kernel, by decide +kernel⟩
set_option maxRecDepth 100000 in
theorem lv_Law_51 : LkV "PanelFramesLaw" 51 mi_PF_tree 10 2 := ⟨Or.inl (in_4 (List.mem_of_getElem? (i := 217) rfl)), (in_4 (List.mem_of_getElem? (i := 218) rfl)), (in_4 (List.mem_of_getElem? (i := 219) rfl)), (in_4 (List.mem_of_getElem? (i := 220) rfl)), rfl, hy_PF_tree, pn_PF⟩
set_option maxRecDepth 100000 in
theorem hy_PF_child : hyOk mi_PF_child.1 3 := ⟨by decide +kernel, by decide +kernel, by decide +kernel⟩
set_option maxRecDepth 100000 in
theorem lv_Law_54 : LkV "PanelFramesLaw" 54 mi_PF_child 10 3 := ⟨Or.inl (in_4 (List.mem_of_getElem? (i := 224) rfl)), (in_4 (List.mem_of_getElem? (i := 225) rfl)), (in_4 (List.mem_of_getElem? (i := 226) rfl)), (in_4 (List.mem_of_getElem? (i := 227) rfl)), rfl, hy_PF_child, pn_PF⟩
set_option maxRecDepth 100000 in
theorem hy_PF_scope : hyOk mi_PF_scope.1 1 := ⟨by decide +kernel, by decide +kernel, by decide +kernel⟩
set_option maxRecDepth 100000 in
theorem lv_Law_58 : LkV "PanelFramesLaw" 58 mi_PF_scope 10 1 := ⟨Or.inl (in_4 (List.mem_of_getElem? (i := 231) rfl)), (in_4 (List.mem_of_getElem? (i := 232) rfl)), (in_4 (List.mem_of_getElem? (i := 233) rfl)), (in_4 (List.mem_of_getElem? (i := 234) rfl)), rfl, hy_PF_scope, pn_PF⟩
set_option maxRecDepth 100000 in
theorem lv_PF_421 : LkV "PanelFrames" 421 mi_Layout_x 5 0 := ⟨Or.inl (in_5 (List.mem_of_getElem? (i := 2) rfl)), (in_4 (List.mem_of_getElem? (i := 114) rfl)), (in_4 (List.mem_of_getElem? (i := 115) rfl)), (in_4 (List.mem_of_getElem? (i := 116) rfl)), rfl, hy_Layout_x, pn_Layout⟩
set_option maxRecDepth 100000 in
theorem lv_PF_423 : LkV "PanelFrames" 423 mi_Layout_y 5 0 := ⟨Or.inl (in_5 (List.mem_of_getElem? (i := 3) rfl)), (in_4 (List.mem_of_getElem? (i := 122) rfl)), (in_4 (List.mem_of_getElem? (i := 123) rfl)), (in_4 (List.mem_of_getElem? (i := 124) rfl)), rfl, hy_Layout_y, pn_Layout⟩
set_option maxRecDepth 100000 in
theorem hy_PF_group : hyOk mi_PF_group.1 0 := ⟨by decide +kernel, by decide +kernel, by decide +kernel⟩
set_option maxRecDepth 100000 in
theorem lv_Law_62 : LkV "PanelFramesLaw" 62 mi_PF_group 10 0 := ⟨Or.inl (in_4 (List.mem_of_getElem? (i := 238) rfl)), (in_4 (List.mem_of_getElem? (i := 239) rfl)), (in_5 (List.mem_of_getElem? (i := 0) rfl)), (in_5 (List.mem_of_getElem? (i := 1) rfl)), rfl, hy_PF_group, pn_PF⟩
set_option maxRecDepth 100000 in
theorem lf_PF_425 : LkF "PanelFrames" 425 5 10 := Or.inr ⟨"PanelFrames", (in_2 (List.mem_of_getElem? (i := 86) rfl))⟩
set_option maxRecDepth 100000 in
theorem hy_PF_near : hyOk mi_PF_near.1 0 := ⟨by decide +kernel, by decide +kernel, by decide +kernel⟩
set_option maxRecDepth 100000 in
theorem lv_Law_65 : LkV "PanelFramesLaw" 65 mi_PF_near 10 0 := ⟨Or.inl (in_5 (List.mem_of_getElem? (i := 7) rfl)), (in_5 (List.mem_of_getElem? (i := 8) rfl)), (in_5 (List.mem_of_getElem? (i := 9) rfl)), (in_5 (List.mem_of_getElem? (i := 10) rfl)), rfl, hy_PF_near, pn_PF⟩
set_option maxRecDepth 100000 in
theorem lf_PF_428 : LkF "PanelFrames" 428 2 4 := Or.inr ⟨"PanelFrames", (in_1 (List.mem_of_getElem? (i := 39) rfl))⟩
set_option maxRecDepth 100000 in
theorem lf_PF_431 : LkF "PanelFrames" 431 3 5 := Or.inr ⟨"PanelFrames", (in_1 (List.mem_of_getElem? (i := 112) rfl))⟩
set_option maxRecDepth 100000 in
theorem lf_PF_434 : LkF "PanelFrames" 434 7 7 := Or.inr ⟨"PanelFrames", (in_2 (List.mem_of_getElem? (i := 36) rfl))⟩
set_option maxRecDepth 100000 in
theorem hy_PF_placeOf : hyOk mi_PF_placeOf.1 1 := ⟨by decide +kernel, by decide +kernel, by decide +kernel⟩
set_option maxRecDepth 100000 in
theorem lv_PF_437 : LkV "PanelFrames" 437 mi_PF_placeOf 10 1 := ⟨Or.inl (in_3 (List.mem_of_getElem? (i := 10) rfl)), (in_3 (List.mem_of_getElem? (i := 12) rfl)), (List.mem_append_left _ (List.mem_of_getElem? (i := 0) rfl)), (in_3 (List.mem_of_getElem? (i := 13) rfl)), rfl, hy_PF_placeOf, pn_PF⟩
set_option maxRecDepth 100000 in
theorem lf_PF_440 : LkF "PanelFrames" 440 3 3 := Or.inr ⟨"PanelFrames", (in_1 (List.mem_of_getElem? (i := 108) rfl))⟩
set_option maxRecDepth 100000 in
theorem lv_PF_446 : LkV "PanelFrames" 446 mi_DrawList_made 4 0 := ⟨Or.inl (in_3 (List.mem_of_getElem? (i := 39) rfl)), (in_3 (List.mem_of_getElem? (i := 40) rfl)), (in_3 (List.mem_of_getElem? (i := 41) rfl)), (in_3 (List.mem_of_getElem? (i := 42) rfl)), rfl, hy_DrawList_made, pn_DrawList⟩
set_option maxRecDepth 100000 in
theorem lf_PF_443 : LkF "PanelFrames" 443 4 1 := Or.inr ⟨"PanelFrames", (in_1 (List.mem_of_getElem? (i := 228) rfl))⟩
set_option maxRecDepth 100000 in
theorem hy_PF_drawn : hyOk mi_PF_drawn.1 1 := ⟨by decide +kernel, by decide +kernel, by decide +kernel⟩
set_option maxRecDepth 100000 in
theorem lv_PF_449 : LkV "PanelFrames" 449 mi_PF_drawn 10 1 := ⟨Or.inl (in_3 (List.mem_of_getElem? (i := 47) rfl)), (in_3 (List.mem_of_getElem? (i := 36) rfl)), (in_3 (List.mem_of_getElem? (i := 37) rfl)), (in_3 (List.mem_of_getElem? (i := 38) rfl)), rfl, hy_PF_drawn, pn_PF⟩
set_option maxRecDepth 100000 in
theorem hy_Row_get : hyOk mi_Row_get.1 1 := ⟨by decide +kernel, by decide +kernel, by decide +kernel⟩
set_option maxRecDepth 100000 in
theorem lv_PF_452 : LkV "PanelFrames" 452 mi_Row_get 0 1 := ⟨Or.inl (in_3 (List.mem_of_getElem? (i := 48) rfl)), (in_3 (List.mem_of_getElem? (i := 49) rfl)), (in_3 (List.mem_of_getElem? (i := 50) rfl)), (in_3 (List.mem_of_getElem? (i := 51) rfl)), rfl, hy_Row_get, pn_Row⟩
set_option maxRecDepth 100000 in
theorem lf_PF_455 : LkF "PanelFrames" 455 4 2 := Or.inr ⟨"PanelFrames", (in_1 (List.mem_of_getElem? (i := 230) rfl))⟩
set_option maxRecDepth 100000 in
theorem lf_PF_458 : LkF "PanelFrames" 458 0 0 := Or.inr ⟨"PanelFrames", (in_1 (List.mem_of_getElem? (i := 216) rfl))⟩
set_option maxRecDepth 100000 in
theorem lc_Law_8 : LkC "PanelFramesLaw" 8 10 := (in_1 (List.mem_of_getElem? (i := 20) rfl))
set_option maxRecDepth 100000 in
theorem hy_PF_init : hyOk mi_PF_init.1 0 := ⟨by decide +kernel, by decide +kernel, by decide +kernel⟩
set_option maxRecDepth 100000 in
theorem li_Law_68 : LkI "PanelFramesLaw" 68 mi_PF_init 0 := ⟨Or.inl (in_1 (List.mem_of_getElem? (i := 22) rfl)), (in_1 (List.mem_of_getElem? (i := 23) rfl)), (in_1 (List.mem_of_getElem? (i := 24) rfl)), rfl, hy_PF_init, pn_PF, rfl, rfl⟩
set_option maxRecDepth 100000 in
theorem lc_Law_69 : LkC "PanelFramesLaw" 69 11 := (in_5 (List.mem_of_getElem? (i := 11) rfl))
set_option maxRecDepth 100000 in
theorem hy_Mo_init : hyOk mi_Mo_init.1 0 := ⟨by decide +kernel, by decide +kernel, by decide +kernel⟩
set_option maxRecDepth 100000 in
theorem li_Law_71 : LkI "PanelFramesLaw" 71 mi_Mo_init 0 := ⟨Or.inl (in_5 (List.mem_of_getElem? (i := 13) rfl)), (in_5 (List.mem_of_getElem? (i := 14) rfl)), (in_5 (List.mem_of_getElem? (i := 15) rfl)), rfl, hy_Mo_init, pn_Mo, rfl, rfl⟩
set_option maxRecDepth 100000 in
theorem la_19 : Cond.arrayClass (newarray.typeOf .long) ∈ lw_tbl := (in_7 (List.mem_of_getElem? (i := 80) rfl))
set_option maxRecDepth 100000 in
theorem hy_PF_point : hyOk mi_PF_point.1 2 := ⟨by decide +kernel, by decide +kernel, by decide +kernel⟩
set_option maxRecDepth 100000 in
theorem lv_Law_72 : LkV "PanelFramesLaw" 72 mi_PF_point 10 2 := ⟨Or.inl (in_2 (List.mem_of_getElem? (i := 214) rfl)), (in_2 (List.mem_of_getElem? (i := 215) rfl)), (in_2 (List.mem_of_getElem? (i := 216) rfl)), (in_2 (List.mem_of_getElem? (i := 217) rfl)), rfl, hy_PF_point, pn_PF⟩
set_option maxRecDepth 100000 in
theorem hy_Mo_point : hyOk mi_Mo_point.1 2 := ⟨by decide +kernel, by decide +kernel, by decide +kernel⟩
set_option maxRecDepth 100000 in
theorem lv_Law_75 : LkV "PanelFramesLaw" 75 mi_Mo_point 11 2 := ⟨Or.inl (in_6 (List.mem_of_getElem? (i := 47) rfl)), (in_6 (List.mem_of_getElem? (i := 48) rfl)), (in_6 (List.mem_of_getElem? (i := 49) rfl)), (in_6 (List.mem_of_getElem? (i := 50) rfl)), rfl, hy_Mo_point, pn_Mo⟩
set_option maxRecDepth 100000 in
theorem hy_PF_wheel : hyOk mi_PF_wheel.1 1 := ⟨by decide +kernel, by decide +kernel, by decide +kernel⟩
set_option maxRecDepth 100000 in
theorem lv_Law_81 : LkV "PanelFramesLaw" 81 mi_PF_wheel 10 1 := ⟨Or.inl (in_2 (List.mem_of_getElem? (i := 226) rfl)), (in_2 (List.mem_of_getElem? (i := 227) rfl)), (in_2 (List.mem_of_getElem? (i := 228) rfl)), (in_2 (List.mem_of_getElem? (i := 229) rfl)), rfl, hy_PF_wheel, pn_PF⟩
set_option maxRecDepth 100000 in
theorem hy_Mo_wheel : hyOk mi_Mo_wheel.1 1 := ⟨by decide +kernel, by decide +kernel, by decide +kernel⟩
set_option maxRecDepth 100000 in
theorem lv_Law_84 : LkV "PanelFramesLaw" 84 mi_Mo_wheel 11 1 := ⟨Or.inl (in_6 (List.mem_of_getElem? (i := 59) rfl)), (in_6 (List.mem_of_getElem? (i := 60) rfl)), (in_6 (List.mem_of_getElem? (i := 61) rfl)), (in_6 (List.mem_of_getElem? (i := 62) rfl)), rfl, hy_Mo_wheel, pn_Mo⟩
set_option maxRecDepth 100000 in
theorem hy_PF_letter : hyOk mi_PF_letter.1 1 := ⟨by decide +kernel, by decide +kernel, by decide +kernel⟩
set_option maxRecDepth 100000 in
theorem lv_Law_90 : LkV "PanelFramesLaw" 90 mi_PF_letter 10 1 := ⟨Or.inl (in_2 (List.mem_of_getElem? (i := 234) rfl)), (in_2 (List.mem_of_getElem? (i := 235) rfl)), (in_2 (List.mem_of_getElem? (i := 236) rfl)), (in_2 (List.mem_of_getElem? (i := 237) rfl)), rfl, hy_PF_letter, pn_PF⟩
set_option maxRecDepth 100000 in
theorem hy_Mo_letter : hyOk mi_Mo_letter.1 1 := ⟨by decide +kernel, by decide +kernel, by decide +kernel⟩
set_option maxRecDepth 100000 in
theorem lv_Law_93 : LkV "PanelFramesLaw" 93 mi_Mo_letter 11 1 := ⟨Or.inl (in_6 (List.mem_of_getElem? (i := 67) rfl)), (in_6 (List.mem_of_getElem? (i := 68) rfl)), (in_6 (List.mem_of_getElem? (i := 69) rfl)), (in_6 (List.mem_of_getElem? (i := 70) rfl)), rfl, hy_Mo_letter, pn_Mo⟩
set_option maxRecDepth 100000 in
theorem hy_Law_begin : hyOk mi_Law_begin.1 2 := ⟨by decide +kernel, by decide +kernel, by decide +kernel⟩
set_option maxRecDepth 100000 in
theorem pn_Law : plainName "PanelFramesLaw" = true := by decide +kernel
set_option maxRecDepth 100000 in
theorem ls_Law_94 : LkS "PanelFramesLaw" 94 mi_Law_begin 2 := ⟨(in_3 (List.mem_of_getElem? (i := 60) rfl)), (in_3 (List.mem_of_getElem? (i := 61) rfl)), (in_1 (List.mem_of_getElem? (i := 0) rfl)), Or.inr (in_3 (List.mem_of_getElem? (i := 62) rfl)), hy_Law_begin, pn_Law⟩
set_option maxRecDepth 100000 in
theorem hy_Mo_begin : hyOk mi_Mo_begin.1 0 := ⟨by decide +kernel, by decide +kernel, by decide +kernel⟩
set_option maxRecDepth 100000 in
theorem lv_Law_99 : LkV "PanelFramesLaw" 99 mi_Mo_begin 11 0 := ⟨Or.inl (in_6 (List.mem_of_getElem? (i := 71) rfl)), (in_6 (List.mem_of_getElem? (i := 72) rfl)), (in_6 (List.mem_of_getElem? (i := 73) rfl)), (in_6 (List.mem_of_getElem? (i := 74) rfl)), rfl, hy_Mo_begin, pn_Mo⟩
set_option maxRecDepth 100000 in
theorem hy_Mo_thrown : hyOk mi_Mo_thrown.1 0 := ⟨by decide +kernel, by decide +kernel, by decide +kernel⟩
set_option maxRecDepth 100000 in
theorem lv_Law_100 : LkV "PanelFramesLaw" 100 mi_Mo_thrown 11 0 := ⟨Or.inl (in_6 (List.mem_of_getElem? (i := 43) rfl)), (in_6 (List.mem_of_getElem? (i := 44) rfl)), (in_6 (List.mem_of_getElem? (i := 45) rfl)), (in_6 (List.mem_of_getElem? (i := 46) rfl)), rfl, hy_Mo_thrown, pn_Mo⟩
set_option maxRecDepth 100000 in
theorem hy_Law_end : hyOk mi_Law_end.1 2 := ⟨by decide +kernel, by decide +kernel, by decide +kernel⟩
set_option maxRecDepth 100000 in
theorem ls_Law_103 : LkS "PanelFramesLaw" 103 mi_Law_end 2 := ⟨(in_3 (List.mem_of_getElem? (i := 178) rfl)), (in_3 (List.mem_of_getElem? (i := 179) rfl)), (in_1 (List.mem_of_getElem? (i := 0) rfl)), Or.inr (in_3 (List.mem_of_getElem? (i := 180) rfl)), hy_Law_end, pn_Law⟩
set_option maxRecDepth 100000 in
theorem hy_Mo_end : hyOk mi_Mo_end.1 0 := ⟨by decide +kernel, by decide +kernel, by decide +kernel⟩
set_option maxRecDepth 100000 in
theorem lv_Law_105 : LkV "PanelFramesLaw" 105 mi_Mo_end 11 0 := ⟨Or.inl (in_6 (List.mem_of_getElem? (i := 107) rfl)), (in_6 (List.mem_of_getElem? (i := 108) rfl)), (in_6 (List.mem_of_getElem? (i := 109) rfl)), (in_6 (List.mem_of_getElem? (i := 110) rfl)), rfl, hy_Mo_end, pn_Mo⟩
set_option maxRecDepth 100000 in
theorem hy_Law_window : hyOk mi_Law_window.1 7 := ⟨by decide +kernel, by decide +kernel, by decide +kernel⟩
set_option maxRecDepth 100000 in
theorem ls_Law_106 : LkS "PanelFramesLaw" 106 mi_Law_window 7 := ⟨(in_3 (List.mem_of_getElem? (i := 210) rfl)), (in_3 (List.mem_of_getElem? (i := 211) rfl)), (in_1 (List.mem_of_getElem? (i := 0) rfl)), Or.inr (in_3 (List.mem_of_getElem? (i := 212) rfl)), hy_Law_window, pn_Law⟩
set_option maxRecDepth 100000 in
theorem hy_Mo_window : hyOk mi_Mo_window.1 5 := ⟨by decide +kernel, by decide +kernel, by decide +kernel⟩
set_option maxRecDepth 100000 in
theorem lv_Law_109 : LkV "PanelFramesLaw" 109 mi_Mo_window 11 5 := ⟨Or.inl (in_6 (List.mem_of_getElem? (i := 131) rfl)), (in_6 (List.mem_of_getElem? (i := 132) rfl)), (in_6 (List.mem_of_getElem? (i := 133) rfl)), (in_6 (List.mem_of_getElem? (i := 134) rfl)), rfl, hy_Mo_window, pn_Mo⟩
set_option maxRecDepth 100000 in
theorem hy_Law_open : hyOk mi_Law_open.1 3 := ⟨by decide +kernel, by decide +kernel, by decide +kernel⟩
set_option maxRecDepth 100000 in
theorem ls_Law_110 : LkS "PanelFramesLaw" 110 mi_Law_open 3 := ⟨(in_4 (List.mem_of_getElem? (i := 81) rfl)), (in_4 (List.mem_of_getElem? (i := 82) rfl)), (in_1 (List.mem_of_getElem? (i := 0) rfl)), Or.inr (in_4 (List.mem_of_getElem? (i := 83) rfl)), hy_Law_open, pn_Law⟩
set_option maxRecDepth 100000 in
theorem hy_Mo_open : hyOk mi_Mo_open.1 1 := ⟨by decide +kernel, by decide +kernel, by decide +kernel⟩
set_option maxRecDepth 100000 in
theorem lv_Law_113 : LkV "PanelFramesLaw" 113 mi_Mo_open 11 1 := ⟨Or.inl (in_6 (List.mem_of_getElem? (i := 172) rfl)), (in_6 (List.mem_of_getElem? (i := 173) rfl)), (in_6 (List.mem_of_getElem? (i := 174) rfl)), (in_6 (List.mem_of_getElem? (i := 175) rfl)), rfl, hy_Mo_open, pn_Mo⟩
set_option maxRecDepth 100000 in
theorem hy_Law_popup : hyOk mi_Law_popup.1 5 := ⟨by decide +kernel, by decide +kernel, by decide +kernel⟩
set_option maxRecDepth 100000 in
theorem ls_Law_114 : LkS "PanelFramesLaw" 114 mi_Law_popup 5 := ⟨(in_4 (List.mem_of_getElem? (i := 91) rfl)), (in_4 (List.mem_of_getElem? (i := 92) rfl)), (in_1 (List.mem_of_getElem? (i := 0) rfl)), Or.inr (in_4 (List.mem_of_getElem? (i := 93) rfl)), hy_Law_popup, pn_Law⟩
set_option maxRecDepth 100000 in
theorem hy_Mo_popup : hyOk mi_Mo_popup.1 3 := ⟨by decide +kernel, by decide +kernel, by decide +kernel⟩
set_option maxRecDepth 100000 in
theorem lv_Law_117 : LkV "PanelFramesLaw" 117 mi_Mo_popup 11 3 := ⟨Or.inl (in_6 (List.mem_of_getElem? (i := 180) rfl)), (in_6 (List.mem_of_getElem? (i := 181) rfl)), (in_6 (List.mem_of_getElem? (i := 182) rfl)), (in_6 (List.mem_of_getElem? (i := 183) rfl)), rfl, hy_Mo_popup, pn_Mo⟩
set_option maxRecDepth 100000 in
theorem hy_PF_dismiss : hyOk mi_PF_dismiss.1 0 := ⟨by decide +kernel, by decide +kernel, by decide +kernel⟩
set_option maxRecDepth 100000 in
theorem lv_Law_118 : LkV "PanelFramesLaw" 118 mi_PF_dismiss 10 0 := ⟨Or.inl (in_2 (List.mem_of_getElem? (i := 238) rfl)), (in_2 (List.mem_of_getElem? (i := 239) rfl)), (in_3 (List.mem_of_getElem? (i := 0) rfl)), (in_3 (List.mem_of_getElem? (i := 1) rfl)), rfl, hy_PF_dismiss, pn_PF⟩
set_option maxRecDepth 100000 in
theorem hy_Mo_dismiss : hyOk mi_Mo_dismiss.1 0 := ⟨by decide +kernel, by decide +kernel, by decide +kernel⟩
set_option maxRecDepth 100000 in
theorem lv_Law_122 : LkV "PanelFramesLaw" 122 mi_Mo_dismiss 11 0 := ⟨Or.inl (in_6 (List.mem_of_getElem? (i := 184) rfl)), (in_6 (List.mem_of_getElem? (i := 185) rfl)), (in_6 (List.mem_of_getElem? (i := 186) rfl)), (in_6 (List.mem_of_getElem? (i := 187) rfl)), rfl, hy_Mo_dismiss, pn_Mo⟩
set_option maxRecDepth 100000 in
theorem hy_Law_close : hyOk mi_Law_close.1 2 := ⟨by decide +kernel, by decide +kernel, by decide +kernel⟩
set_option maxRecDepth 100000 in
theorem ls_Law_123 : LkS "PanelFramesLaw" 123 mi_Law_close 2 := ⟨(in_4 (List.mem_of_getElem? (i := 98) rfl)), (in_4 (List.mem_of_getElem? (i := 99) rfl)), (in_1 (List.mem_of_getElem? (i := 0) rfl)), Or.inr (in_4 (List.mem_of_getElem? (i := 100) rfl)), hy_Law_close, pn_Law⟩
set_option maxRecDepth 100000 in
theorem hy_Mo_close : hyOk mi_Mo_close.1 0 := ⟨by decide +kernel, by decide +kernel, by decide +kernel⟩
set_option maxRecDepth 100000 in
theorem lv_Law_125 : LkV "PanelFramesLaw" 125 mi_Mo_close 11 0 := ⟨Or.inl (in_6 (List.mem_of_getElem? (i := 188) rfl)), (in_6 (List.mem_of_getElem? (i := 189) rfl)), (in_6 (List.mem_of_getElem? (i := 190) rfl)), (in_6 (List.mem_of_getElem? (i := 191) rfl)), rfl, hy_Mo_close, pn_Mo⟩
set_option maxRecDepth 100000 in
theorem hy_Law_button : hyOk mi_Law_button.1 4 := ⟨by decide +kernel, by decide +kernel, by decide +kernel⟩
set_option maxRecDepth 100000 in
theorem ls_Law_126 : LkS "PanelFramesLaw" 126 mi_Law_button 4 := ⟨(in_4 (List.mem_of_getElem? (i := 127) rfl)), (in_4 (List.mem_of_getElem? (i := 128) rfl)), (in_1 (List.mem_of_getElem? (i := 0) rfl)), Or.inr (in_4 (List.mem_of_getElem? (i := 129) rfl)), hy_Law_button, pn_Law⟩
set_option maxRecDepth 100000 in
theorem hy_Mo_button : hyOk mi_Mo_button.1 2 := ⟨by decide +kernel, by decide +kernel, by decide +kernel⟩
set_option maxRecDepth 100000 in
theorem lv_Law_129 : LkV "PanelFramesLaw" 129 mi_Mo_button 11 2 := ⟨Or.inl (in_6 (List.mem_of_getElem? (i := 196) rfl)), (in_6 (List.mem_of_getElem? (i := 197) rfl)), (in_6 (List.mem_of_getElem? (i := 198) rfl)), (in_6 (List.mem_of_getElem? (i := 199) rfl)), rfl, hy_Mo_button, pn_Mo⟩
set_option maxRecDepth 100000 in
theorem hy_Law_check : hyOk mi_Law_check.1 3 := ⟨by decide +kernel, by decide +kernel, by decide +kernel⟩
set_option maxRecDepth 100000 in
theorem ls_Law_130 : LkS "PanelFramesLaw" 130 mi_Law_check 3 := ⟨(in_4 (List.mem_of_getElem? (i := 171) rfl)), (in_4 (List.mem_of_getElem? (i := 172) rfl)), (in_1 (List.mem_of_getElem? (i := 0) rfl)), Or.inr (in_4 (List.mem_of_getElem? (i := 173) rfl)), hy_Law_check, pn_Law⟩
set_option maxRecDepth 100000 in
theorem hy_Mo_check : hyOk mi_Mo_check.1 1 := ⟨by decide +kernel, by decide +kernel, by decide +kernel⟩
set_option maxRecDepth 100000 in
theorem lv_Law_132 : LkV "PanelFramesLaw" 132 mi_Mo_check 11 1 := ⟨Or.inl (in_6 (List.mem_of_getElem? (i := 236) rfl)), (in_6 (List.mem_of_getElem? (i := 237) rfl)), (in_6 (List.mem_of_getElem? (i := 238) rfl)), (in_6 (List.mem_of_getElem? (i := 239) rfl)), rfl, hy_Mo_check, pn_Mo⟩
set_option maxRecDepth 100000 in
theorem hy_Law_slider : hyOk mi_Law_slider.1 6 := ⟨by decide +kernel, by decide +kernel, by decide +kernel⟩
set_option maxRecDepth 100000 in
theorem ls_Law_133 : LkS "PanelFramesLaw" 133 mi_Law_slider 6 := ⟨(in_4 (List.mem_of_getElem? (i := 190) rfl)), (in_4 (List.mem_of_getElem? (i := 191) rfl)), (in_1 (List.mem_of_getElem? (i := 0) rfl)), Or.inr (in_4 (List.mem_of_getElem? (i := 192) rfl)), hy_Law_slider, pn_Law⟩
set_option maxRecDepth 100000 in
theorem hy_Mo_slider : hyOk mi_Mo_slider.1 4 := ⟨by decide +kernel, by decide +kernel, by decide +kernel⟩
set_option maxRecDepth 100000 in
theorem lv_Law_136 : LkV "PanelFramesLaw" 136 mi_Mo_slider 11 4 := ⟨Or.inl (in_7 (List.mem_of_getElem? (i := 16) rfl)), (in_7 (List.mem_of_getElem? (i := 17) rfl)), (in_7 (List.mem_of_getElem? (i := 18) rfl)), (in_7 (List.mem_of_getElem? (i := 19) rfl)), rfl, hy_Mo_slider, pn_Mo⟩
set_option maxRecDepth 100000 in
theorem hy_Law_field : hyOk mi_Law_field.1 4 := ⟨by decide +kernel, by decide +kernel, by decide +kernel⟩
set_option maxRecDepth 100000 in
theorem ls_Law_137 : LkS "PanelFramesLaw" 137 mi_Law_field 4 := ⟨(in_4 (List.mem_of_getElem? (i := 199) rfl)), (in_4 (List.mem_of_getElem? (i := 200) rfl)), (in_1 (List.mem_of_getElem? (i := 0) rfl)), Or.inr (in_4 (List.mem_of_getElem? (i := 201) rfl)), hy_Law_field, pn_Law⟩
set_option maxRecDepth 100000 in
theorem hy_Mo_field : hyOk mi_Mo_field.1 2 := ⟨by decide +kernel, by decide +kernel, by decide +kernel⟩
set_option maxRecDepth 100000 in
theorem lv_Law_139 : LkV "PanelFramesLaw" 139 mi_Mo_field 11 2 := ⟨Or.inl (in_7 (List.mem_of_getElem? (i := 20) rfl)), (in_7 (List.mem_of_getElem? (i := 21) rfl)), (in_7 (List.mem_of_getElem? (i := 22) rfl)), (in_7 (List.mem_of_getElem? (i := 23) rfl)), rfl, hy_Mo_field, pn_Mo⟩
set_option maxRecDepth 100000 in
theorem hy_Law_tree : hyOk mi_Law_tree.1 4 := ⟨by decide +kernel, by decide +kernel, by decide +kernel⟩
set_option maxRecDepth 100000 in
theorem ls_Law_140 : LkS "PanelFramesLaw" 140 mi_Law_tree 4 := ⟨(in_4 (List.mem_of_getElem? (i := 214) rfl)), (in_4 (List.mem_of_getElem? (i := 215) rfl)), (in_1 (List.mem_of_getElem? (i := 0) rfl)), Or.inr (in_4 (List.mem_of_getElem? (i := 216) rfl)), hy_Law_tree, pn_Law⟩
set_option maxRecDepth 100000 in
theorem hy_Mo_tree : hyOk mi_Mo_tree.1 2 := ⟨by decide +kernel, by decide +kernel, by decide +kernel⟩
set_option maxRecDepth 100000 in
theorem lv_Law_142 : LkV "PanelFramesLaw" 142 mi_Mo_tree 11 2 := ⟨Or.inl (in_7 (List.mem_of_getElem? (i := 28) rfl)), (in_7 (List.mem_of_getElem? (i := 29) rfl)), (in_7 (List.mem_of_getElem? (i := 30) rfl)), (in_7 (List.mem_of_getElem? (i := 31) rfl)), rfl, hy_Mo_tree, pn_Mo⟩
set_option maxRecDepth 100000 in
theorem hy_Law_child : hyOk mi_Law_child.1 4 := ⟨by decide +kernel, by decide +kernel, by decide +kernel⟩
set_option maxRecDepth 100000 in
theorem ls_Law_143 : LkS "PanelFramesLaw" 143 mi_Law_child 4 := ⟨(in_4 (List.mem_of_getElem? (i := 221) rfl)), (in_4 (List.mem_of_getElem? (i := 222) rfl)), (in_1 (List.mem_of_getElem? (i := 0) rfl)), Or.inr (in_4 (List.mem_of_getElem? (i := 223) rfl)), hy_Law_child, pn_Law⟩
set_option maxRecDepth 100000 in
theorem hy_Mo_child : hyOk mi_Mo_child.1 3 := ⟨by decide +kernel, by decide +kernel, by decide +kernel⟩
set_option maxRecDepth 100000 in
theorem lv_Law_146 : LkV "PanelFramesLaw" 146 mi_Mo_child 11 3 := ⟨Or.inl (in_7 (List.mem_of_getElem? (i := 32) rfl)), (in_7 (List.mem_of_getElem? (i := 33) rfl)), (in_7 (List.mem_of_getElem? (i := 34) rfl)), (in_7 (List.mem_of_getElem? (i := 35) rfl)), rfl, hy_Mo_child, pn_Mo⟩
set_option maxRecDepth 100000 in
theorem hy_Law_scope : hyOk mi_Law_scope.1 2 := ⟨by decide +kernel, by decide +kernel, by decide +kernel⟩
set_option maxRecDepth 100000 in
theorem ls_Law_147 : LkS "PanelFramesLaw" 147 mi_Law_scope 2 := ⟨(in_4 (List.mem_of_getElem? (i := 228) rfl)), (in_4 (List.mem_of_getElem? (i := 229) rfl)), (in_1 (List.mem_of_getElem? (i := 0) rfl)), Or.inr (in_4 (List.mem_of_getElem? (i := 230) rfl)), hy_Law_scope, pn_Law⟩
set_option maxRecDepth 100000 in
theorem hy_Mo_scope : hyOk mi_Mo_scope.1 1 := ⟨by decide +kernel, by decide +kernel, by decide +kernel⟩
set_option maxRecDepth 100000 in
theorem lv_Law_150 : LkV "PanelFramesLaw" 150 mi_Mo_scope 11 1 := ⟨Or.inl (in_7 (List.mem_of_getElem? (i := 36) rfl)), (in_7 (List.mem_of_getElem? (i := 37) rfl)), (in_7 (List.mem_of_getElem? (i := 38) rfl)), (in_7 (List.mem_of_getElem? (i := 39) rfl)), rfl, hy_Mo_scope, pn_Mo⟩
set_option maxRecDepth 100000 in
theorem hy_Law_group : hyOk mi_Law_group.1 1 := ⟨by decide +kernel, by decide +kernel, by decide +kernel⟩
set_option maxRecDepth 100000 in
theorem ls_Law_151 : LkS "PanelFramesLaw" 151 mi_Law_group 1 := ⟨(in_4 (List.mem_of_getElem? (i := 235) rfl)), (in_4 (List.mem_of_getElem? (i := 236) rfl)), (in_1 (List.mem_of_getElem? (i := 0) rfl)), Or.inr (in_4 (List.mem_of_getElem? (i := 237) rfl)), hy_Law_group, pn_Law⟩
set_option maxRecDepth 100000 in
theorem hy_Mo_group : hyOk mi_Mo_group.1 0 := ⟨by decide +kernel, by decide +kernel, by decide +kernel⟩
set_option maxRecDepth 100000 in
theorem lv_Law_154 : LkV "PanelFramesLaw" 154 mi_Mo_group 11 0 := ⟨Or.inl (in_7 (List.mem_of_getElem? (i := 40) rfl)), (in_7 (List.mem_of_getElem? (i := 41) rfl)), (in_7 (List.mem_of_getElem? (i := 42) rfl)), (in_7 (List.mem_of_getElem? (i := 43) rfl)), rfl, hy_Mo_group, pn_Mo⟩
set_option maxRecDepth 100000 in
theorem hy_Law_near : hyOk mi_Law_near.1 1 := ⟨by decide +kernel, by decide +kernel, by decide +kernel⟩
set_option maxRecDepth 100000 in
theorem ls_Law_155 : LkS "PanelFramesLaw" 155 mi_Law_near 1 := ⟨(in_5 (List.mem_of_getElem? (i := 4) rfl)), (in_5 (List.mem_of_getElem? (i := 5) rfl)), (in_1 (List.mem_of_getElem? (i := 0) rfl)), Or.inr (in_5 (List.mem_of_getElem? (i := 6) rfl)), hy_Law_near, pn_Law⟩
set_option maxRecDepth 100000 in
theorem hy_Mo_near : hyOk mi_Mo_near.1 0 := ⟨by decide +kernel, by decide +kernel, by decide +kernel⟩
set_option maxRecDepth 100000 in
theorem lv_Law_157 : LkV "PanelFramesLaw" 157 mi_Mo_near 11 0 := ⟨Or.inl (in_7 (List.mem_of_getElem? (i := 44) rfl)), (in_7 (List.mem_of_getElem? (i := 45) rfl)), (in_7 (List.mem_of_getElem? (i := 46) rfl)), (in_7 (List.mem_of_getElem? (i := 47) rfl)), rfl, hy_Mo_near, pn_Mo⟩
set_option maxRecDepth 100000 in
theorem hy_PF_look : hyOk mi_PF_look.1 1 := ⟨by decide +kernel, by decide +kernel, by decide +kernel⟩
set_option maxRecDepth 100000 in
theorem lv_Law_158 : LkV "PanelFramesLaw" 158 mi_PF_look 10 1 := ⟨Or.inl (in_3 (List.mem_of_getElem? (i := 2) rfl)), (in_3 (List.mem_of_getElem? (i := 3) rfl)), (in_3 (List.mem_of_getElem? (i := 4) rfl)), (in_3 (List.mem_of_getElem? (i := 5) rfl)), rfl, hy_PF_look, pn_PF⟩
set_option maxRecDepth 100000 in
theorem hy_Mo_look : hyOk mi_Mo_look.1 1 := ⟨by decide +kernel, by decide +kernel, by decide +kernel⟩
set_option maxRecDepth 100000 in
theorem lv_Law_161 : LkV "PanelFramesLaw" 161 mi_Mo_look 11 1 := ⟨Or.inl (in_7 (List.mem_of_getElem? (i := 48) rfl)), (in_7 (List.mem_of_getElem? (i := 49) rfl)), (in_7 (List.mem_of_getElem? (i := 50) rfl)), (in_7 (List.mem_of_getElem? (i := 51) rfl)), rfl, hy_Mo_look, pn_Mo⟩
set_option maxRecDepth 100000 in
theorem hy_PF_place : hyOk mi_PF_place.1 2 := ⟨by decide +kernel, by decide +kernel, by decide +kernel⟩
set_option maxRecDepth 100000 in
theorem lv_Law_162 : LkV "PanelFramesLaw" 162 mi_PF_place 10 2 := ⟨Or.inl (in_3 (List.mem_of_getElem? (i := 6) rfl)), (in_3 (List.mem_of_getElem? (i := 7) rfl)), (in_3 (List.mem_of_getElem? (i := 8) rfl)), (in_3 (List.mem_of_getElem? (i := 9) rfl)), rfl, hy_PF_place, pn_PF⟩
set_option maxRecDepth 100000 in
theorem hy_Mo_place : hyOk mi_Mo_place.1 2 := ⟨by decide +kernel, by decide +kernel, by decide +kernel⟩
set_option maxRecDepth 100000 in
theorem lv_Law_165 : LkV "PanelFramesLaw" 165 mi_Mo_place 11 2 := ⟨Or.inl (in_7 (List.mem_of_getElem? (i := 52) rfl)), (in_7 (List.mem_of_getElem? (i := 53) rfl)), (in_7 (List.mem_of_getElem? (i := 54) rfl)), (in_7 (List.mem_of_getElem? (i := 55) rfl)), rfl, hy_Mo_place, pn_Mo⟩
set_option maxRecDepth 100000 in
theorem hy_PF_kept : hyOk mi_PF_kept.1 1 := ⟨by decide +kernel, by decide +kernel, by decide +kernel⟩
set_option maxRecDepth 100000 in
theorem lv_Law_166 : LkV "PanelFramesLaw" 166 mi_PF_kept 10 1 := ⟨Or.inl (in_3 (List.mem_of_getElem? (i := 14) rfl)), (in_3 (List.mem_of_getElem? (i := 15) rfl)), (in_3 (List.mem_of_getElem? (i := 16) rfl)), (in_3 (List.mem_of_getElem? (i := 17) rfl)), rfl, hy_PF_kept, pn_PF⟩
set_option maxRecDepth 100000 in
theorem hy_Mo_kept : hyOk mi_Mo_kept.1 1 := ⟨by decide +kernel, by decide +kernel, by decide +kernel⟩
set_option maxRecDepth 100000 in
theorem lv_Law_169 : LkV "PanelFramesLaw" 169 mi_Mo_kept 11 1 := ⟨Or.inl (in_7 (List.mem_of_getElem? (i := 56) rfl)), (in_7 (List.mem_of_getElem? (i := 57) rfl)), (in_7 (List.mem_of_getElem? (i := 58) rfl)), (in_7 (List.mem_of_getElem? (i := 59) rfl)), rfl, hy_Mo_kept, pn_Mo⟩
set_option maxRecDepth 100000 in
theorem hy_PF_text : hyOk mi_PF_text.1 2 := ⟨by decide +kernel, by decide +kernel, by decide +kernel⟩
set_option maxRecDepth 100000 in
theorem lv_Law_170 : LkV "PanelFramesLaw" 170 mi_PF_text 10 2 := ⟨Or.inl (in_3 (List.mem_of_getElem? (i := 30) rfl)), (in_3 (List.mem_of_getElem? (i := 31) rfl)), (in_3 (List.mem_of_getElem? (i := 32) rfl)), (in_3 (List.mem_of_getElem? (i := 33) rfl)), rfl, hy_PF_text, pn_PF⟩
set_option maxRecDepth 100000 in
theorem hy_Mo_text : hyOk mi_Mo_text.1 2 := ⟨by decide +kernel, by decide +kernel, by decide +kernel⟩
set_option maxRecDepth 100000 in
theorem lv_Law_173 : LkV "PanelFramesLaw" 173 mi_Mo_text 11 2 := ⟨Or.inl (in_7 (List.mem_of_getElem? (i := 60) rfl)), (in_7 (List.mem_of_getElem? (i := 61) rfl)), (in_7 (List.mem_of_getElem? (i := 62) rfl)), (in_7 (List.mem_of_getElem? (i := 63) rfl)), rfl, hy_Mo_text, pn_Mo⟩
set_option maxRecDepth 100000 in
theorem lv_Law_174 : LkV "PanelFramesLaw" 174 mi_PF_drawn 10 1 := ⟨Or.inl (in_3 (List.mem_of_getElem? (i := 35) rfl)), (in_3 (List.mem_of_getElem? (i := 36) rfl)), (in_3 (List.mem_of_getElem? (i := 37) rfl)), (in_3 (List.mem_of_getElem? (i := 38) rfl)), rfl, hy_PF_drawn, pn_PF⟩
set_option maxRecDepth 100000 in
theorem hy_Mo_drawn : hyOk mi_Mo_drawn.1 1 := ⟨by decide +kernel, by decide +kernel, by decide +kernel⟩
set_option maxRecDepth 100000 in
theorem lv_Law_177 : LkV "PanelFramesLaw" 177 mi_Mo_drawn 11 1 := ⟨Or.inl (in_7 (List.mem_of_getElem? (i := 64) rfl)), (in_7 (List.mem_of_getElem? (i := 65) rfl)), (in_7 (List.mem_of_getElem? (i := 66) rfl)), (in_7 (List.mem_of_getElem? (i := 67) rfl)), rfl, hy_Mo_drawn, pn_Mo⟩
set_option maxRecDepth 100000 in
theorem hy_PF_command : hyOk mi_PF_command.1 2 := ⟨by decide +kernel, by decide +kernel, by decide +kernel⟩
set_option maxRecDepth 100000 in
theorem lv_Law_178 : LkV "PanelFramesLaw" 178 mi_PF_command 10 2 := ⟨Or.inl (in_3 (List.mem_of_getElem? (i := 43) rfl)), (in_3 (List.mem_of_getElem? (i := 44) rfl)), (in_3 (List.mem_of_getElem? (i := 45) rfl)), (in_3 (List.mem_of_getElem? (i := 46) rfl)), rfl, hy_PF_command, pn_PF⟩
set_option maxRecDepth 100000 in
theorem hy_Mo_command : hyOk mi_Mo_command.1 2 := ⟨by decide +kernel, by decide +kernel, by decide +kernel⟩
set_option maxRecDepth 100000 in
theorem lv_Law_181 : LkV "PanelFramesLaw" 181 mi_Mo_command 11 2 := ⟨Or.inl (in_7 (List.mem_of_getElem? (i := 68) rfl)), (in_7 (List.mem_of_getElem? (i := 69) rfl)), (in_7 (List.mem_of_getElem? (i := 70) rfl)), (in_7 (List.mem_of_getElem? (i := 71) rfl)), rfl, hy_Mo_command, pn_Mo⟩
set_option maxRecDepth 100000 in
theorem hy_PF_index : hyOk mi_PF_index.1 1 := ⟨by decide +kernel, by decide +kernel, by decide +kernel⟩
set_option maxRecDepth 100000 in
theorem lv_Law_182 : LkV "PanelFramesLaw" 182 mi_PF_index 10 1 := ⟨Or.inl (in_3 (List.mem_of_getElem? (i := 52) rfl)), (in_3 (List.mem_of_getElem? (i := 53) rfl)), (in_3 (List.mem_of_getElem? (i := 54) rfl)), (in_3 (List.mem_of_getElem? (i := 55) rfl)), rfl, hy_PF_index, pn_PF⟩
set_option maxRecDepth 100000 in
theorem hy_Mo_index : hyOk mi_Mo_index.1 1 := ⟨by decide +kernel, by decide +kernel, by decide +kernel⟩
set_option maxRecDepth 100000 in
theorem lv_Law_185 : LkV "PanelFramesLaw" 185 mi_Mo_index 11 1 := ⟨Or.inl (in_7 (List.mem_of_getElem? (i := 72) rfl)), (in_7 (List.mem_of_getElem? (i := 73) rfl)), (in_7 (List.mem_of_getElem? (i := 74) rfl)), (in_7 (List.mem_of_getElem? (i := 75) rfl)), rfl, hy_Mo_index, pn_Mo⟩
set_option maxRecDepth 100000 in
theorem hy_PF_vertex : hyOk mi_PF_vertex.1 2 := ⟨by decide +kernel, by decide +kernel, by decide +kernel⟩
set_option maxRecDepth 100000 in
theorem lv_Law_186 : LkV "PanelFramesLaw" 186 mi_PF_vertex 10 2 := ⟨Or.inl (in_3 (List.mem_of_getElem? (i := 56) rfl)), (in_3 (List.mem_of_getElem? (i := 57) rfl)), (in_3 (List.mem_of_getElem? (i := 58) rfl)), (in_3 (List.mem_of_getElem? (i := 59) rfl)), rfl, hy_PF_vertex, pn_PF⟩
set_option maxRecDepth 100000 in
theorem hy_Mo_vertex : hyOk mi_Mo_vertex.1 2 := ⟨by decide +kernel, by decide +kernel, by decide +kernel⟩
set_option maxRecDepth 100000 in
theorem lv_Law_189 : LkV "PanelFramesLaw" 189 mi_Mo_vertex 11 2 := ⟨Or.inl (in_7 (List.mem_of_getElem? (i := 76) rfl)), (in_7 (List.mem_of_getElem? (i := 77) rfl)), (in_7 (List.mem_of_getElem? (i := 78) rfl)), (in_7 (List.mem_of_getElem? (i := 79) rfl)), rfl, hy_Mo_vertex, pn_Mo⟩
set_option maxRecDepth 100000 in
theorem hy_PF_press : hyOk mi_PF_press.1 1 := ⟨by decide +kernel, by decide +kernel, by decide +kernel⟩
set_option maxRecDepth 100000 in
theorem lv_Law_76 : LkV "PanelFramesLaw" 76 mi_PF_press 10 1 := ⟨Or.inl (in_2 (List.mem_of_getElem? (i := 222) rfl)), (in_2 (List.mem_of_getElem? (i := 223) rfl)), (in_2 (List.mem_of_getElem? (i := 224) rfl)), (in_2 (List.mem_of_getElem? (i := 225) rfl)), rfl, hy_PF_press, pn_PF⟩
set_option maxRecDepth 100000 in
theorem hy_PF_key : hyOk mi_PF_key.1 2 := ⟨by decide +kernel, by decide +kernel, by decide +kernel⟩
set_option maxRecDepth 100000 in
theorem lv_Law_85 : LkV "PanelFramesLaw" 85 mi_PF_key 10 2 := ⟨Or.inl (in_2 (List.mem_of_getElem? (i := 230) rfl)), (in_2 (List.mem_of_getElem? (i := 231) rfl)), (in_2 (List.mem_of_getElem? (i := 232) rfl)), (in_2 (List.mem_of_getElem? (i := 233) rfl)), rfl, hy_PF_key, pn_PF⟩
set_option maxRecDepth 100000 in
theorem hy_Mo_press : hyOk mi_Mo_press.1 1 := ⟨by decide +kernel, by decide +kernel, by decide +kernel⟩
set_option maxRecDepth 100000 in
theorem lv_Law_80 : LkV "PanelFramesLaw" 80 mi_Mo_press 11 1 := ⟨Or.inl (in_6 (List.mem_of_getElem? (i := 55) rfl)), (in_6 (List.mem_of_getElem? (i := 56) rfl)), (in_6 (List.mem_of_getElem? (i := 57) rfl)), (in_6 (List.mem_of_getElem? (i := 58) rfl)), rfl, hy_Mo_press, pn_Mo⟩
set_option maxRecDepth 100000 in
theorem hy_Mo_key : hyOk mi_Mo_key.1 2 := ⟨by decide +kernel, by decide +kernel, by decide +kernel⟩
set_option maxRecDepth 100000 in
theorem lv_Law_89 : LkV "PanelFramesLaw" 89 mi_Mo_key 11 2 := ⟨Or.inl (in_6 (List.mem_of_getElem? (i := 63) rfl)), (in_6 (List.mem_of_getElem? (i := 64) rfl)), (in_6 (List.mem_of_getElem? (i := 65) rfl)), (in_6 (List.mem_of_getElem? (i := 66) rfl)), rfl, hy_Mo_key, pn_Mo⟩
