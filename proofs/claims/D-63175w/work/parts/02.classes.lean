def R_Row : String := "PanelFrames$Row"
def F_Row : u_T := fun k => match k with
  | 0 => ("PanelFrames$Row", "cells", "[I", false)
  | _ => ("PanelFrames$Row", "size", "I", false)
def t_Row : Nat → FieldType := fun k => match k with
  | 0 => .array .int
  | _ => .int
def R_Rect : String := "PanelFrames$Rect"
def F_Rect : u_T := fun k => match k with
  | 0 => ("PanelFrames$Rect", "left", "I", false)
  | 1 => ("PanelFrames$Rect", "top", "I", false)
  | 2 => ("PanelFrames$Rect", "right", "I", false)
  | _ => ("PanelFrames$Rect", "bottom", "I", false)
def t_Rect : Nat → FieldType := fun k => match k with
  | 0 => .int
  | 1 => .int
  | 2 => .int
  | _ => .int
def R_Input : String := "PanelFrames$Input"
def F_Input : u_T := fun k => match k with
  | 0 => ("PanelFrames$Input", "kinds", "[I", true)
  | 1 => ("PanelFrames$Input", "first", "[I", true)
  | 2 => ("PanelFrames$Input", "second", "[I", true)
  | 3 => ("PanelFrames$Input", "begin", "I", false)
  | 4 => ("PanelFrames$Input", "waiting", "I", false)
  | 5 => ("PanelFrames$Input", "x", "I", false)
  | 6 => ("PanelFrames$Input", "y", "I", false)
  | 7 => ("PanelFrames$Input", "wheel", "I", false)
  | 8 => ("PanelFrames$Input", "letters", "I", false)
  | 9 => ("PanelFrames$Input", "pressed", "Z", false)
  | 10 => ("PanelFrames$Input", "pressedHere", "Z", false)
  | 11 => ("PanelFrames$Input", "releasedHere", "Z", false)
  | 12 => ("PanelFrames$Input", "down", "[Z", true)
  | 13 => ("PanelFrames$Input", "downHere", "[Z", true)
  | 14 => ("PanelFrames$Input", "upHere", "[Z", true)
  | _ => ("PanelFrames$Input", "text", "[I", true)
def t_Input : Nat → FieldType := fun k => match k with
  | 0 => .array .int
  | 1 => .array .int
  | 2 => .array .int
  | 3 => .int
  | 4 => .int
  | 5 => .int
  | 6 => .int
  | 7 => .int
  | 8 => .int
  | 9 => .boolean
  | 10 => .boolean
  | 11 => .boolean
  | 12 => .array .boolean
  | 13 => .array .boolean
  | 14 => .array .boolean
  | _ => .array .int
def R_Store : String := "PanelFrames$Store"
def F_Store : u_T := fun k => match k with
  | 0 => ("PanelFrames$Store", "ids", "[I", true)
  | 1 => ("PanelFrames$Store", "numbers", "[I", true)
  | 2 => ("PanelFrames$Store", "sizes", "[I", true)
  | 3 => ("PanelFrames$Store", "carets", "[I", true)
  | 4 => ("PanelFrames$Store", "letters", "[B", true)
  | _ => ("PanelFrames$Store", "count", "I", false)
def t_Store : Nat → FieldType := fun k => match k with
  | 0 => .array .int
  | 1 => .array .int
  | 2 => .array .int
  | 3 => .array .int
  | 4 => .array .byte
  | _ => .int
def R_DrawList : String := "PanelFrames$DrawList"
def F_DrawList : u_T := fun k => match k with
  | 0 => ("PanelFrames$DrawList", "commands", "LPanelFrames$Row;", true)
  | 1 => ("PanelFrames$DrawList", "indices", "LPanelFrames$Row;", true)
  | _ => ("PanelFrames$DrawList", "vertices", "LPanelFrames$Row;", true)
def t_DrawList : Nat → FieldType := fun k => match k with
  | 0 => .object "PanelFrames$Row"
  | 1 => .object "PanelFrames$Row"
  | _ => .object "PanelFrames$Row"
def R_Layout : String := "PanelFrames$Layout"
def F_Layout : u_T := fun k => match k with
  | 0 => ("PanelFrames$Layout", "firstX", "I", false)
  | 1 => ("PanelFrames$Layout", "firstY", "I", false)
  | 2 => ("PanelFrames$Layout", "indent", "I", false)
  | 3 => ("PanelFrames$Layout", "nextY", "I", false)
  | 4 => ("PanelFrames$Layout", "top", "I", false)
  | 5 => ("PanelFrames$Layout", "bottom", "I", false)
  | 6 => ("PanelFrames$Layout", "lastRight", "I", false)
  | 7 => ("PanelFrames$Layout", "wide", "I", false)
  | 8 => ("PanelFrames$Layout", "low", "I", false)
  | 9 => ("PanelFrames$Layout", "hasLast", "Z", false)
  | _ => ("PanelFrames$Layout", "near", "Z", false)
def t_Layout : Nat → FieldType := fun k => match k with
  | 0 => .int
  | 1 => .int
  | 2 => .int
  | 3 => .int
  | 4 => .int
  | 5 => .int
  | 6 => .int
  | 7 => .int
  | 8 => .int
  | 9 => .boolean
  | _ => .boolean
def R_Scroll : String := "PanelFrames$Scroll"
def F_Scroll : u_T := fun k => match k with
  | 0 => ("PanelFrames$Scroll", "at", "I", false)
  | _ => ("PanelFrames$Scroll", "high", "I", false)
def t_Scroll : Nat → FieldType := fun k => match k with
  | 0 => .int
  | _ => .int
def R_Panel : String := "PanelFrames$Panel"
def F_Panel : u_T := fun k => match k with
  | 0 => ("PanelFrames$Panel", "number", "I", true)
  | 1 => ("PanelFrames$Panel", "rect", "LPanelFrames$Rect;", true)
  | 2 => ("PanelFrames$Panel", "scroll", "LPanelFrames$Scroll;", true)
  | 3 => ("PanelFrames$Panel", "list", "LPanelFrames$DrawList;", true)
  | 4 => ("PanelFrames$Panel", "width", "I", false)
  | 5 => ("PanelFrames$Panel", "height", "I", false)
  | 6 => ("PanelFrames$Panel", "placed", "Z", false)
  | 7 => ("PanelFrames$Panel", "known", "Z", false)
  | 8 => ("PanelFrames$Panel", "collapsed", "Z", false)
  | _ => ("PanelFrames$Panel", "told", "Z", false)
def t_Panel : Nat → FieldType := fun k => match k with
  | 0 => .int
  | 1 => .object "PanelFrames$Rect"
  | 2 => .object "PanelFrames$Scroll"
  | 3 => .object "PanelFrames$DrawList"
  | 4 => .int
  | 5 => .int
  | 6 => .boolean
  | 7 => .boolean
  | 8 => .boolean
  | _ => .boolean
def R_Level : String := "PanelFrames$Level"
def F_Level : u_T := fun k => match k with
  | 0 => ("PanelFrames$Level", "kind", "I", false)
  | 1 => ("PanelFrames$Level", "id", "I", false)
  | 2 => ("PanelFrames$Level", "number", "I", false)
  | 3 => ("PanelFrames$Level", "own", "LPanelFrames$Layout;", true)
  | 4 => ("PanelFrames$Level", "clip", "LPanelFrames$Rect;", true)
  | _ => ("PanelFrames$Level", "layout", "LPanelFrames$Layout;", false)
def t_Level : Nat → FieldType := fun k => match k with
  | 0 => .int
  | 1 => .int
  | 2 => .int
  | 3 => .object "PanelFrames$Layout"
  | 4 => .object "PanelFrames$Rect"
  | _ => .object "PanelFrames$Layout"
def R_Att : String := "PanelFrames$Attention"
def F_Att : u_T := fun k => match k with
  | 0 => ("PanelFrames$Attention", "active", "I", false)
  | 1 => ("PanelFrames$Attention", "hovered", "I", false)
  | 2 => ("PanelFrames$Attention", "focus", "I", false)
  | 3 => ("PanelFrames$Attention", "held", "I", false)
  | 4 => ("PanelFrames$Attention", "first", "I", false)
  | 5 => ("PanelFrames$Attention", "passes", "Z", false)
  | 6 => ("PanelFrames$Attention", "metHolder", "Z", false)
  | 7 => ("PanelFrames$Attention", "activeTold", "Z", false)
  | _ => ("PanelFrames$Attention", "focusTold", "Z", false)
def t_Att : Nat → FieldType := fun k => match k with
  | 0 => .int
  | 1 => .int
  | 2 => .int
  | 3 => .int
  | 4 => .int
  | 5 => .boolean
  | 6 => .boolean
  | 7 => .boolean
  | _ => .boolean
def R_PF : String := "PanelFrames"
def F_PF : u_T := fun k => match k with
  | 0 => ("PanelFrames", "in", "LPanelFrames$Input;", true)
  | 1 => ("PanelFrames", "store", "LPanelFrames$Store;", true)
  | 2 => ("PanelFrames", "attention", "LPanelFrames$Attention;", true)
  | 3 => ("PanelFrames", "panels", "[LPanelFrames$Panel;", true)
  | 4 => ("PanelFrames", "order", "[I", true)
  | 5 => ("PanelFrames", "levels", "[LPanelFrames$Level;", true)
  | 6 => ("PanelFrames", "open", "I", false)
  | 7 => ("PanelFrames", "on", "Z", false)
  | 8 => ("PanelFrames", "hoveredWindow", "I", false)
  | 9 => ("PanelFrames", "pressX", "I", false)
  | 10 => ("PanelFrames", "pressY", "I", false)
  | 11 => ("PanelFrames", "lastX", "I", false)
  | 12 => ("PanelFrames", "lastY", "I", false)
  | 13 => ("PanelFrames", "popupLabel", "I", false)
  | 14 => ("PanelFrames", "popupOpened", "Z", false)
  | 15 => ("PanelFrames", "scrolls", "[LPanelFrames$Scroll;", true)
  | 16 => ("PanelFrames", "childWindow", "[I", true)
  | 17 => ("PanelFrames", "childClip", "[LPanelFrames$Rect;", true)
  | 18 => ("PanelFrames", "children", "I", false)
  | 19 => ("PanelFrames", "wheelChild", "I", false)
  | 20 => ("PanelFrames", "item", "LPanelFrames$Rect;", true)
  | 21 => ("PanelFrames", "part", "LPanelFrames$Rect;", true)
  | 22 => ("PanelFrames", "screen", "LPanelFrames$Rect;", true)
  | 23 => ("PanelFrames", "glyph", "LPanelFrames$Rect;", true)
  | _ => ("PanelFrames", "drawing", "LPanelFrames$DrawList;", true)
def t_PF : Nat → FieldType := fun k => match k with
  | 0 => .object "PanelFrames$Input"
  | 1 => .object "PanelFrames$Store"
  | 2 => .object "PanelFrames$Attention"
  | 3 => .array (.object "PanelFrames$Panel")
  | 4 => .array .int
  | 5 => .array (.object "PanelFrames$Level")
  | 6 => .int
  | 7 => .boolean
  | 8 => .int
  | 9 => .int
  | 10 => .int
  | 11 => .int
  | 12 => .int
  | 13 => .int
  | 14 => .boolean
  | 15 => .array (.object "PanelFrames$Scroll")
  | 16 => .array .int
  | 17 => .array (.object "PanelFrames$Rect")
  | 18 => .int
  | 19 => .int
  | 20 => .object "PanelFrames$Rect"
  | 21 => .object "PanelFrames$Rect"
  | 22 => .object "PanelFrames$Rect"
  | 23 => .object "PanelFrames$Rect"
  | _ => .object "PanelFrames$DrawList"
def R_Mo : String := "PanelFramesModel"
def F_Mo : u_T := fun k => match k with
  | 0 => ("PanelFramesModel", "thrown", "I", false)
  | 1 => ("PanelFramesModel", "events", "[I", true)
  | 2 => ("PanelFramesModel", "waiting", "I", false)
  | 3 => ("PanelFramesModel", "mouseX", "I", false)
  | 4 => ("PanelFramesModel", "mouseY", "I", false)
  | 5 => ("PanelFramesModel", "beforeX", "I", false)
  | 6 => ("PanelFramesModel", "beforeY", "I", false)
  | 7 => ("PanelFramesModel", "pressX", "I", false)
  | 8 => ("PanelFramesModel", "pressY", "I", false)
  | 9 => ("PanelFramesModel", "pressed", "Z", false)
  | 10 => ("PanelFramesModel", "keys", "[Z", true)
  | 11 => ("PanelFramesModel", "downHere", "[Z", true)
  | 12 => ("PanelFramesModel", "upHere", "[Z", true)
  | 13 => ("PanelFramesModel", "pressedHere", "Z", false)
  | 14 => ("PanelFramesModel", "releasedHere", "Z", false)
  | 15 => ("PanelFramesModel", "lines", "I", false)
  | 16 => ("PanelFramesModel", "letters", "I", false)
  | 17 => ("PanelFramesModel", "letter", "[I", true)
  | 18 => ("PanelFramesModel", "on", "Z", false)
  | 19 => ("PanelFramesModel", "active", "I", false)
  | 20 => ("PanelFramesModel", "hovered", "I", false)
  | 21 => ("PanelFramesModel", "focus", "I", false)
  | 22 => ("PanelFramesModel", "held", "I", false)
  | 23 => ("PanelFramesModel", "hoveredWindow", "I", false)
  | 24 => ("PanelFramesModel", "told", "[I", true)
  | 25 => ("PanelFramesModel", "tellings", "I", false)
  | 26 => ("PanelFramesModel", "behaved", "[I", true)
  | 27 => ("PanelFramesModel", "behaviours", "I", false)
  | 28 => ("PanelFramesModel", "tabGiven", "Z", false)
  | 29 => ("PanelFramesModel", "x", "[I", true)
  | 30 => ("PanelFramesModel", "y", "[I", true)
  | 31 => ("PanelFramesModel", "wide", "[I", true)
  | 32 => ("PanelFramesModel", "high", "[I", true)
  | 33 => ("PanelFramesModel", "scroll", "[I", true)
  | 34 => ("PanelFramesModel", "lowest", "[I", true)
  | 35 => ("PanelFramesModel", "rank", "[I", true)
  | 36 => ("PanelFramesModel", "collapsed", "[Z", true)
  | 37 => ("PanelFramesModel", "here", "[Z", true)
  | 38 => ("PanelFramesModel", "before", "[Z", true)
  | 39 => ("PanelFramesModel", "known", "[Z", true)
  | 40 => ("PanelFramesModel", "popupLabel", "I", false)
  | 41 => ("PanelFramesModel", "openedHere", "Z", false)
  | 42 => ("PanelFramesModel", "childWindow", "[I", true)
  | 43 => ("PanelFramesModel", "childClip", "[I", true)
  | 44 => ("PanelFramesModel", "oldWindow", "[I", true)
  | 45 => ("PanelFramesModel", "oldClip", "[I", true)
  | 46 => ("PanelFramesModel", "childScroll", "[I", true)
  | 47 => ("PanelFramesModel", "childLowest", "[I", true)
  | 48 => ("PanelFramesModel", "children", "I", false)
  | 49 => ("PanelFramesModel", "oldChildren", "I", false)
  | 50 => ("PanelFramesModel", "wheelChild", "I", false)
  | 51 => ("PanelFramesModel", "openKind", "[I", true)
  | 52 => ("PanelFramesModel", "openPile", "[I", true)
  | 53 => ("PanelFramesModel", "openClip", "[I", true)
  | 54 => ("PanelFramesModel", "openArea", "[I", true)
  | 55 => ("PanelFramesModel", "openNumber", "[I", true)
  | 56 => ("PanelFramesModel", "opened", "I", false)
  | 57 => ("PanelFramesModel", "pile", "[I", true)
  | 58 => ("PanelFramesModel", "piled", "I", false)
  | 59 => ("PanelFramesModel", "firstX", "[I", true)
  | 60 => ("PanelFramesModel", "firstY", "[I", true)
  | 61 => ("PanelFramesModel", "indent", "[I", true)
  | 62 => ("PanelFramesModel", "endX", "[I", true)
  | 63 => ("PanelFramesModel", "lineTop", "[I", true)
  | 64 => ("PanelFramesModel", "lineBottom", "[I", true)
  | 65 => ("PanelFramesModel", "farX", "[I", true)
  | 66 => ("PanelFramesModel", "farY", "[I", true)
  | 67 => ("PanelFramesModel", "some", "[Z", true)
  | 68 => ("PanelFramesModel", "near", "[Z", true)
  | 69 => ("PanelFramesModel", "wasNear", "[Z", true)
  | 70 => ("PanelFramesModel", "areas", "I", false)
  | 71 => ("PanelFramesModel", "window", "I", false)
  | 72 => ("PanelFramesModel", "clip", "[I", true)
  | 73 => ("PanelFramesModel", "item", "[I", true)
  | 74 => ("PanelFramesModel", "keptId", "[I", true)
  | 75 => ("PanelFramesModel", "keptNumber", "[I", true)
  | 76 => ("PanelFramesModel", "keptText", "[I", true)
  | 77 => ("PanelFramesModel", "keptSize", "[I", true)
  | 78 => ("PanelFramesModel", "keptCaret", "[I", true)
  | 79 => ("PanelFramesModel", "kept", "I", false)
  | 80 => ("PanelFramesModel", "quads", "[I", true)
  | 81 => ("PanelFramesModel", "drawing", "[I", true)
  | 82 => ("PanelFramesModel", "quadCount", "I", false)
  | 83 => ("PanelFramesModel", "drawn", "I", false)
  | 84 => ("PanelFramesModel", "listBase", "I", false)
  | 85 => ("PanelFramesModel", "command", "I", false)
  | 86 => ("PanelFramesModel", "offset", "I", false)
  | _ => ("PanelFramesModel", "firstIndex", "I", false)
def t_Mo : Nat → FieldType := fun k => match k with
  | 0 => .int
  | 1 => .array .int
  | 2 => .int
  | 3 => .int
  | 4 => .int
  | 5 => .int
  | 6 => .int
  | 7 => .int
  | 8 => .int
  | 9 => .boolean
  | 10 => .array .boolean
  | 11 => .array .boolean
  | 12 => .array .boolean
  | 13 => .boolean
  | 14 => .boolean
  | 15 => .int
  | 16 => .int
  | 17 => .array .int
  | 18 => .boolean
  | 19 => .int
  | 20 => .int
  | 21 => .int
  | 22 => .int
  | 23 => .int
  | 24 => .array .int
  | 25 => .int
  | 26 => .array .int
  | 27 => .int
  | 28 => .boolean
  | 29 => .array .int
  | 30 => .array .int
  | 31 => .array .int
  | 32 => .array .int
  | 33 => .array .int
  | 34 => .array .int
  | 35 => .array .int
  | 36 => .array .boolean
  | 37 => .array .boolean
  | 38 => .array .boolean
  | 39 => .array .boolean
  | 40 => .int
  | 41 => .boolean
  | 42 => .array .int
  | 43 => .array .int
  | 44 => .array .int
  | 45 => .array .int
  | 46 => .array .int
  | 47 => .array .int
  | 48 => .int
  | 49 => .int
  | 50 => .int
  | 51 => .array .int
  | 52 => .array .int
  | 53 => .array .int
  | 54 => .array .int
  | 55 => .array .int
  | 56 => .int
  | 57 => .array .int
  | 58 => .int
  | 59 => .array .int
  | 60 => .array .int
  | 61 => .array .int
  | 62 => .array .int
  | 63 => .array .int
  | 64 => .array .int
  | 65 => .array .int
  | 66 => .array .int
  | 67 => .array .boolean
  | 68 => .array .boolean
  | 69 => .array .boolean
  | 70 => .int
  | 71 => .int
  | 72 => .array .int
  | 73 => .array .int
  | 74 => .array .int
  | 75 => .array .int
  | 76 => .array .int
  | 77 => .array .int
  | 78 => .array .int
  | 79 => .int
  | 80 => .array .int
  | 81 => .array .int
  | 82 => .int
  | 83 => .int
  | 84 => .int
  | 85 => .int
  | 86 => .int
  | _ => .int
def cR : Nat → String := fun c => match c with
  | 0 => R_Row
  | 1 => R_Rect
  | 2 => R_Input
  | 3 => R_Store
  | 4 => R_DrawList
  | 5 => R_Layout
  | 6 => R_Scroll
  | 7 => R_Panel
  | 8 => R_Level
  | 9 => R_Att
  | 10 => R_PF
  | _ => R_Mo
def cF : Nat → u_T := fun c => match c with
  | 0 => F_Row
  | 1 => F_Rect
  | 2 => F_Input
  | 3 => F_Store
  | 4 => F_DrawList
  | 5 => F_Layout
  | 6 => F_Scroll
  | 7 => F_Panel
  | 8 => F_Level
  | 9 => F_Att
  | 10 => F_PF
  | _ => F_Mo
def cT : Nat → Nat → FieldType := fun c => match c with
  | 0 => t_Row
  | 1 => t_Rect
  | 2 => t_Input
  | 3 => t_Store
  | 4 => t_DrawList
  | 5 => t_Layout
  | 6 => t_Scroll
  | 7 => t_Panel
  | 8 => t_Level
  | 9 => t_Att
  | 10 => t_PF
  | _ => t_Mo
def cN : Nat → Nat := fun c => match c with
  | 0 => 2
  | 1 => 4
  | 2 => 16
  | 3 => 6
  | 4 => 3
  | 5 => 11
  | 6 => 2
  | 7 => 10
  | 8 => 6
  | 9 => 9
  | 10 => 25
  | _ => 88
theorem n_Row : ∀ a, a < 2 → ∀ b, b < 2 → a ≠ b → (F_Row a).2.1 ≠ (F_Row b).2.1 := by decide +kernel
theorem p_Row : ∀ k, k < 2 → parseFieldDescriptor (F_Row k).2.2.1 = some (t_Row k) := by decide +kernel
theorem i_Row : ∀ w ∈ u_ws R_Row F_Row 2, w ∈ lw_tbl := by decide +kernel
theorem k_Row : Cond.instantiable R_Row 2 ∈ lw_tbl := by decide +kernel
theorem n_Rect : ∀ a, a < 4 → ∀ b, b < 4 → a ≠ b → (F_Rect a).2.1 ≠ (F_Rect b).2.1 := by decide +kernel
theorem p_Rect : ∀ k, k < 4 → parseFieldDescriptor (F_Rect k).2.2.1 = some (t_Rect k) := by decide +kernel
theorem i_Rect : ∀ w ∈ u_ws R_Rect F_Rect 4, w ∈ lw_tbl := by decide +kernel
theorem k_Rect : Cond.instantiable R_Rect 4 ∈ lw_tbl := by decide +kernel
theorem n_Input : ∀ a, a < 16 → ∀ b, b < 16 → a ≠ b → (F_Input a).2.1 ≠ (F_Input b).2.1 := by decide +kernel
theorem p_Input : ∀ k, k < 16 → parseFieldDescriptor (F_Input k).2.2.1 = some (t_Input k) := by decide +kernel
theorem i_Input : ∀ w ∈ u_ws R_Input F_Input 16, w ∈ lw_tbl := by decide +kernel
theorem k_Input : Cond.instantiable R_Input 16 ∈ lw_tbl := by decide +kernel
theorem n_Store : ∀ a, a < 6 → ∀ b, b < 6 → a ≠ b → (F_Store a).2.1 ≠ (F_Store b).2.1 := by decide +kernel
theorem p_Store : ∀ k, k < 6 → parseFieldDescriptor (F_Store k).2.2.1 = some (t_Store k) := by decide +kernel
theorem i_Store : ∀ w ∈ u_ws R_Store F_Store 6, w ∈ lw_tbl := by decide +kernel
theorem k_Store : Cond.instantiable R_Store 6 ∈ lw_tbl := by decide +kernel
theorem n_DrawList : ∀ a, a < 3 → ∀ b, b < 3 → a ≠ b → (F_DrawList a).2.1 ≠ (F_DrawList b).2.1 := by decide +kernel
theorem p_DrawList : ∀ k, k < 3 → parseFieldDescriptor (F_DrawList k).2.2.1 = some (t_DrawList k) := by decide +kernel
theorem i_DrawList : ∀ w ∈ u_ws R_DrawList F_DrawList 3, w ∈ lw_tbl := by decide +kernel
theorem k_DrawList : Cond.instantiable R_DrawList 3 ∈ lw_tbl := by decide +kernel
theorem n_Layout : ∀ a, a < 11 → ∀ b, b < 11 → a ≠ b → (F_Layout a).2.1 ≠ (F_Layout b).2.1 := by decide +kernel
theorem p_Layout : ∀ k, k < 11 → parseFieldDescriptor (F_Layout k).2.2.1 = some (t_Layout k) := by decide +kernel
theorem i_Layout : ∀ w ∈ u_ws R_Layout F_Layout 11, w ∈ lw_tbl := by decide +kernel
theorem k_Layout : Cond.instantiable R_Layout 11 ∈ lw_tbl := by decide +kernel
theorem n_Scroll : ∀ a, a < 2 → ∀ b, b < 2 → a ≠ b → (F_Scroll a).2.1 ≠ (F_Scroll b).2.1 := by decide +kernel
theorem p_Scroll : ∀ k, k < 2 → parseFieldDescriptor (F_Scroll k).2.2.1 = some (t_Scroll k) := by decide +kernel
theorem i_Scroll : ∀ w ∈ u_ws R_Scroll F_Scroll 2, w ∈ lw_tbl := by decide +kernel
theorem k_Scroll : Cond.instantiable R_Scroll 2 ∈ lw_tbl := by decide +kernel
theorem n_Panel : ∀ a, a < 10 → ∀ b, b < 10 → a ≠ b → (F_Panel a).2.1 ≠ (F_Panel b).2.1 := by decide +kernel
theorem p_Panel : ∀ k, k < 10 → parseFieldDescriptor (F_Panel k).2.2.1 = some (t_Panel k) := by decide +kernel
theorem i_Panel : ∀ w ∈ u_ws R_Panel F_Panel 10, w ∈ lw_tbl := by decide +kernel
theorem k_Panel : Cond.instantiable R_Panel 10 ∈ lw_tbl := by decide +kernel
theorem n_Level : ∀ a, a < 6 → ∀ b, b < 6 → a ≠ b → (F_Level a).2.1 ≠ (F_Level b).2.1 := by decide +kernel
theorem p_Level : ∀ k, k < 6 → parseFieldDescriptor (F_Level k).2.2.1 = some (t_Level k) := by decide +kernel
theorem i_Level : ∀ w ∈ u_ws R_Level F_Level 6, w ∈ lw_tbl := by decide +kernel
theorem k_Level : Cond.instantiable R_Level 6 ∈ lw_tbl := by decide +kernel
theorem n_Att : ∀ a, a < 9 → ∀ b, b < 9 → a ≠ b → (F_Att a).2.1 ≠ (F_Att b).2.1 := by decide +kernel
theorem p_Att : ∀ k, k < 9 → parseFieldDescriptor (F_Att k).2.2.1 = some (t_Att k) := by decide +kernel
theorem i_Att : ∀ w ∈ u_ws R_Att F_Att 9, w ∈ lw_tbl := by decide +kernel
theorem k_Att : Cond.instantiable R_Att 9 ∈ lw_tbl := by decide +kernel
theorem n_PF : ∀ a, a < 25 → ∀ b, b < 25 → a ≠ b → (F_PF a).2.1 ≠ (F_PF b).2.1 := by decide +kernel
theorem p_PF : ∀ k, k < 25 → parseFieldDescriptor (F_PF k).2.2.1 = some (t_PF k) := by decide +kernel
theorem i_PF : ∀ w ∈ u_ws R_PF F_PF 25, w ∈ lw_tbl := by decide +kernel
theorem k_PF : Cond.instantiable R_PF 25 ∈ lw_tbl := by decide +kernel
theorem n_Mo : ∀ a, a < 88 → ∀ b, b < 88 → a ≠ b → (F_Mo a).2.1 ≠ (F_Mo b).2.1 := by decide +kernel
theorem p_Mo : ∀ k, k < 88 → parseFieldDescriptor (F_Mo k).2.2.1 = some (t_Mo k) := by decide +kernel
theorem i_Mo : ∀ w ∈ u_ws R_Mo F_Mo 88, w ∈ lw_tbl := by decide +kernel
theorem k_Mo : Cond.instantiable R_Mo 88 ∈ lw_tbl := by decide +kernel
theorem c_nm : ∀ c, c < 12 → ∀ a, a < cN c → ∀ b, b < cN c → a ≠ b → (cF c a).2.1 ≠ (cF c b).2.1 := by
  intro c hc
  match c, hc with
  | 0, _ => exact n_Row
  | 1, _ => exact n_Rect
  | 2, _ => exact n_Input
  | 3, _ => exact n_Store
  | 4, _ => exact n_DrawList
  | 5, _ => exact n_Layout
  | 6, _ => exact n_Scroll
  | 7, _ => exact n_Panel
  | 8, _ => exact n_Level
  | 9, _ => exact n_Att
  | 10, _ => exact n_PF
  | 11, _ => exact n_Mo
  | c + 12, hc => exact absurd hc (by omega)
theorem c_ty : ∀ c, c < 12 → ∀ k, k < cN c → parseFieldDescriptor (cF c k).2.2.1 = some (cT c k) := by
  intro c hc
  match c, hc with
  | 0, _ => exact p_Row
  | 1, _ => exact p_Rect
  | 2, _ => exact p_Input
  | 3, _ => exact p_Store
  | 4, _ => exact p_DrawList
  | 5, _ => exact p_Layout
  | 6, _ => exact p_Scroll
  | 7, _ => exact p_Panel
  | 8, _ => exact p_Level
  | 9, _ => exact p_Att
  | 10, _ => exact p_PF
  | 11, _ => exact p_Mo
  | c + 12, hc => exact absurd hc (by omega)
theorem c_in : ∀ c, c < 12 → ∀ w ∈ u_ws (cR c) (cF c) (cN c), w ∈ lw_tbl := by
  intro c hc
  match c, hc with
  | 0, _ => exact i_Row
  | 1, _ => exact i_Rect
  | 2, _ => exact i_Input
  | 3, _ => exact i_Store
  | 4, _ => exact i_DrawList
  | 5, _ => exact i_Layout
  | 6, _ => exact i_Scroll
  | 7, _ => exact i_Panel
  | 8, _ => exact i_Level
  | 9, _ => exact i_Att
  | 10, _ => exact i_PF
  | 11, _ => exact i_Mo
  | c + 12, hc => exact absurd hc (by omega)
theorem c_inst : ∀ c, c < 12 → Cond.instantiable (cR c) (cN c) ∈ lw_tbl := by
  intro c hc
  match c, hc with
  | 0, _ => exact k_Row
  | 1, _ => exact k_Rect
  | 2, _ => exact k_Input
  | 3, _ => exact k_Store
  | 4, _ => exact k_DrawList
  | 5, _ => exact k_Layout
  | 6, _ => exact k_Scroll
  | 7, _ => exact k_Panel
  | 8, _ => exact k_Level
  | 9, _ => exact k_Att
  | 10, _ => exact k_PF
  | 11, _ => exact k_Mo
  | c + 12, hc => exact absurd hc (by omega)
theorem c_own : ∀ c, c < 12 → ∀ k, (cF c k).1 = cR c := by
  intro c hc
  match c, hc with
  | 0, _ => intro k; show (F_Row k).1 = R_Row; unfold F_Row; split <;> rfl
  | 1, _ => intro k; show (F_Rect k).1 = R_Rect; unfold F_Rect; split <;> rfl
  | 2, _ => intro k; show (F_Input k).1 = R_Input; unfold F_Input; split <;> rfl
  | 3, _ => intro k; show (F_Store k).1 = R_Store; unfold F_Store; split <;> rfl
  | 4, _ => intro k; show (F_DrawList k).1 = R_DrawList; unfold F_DrawList; split <;> rfl
  | 5, _ => intro k; show (F_Layout k).1 = R_Layout; unfold F_Layout; split <;> rfl
  | 6, _ => intro k; show (F_Scroll k).1 = R_Scroll; unfold F_Scroll; split <;> rfl
  | 7, _ => intro k; show (F_Panel k).1 = R_Panel; unfold F_Panel; split <;> rfl
  | 8, _ => intro k; show (F_Level k).1 = R_Level; unfold F_Level; split <;> rfl
  | 9, _ => intro k; show (F_Att k).1 = R_Att; unfold F_Att; split <;> rfl
  | 10, _ => intro k; show (F_PF k).1 = R_PF; unfold F_PF; split <;> rfl
  | 11, _ => intro k; show (F_Mo k).1 = R_Mo; unfold F_Mo; split <;> rfl
  | c + 12, hc => exact absurd hc (by omega)
