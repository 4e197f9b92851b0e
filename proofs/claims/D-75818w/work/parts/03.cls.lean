/-! the classes whose objects occur: number, name, fields (by program) -/
set_option maxRecDepth 100000
def gT_0 : u_T := fun k => match k with
  | 0 => ("CircuitDesk", "now", "LCircuitDesk$Net;", false)
  | 1 => ("CircuitDesk", "draft", "LCircuitDesk$Way;", false)
  | 2 => ("CircuitDesk", "saved", "[LCircuitDesk$Net;", true)
  | 3 => ("CircuitDesk", "text", "[B", true)
  | 4 => ("CircuitDesk", "textLength", "I", false)
  | 5 => ("CircuitDesk", "errorCode", "I", false)
  | _ => ("CircuitDesk", "errorPosition", "I", false)
def gty_0 : Nat → FieldType := fun k => match k with
  | 0 => (.object "CircuitDesk$Net")
  | 1 => (.object "CircuitDesk$Way")
  | 2 => (.array (.object "CircuitDesk$Net"))
  | 3 => (.array .byte)
  | 4 => .int
  | 5 => .int
  | _ => .int
theorem gin_0 : ∀ w ∈ u_ws "CircuitDesk" gT_0 7, w ∈ lw_all := lw_in (u_ws "CircuitDesk" gT_0 7) [650, 652, 654, 656, 658, 660, 662] (by decide +kernel) (by decide +kernel)
theorem gnm_0 : ∀ a, a < 7 → ∀ b, b < 7 → a ≠ b → (gT_0 a).2.1 ≠ (gT_0 b).2.1 := by decide +kernel
theorem gto_0 : ∀ k, k < 7 → parseFieldDescriptor (gT_0 k).2.2.1 = some (gty_0 k) := by decide +kernel
def gT_1 : u_T := fun k => match k with
  | 0 => ("CircuitDesk$Net", "settings", "[I", false)
  | 1 => ("CircuitDesk$Net", "nodes", "Ljava/util/ArrayList;", true)
  | 2 => ("CircuitDesk$Net", "links", "Ljava/util/ArrayList;", true)
  | 3 => ("CircuitDesk$Net", "circuits", "Ljava/util/ArrayList;", true)
  | 4 => ("CircuitDesk$Net", "packets", "Ljava/util/ArrayList;", true)
  | 5 => ("CircuitDesk$Net", "phases", "[LCircuitDesk$Phase;", true)
  | 6 => ("CircuitDesk$Net", "time", "I", false)
  | 7 => ("CircuitDesk$Net", "sent", "I", false)
  | 8 => ("CircuitDesk$Net", "delivered", "I", false)
  | 9 => ("CircuitDesk$Net", "lost", "I", false)
  | 10 => ("CircuitDesk$Net", "dropped", "I", false)
  | 11 => ("CircuitDesk$Net", "late", "I", false)
  | 12 => ("CircuitDesk$Net", "completed", "I", false)
  | _ => ("CircuitDesk$Net", "aborted", "I", false)
def gty_1 : Nat → FieldType := fun k => match k with
  | 0 => (.array .int)
  | 1 => (.object "java/util/ArrayList")
  | 2 => (.object "java/util/ArrayList")
  | 3 => (.object "java/util/ArrayList")
  | 4 => (.object "java/util/ArrayList")
  | 5 => (.array (.object "CircuitDesk$Phase"))
  | 6 => .int
  | 7 => .int
  | 8 => .int
  | 9 => .int
  | 10 => .int
  | 11 => .int
  | 12 => .int
  | _ => .int
theorem gin_1 : ∀ w ∈ u_ws "CircuitDesk$Net" gT_1 14, w ∈ lw_all := lw_in (u_ws "CircuitDesk$Net" gT_1 14) [581, 583, 585, 587, 589, 591, 593, 595, 597, 599, 601, 603, 605, 607] (by decide +kernel) (by decide +kernel)
theorem gnm_1 : ∀ a, a < 14 → ∀ b, b < 14 → a ≠ b → (gT_1 a).2.1 ≠ (gT_1 b).2.1 := by decide +kernel
theorem gto_1 : ∀ k, k < 14 → parseFieldDescriptor (gT_1 k).2.2.1 = some (gty_1 k) := by decide +kernel
def gT_2 : u_T := fun _ => ("", "", "", false)
def gty_2 : Nat → FieldType := fun _ => .int
theorem gin_2 : ∀ w ∈ u_ws "CircuitDesk$Resting" gT_2 0, w ∈ lw_all := fun w h => by simp [u_ws] at h
theorem gnm_2 : ∀ a, a < 0 → ∀ b, b < 0 → a ≠ b → (gT_2 a).2.1 ≠ (gT_2 b).2.1 := fun a h => absurd h (Nat.not_lt_zero a)
theorem gto_2 : ∀ k, k < 0 → parseFieldDescriptor (gT_2 k).2.2.1 = some (gty_2 k) := fun a h => absurd h (Nat.not_lt_zero a)
def gT_3 : u_T := fun _ => ("", "", "", false)
def gty_3 : Nat → FieldType := fun _ => .int
theorem gin_3 : ∀ w ∈ u_ws "CircuitDesk$Building" gT_3 0, w ∈ lw_all := fun w h => by simp [u_ws] at h
theorem gnm_3 : ∀ a, a < 0 → ∀ b, b < 0 → a ≠ b → (gT_3 a).2.1 ≠ (gT_3 b).2.1 := fun a h => absurd h (Nat.not_lt_zero a)
theorem gto_3 : ∀ k, k < 0 → parseFieldDescriptor (gT_3 k).2.2.1 = some (gty_3 k) := fun a h => absurd h (Nat.not_lt_zero a)
def gT_4 : u_T := fun _ => ("", "", "", false)
def gty_4 : Nat → FieldType := fun _ => .int
theorem gin_4 : ∀ w ∈ u_ws "CircuitDesk$Draining" gT_4 0, w ∈ lw_all := fun w h => by simp [u_ws] at h
theorem gnm_4 : ∀ a, a < 0 → ∀ b, b < 0 → a ≠ b → (gT_4 a).2.1 ≠ (gT_4 b).2.1 := fun a h => absurd h (Nat.not_lt_zero a)
theorem gto_4 : ∀ k, k < 0 → parseFieldDescriptor (gT_4 k).2.2.1 = some (gty_4 k) := fun a h => absurd h (Nat.not_lt_zero a)
def gT_5 : u_T := fun _ => ("", "", "", false)
def gty_5 : Nat → FieldType := fun _ => .int
theorem gin_5 : ∀ w ∈ u_ws "CircuitDesk$Clearing" gT_5 0, w ∈ lw_all := fun w h => by simp [u_ws] at h
theorem gnm_5 : ∀ a, a < 0 → ∀ b, b < 0 → a ≠ b → (gT_5 a).2.1 ≠ (gT_5 b).2.1 := fun a h => absurd h (Nat.not_lt_zero a)
theorem gto_5 : ∀ k, k < 0 → parseFieldDescriptor (gT_5 k).2.2.1 = some (gty_5 k) := fun a h => absurd h (Nat.not_lt_zero a)
def gT_6 : u_T := fun k => match k with
  | 0 => ("CircuitDesk$Way", "nodes", "[I", false)
  | 1 => ("CircuitDesk$Way", "spaces", "[I", false)
  | 2 => ("CircuitDesk$Way", "labels", "[I", false)
  | _ => ("CircuitDesk$Way", "size", "I", false)
def gty_6 : Nat → FieldType := fun k => match k with
  | 0 => (.array .int)
  | 1 => (.array .int)
  | 2 => (.array .int)
  | _ => .int
theorem gin_6 : ∀ w ∈ u_ws "CircuitDesk$Way" gT_6 4, w ∈ lw_all := lw_in (u_ws "CircuitDesk$Way" gT_6 4) [632, 634, 636, 638] (by decide +kernel) (by decide +kernel)
theorem gnm_6 : ∀ a, a < 4 → ∀ b, b < 4 → a ≠ b → (gT_6 a).2.1 ≠ (gT_6 b).2.1 := by decide +kernel
theorem gto_6 : ∀ k, k < 4 → parseFieldDescriptor (gT_6 k).2.2.1 = some (gty_6 k) := by decide +kernel
def gT_7 : u_T := fun k => match k with
  | 0 => ("CircuitDeskModel", "state", "[I", true)
  | 1 => ("CircuitDeskModel", "backup", "[I", true)
  | 2 => ("CircuitDeskModel", "aside", "[I", true)
  | 3 => ("CircuitDeskModel", "saved", "[I", true)
  | 4 => ("CircuitDeskModel", "isSaved", "[Z", true)
  | 5 => ("CircuitDeskModel", "draftRow", "[I", true)
  | 6 => ("CircuitDeskModel", "draftLength", "I", false)
  | 7 => ("CircuitDeskModel", "thrown", "I", false)
  | 8 => ("CircuitDeskModel", "text", "[I", true)
  | 9 => ("CircuitDeskModel", "textLength", "I", false)
  | 10 => ("CircuitDeskModel", "position", "I", false)
  | 11 => ("CircuitDeskModel", "tokenStart", "I", false)
  | 12 => ("CircuitDeskModel", "token", "I", false)
  | 13 => ("CircuitDeskModel", "letters", "I", false)
  | 14 => ("CircuitDeskModel", "number", "I", false)
  | 15 => ("CircuitDeskModel", "errorCode", "I", false)
  | 16 => ("CircuitDeskModel", "errorPosition", "I", false)
  | 17 => ("CircuitDeskModel", "word", "J", false)
  | 18 => ("CircuitDeskModel", "holder", "I", false)
  | 19 => ("CircuitDeskModel", "holderWay", "I", false)
  | 20 => ("CircuitDeskModel", "holderIndex", "I", false)
  | 21 => ("CircuitDeskModel", "tried", "[I", true)
  | 22 => ("CircuitDeskModel", "best", "[I", true)
  | 23 => ("CircuitDeskModel", "isRoomy", "[Z", true)
  | 24 => ("CircuitDeskModel", "triedLength", "I", false)
  | 25 => ("CircuitDeskModel", "triedDelay", "I", false)
  | 26 => ("CircuitDeskModel", "bestLength", "I", false)
  | 27 => ("CircuitDeskModel", "bestDelay", "I", false)
  | _ => ("CircuitDeskModel", "keptDraft", "[I", true)
def gty_7 : Nat → FieldType := fun k => match k with
  | 0 => (.array .int)
  | 1 => (.array .int)
  | 2 => (.array .int)
  | 3 => (.array .int)
  | 4 => (.array .boolean)
  | 5 => (.array .int)
  | 6 => .int
  | 7 => .int
  | 8 => (.array .int)
  | 9 => .int
  | 10 => .int
  | 11 => .int
  | 12 => .int
  | 13 => .int
  | 14 => .int
  | 15 => .int
  | 16 => .int
  | 17 => .long
  | 18 => .int
  | 19 => .int
  | 20 => .int
  | 21 => (.array .int)
  | 22 => (.array .int)
  | 23 => (.array .boolean)
  | 24 => .int
  | 25 => .int
  | 26 => .int
  | 27 => .int
  | _ => (.array .int)
theorem gin_7 : ∀ w ∈ u_ws "CircuitDeskModel" gT_7 29, w ∈ lw_all := lw_in (u_ws "CircuitDeskModel" gT_7 29) [1994, 1996, 1998, 2000, 2002, 2004, 2006, 2008, 2010, 2012, 2014, 2016, 2018, 2020, 2022, 2024, 2026, 2028, 2030, 2032, 2034, 2036, 2038, 2040, 2042, 2044, 2046, 2048, 2050] (by decide +kernel) (by decide +kernel)
theorem gnm_7 : ∀ a, a < 29 → ∀ b, b < 29 → a ≠ b → (gT_7 a).2.1 ≠ (gT_7 b).2.1 := by decide +kernel
theorem gto_7 : ∀ k, k < 29 → parseFieldDescriptor (gT_7 k).2.2.1 = some (gty_7 k) := by decide +kernel
def gT_8 : u_T := fun k => match k with
  | 0 => ("CircuitDesk$Parser", "length", "I", true)
  | 1 => ("CircuitDesk$Parser", "made", "LCircuitDesk$Net;", true)
  | 2 => ("CircuitDesk$Parser", "next", "I", false)
  | 3 => ("CircuitDesk$Parser", "begin", "I", false)
  | 4 => ("CircuitDesk$Parser", "isNumber", "Z", false)
  | 5 => ("CircuitDesk$Parser", "number", "I", false)
  | 6 => ("CircuitDesk$Parser", "token", "Ljava/lang/String;", false)
  | _ => ("CircuitDesk$Parser", "this$0", "LCircuitDesk;", true)
def gty_8 : Nat → FieldType := fun k => match k with
  | 0 => .int
  | 1 => (.object "CircuitDesk$Net")
  | 2 => .int
  | 3 => .int
  | 4 => .boolean
  | 5 => .int
  | 6 => (.object "java/lang/String")
  | _ => (.object "CircuitDesk")
theorem gin_8 : ∀ w ∈ u_ws "CircuitDesk$Parser" gT_8 8, w ∈ lw_all := lw_in (u_ws "CircuitDesk$Parser" gT_8 8) [865, 867, 869, 871, 873, 875, 877, 879] (by decide +kernel) (by decide +kernel)
theorem gnm_8 : ∀ a, a < 8 → ∀ b, b < 8 → a ≠ b → (gT_8 a).2.1 ≠ (gT_8 b).2.1 := by decide +kernel
theorem gto_8 : ∀ k, k < 8 → parseFieldDescriptor (gT_8 k).2.2.1 = some (gty_8 k) := by decide +kernel
def gT_9 : u_T := fun k => match k with
  | 0 => ("java/lang/Throwable", "cause", "Ljava/lang/Throwable;", false)
  | 1 => ("java/lang/Throwable", "stackTrace", "[Ljava/lang/StackTraceElement;", false)
  | 2 => ("java/lang/Throwable", "suppressedExceptions", "Ljava/util/List;", false)
  | 3 => ("java/lang/Throwable", "detailMessage", "Ljava/lang/String;", false)
  | 4 => ("java/lang/Throwable", "backtrace", "Ljava/lang/Object;", false)
  | 5 => ("java/lang/Throwable", "depth", "I", false)
  | 6 => ("CircuitDesk$TextError", "code", "I", true)
  | _ => ("CircuitDesk$TextError", "position", "I", true)
def gty_9 : Nat → FieldType := fun k => match k with
  | 0 => (.object "java/lang/Throwable")
  | 1 => (.array (.object "java/lang/StackTraceElement"))
  | 2 => (.object "java/util/List")
  | 3 => (.object "java/lang/String")
  | 4 => (.object "java/lang/Object")
  | 5 => .int
  | 6 => .int
  | _ => .int
theorem gin_9 : ∀ w ∈ u_ws "CircuitDesk$TextError" gT_9 8, w ∈ lw_all := lw_in (u_ws "CircuitDesk$TextError" gT_9 8) [972, 973, 974, 975, 976, 994, 990, 992] (by decide +kernel) (by decide +kernel)
theorem gnm_9 : ∀ a, a < 8 → ∀ b, b < 8 → a ≠ b → (gT_9 a).2.1 ≠ (gT_9 b).2.1 := by decide +kernel
theorem gto_9 : ∀ k, k < 8 → parseFieldDescriptor (gT_9 k).2.2.1 = some (gty_9 k) := by decide +kernel
def gT_10 : u_T := fun k => match k with
  | 0 => ("CircuitDesk$Node", "space", "I", true)
  | 1 => ("CircuitDesk$Node", "holder", "[I", false)
  | 2 => ("CircuitDesk$Node", "circuit", "[I", false)
  | 3 => ("CircuitDesk$Node", "isNew", "[Z", false)
  | _ => ("CircuitDesk$Node", "isMade", "[Z", false)
def gty_10 : Nat → FieldType := fun k => match k with
  | 0 => .int
  | 1 => (.array .int)
  | 2 => (.array .int)
  | 3 => (.array .boolean)
  | _ => (.array .boolean)
theorem gin_10 : ∀ w ∈ u_ws "CircuitDesk$Node" gT_10 5, w ∈ lw_all := lw_in (u_ws "CircuitDesk$Node" gT_10 5) [1025, 1027, 1029, 1031, 1033] (by decide +kernel) (by decide +kernel)
theorem gnm_10 : ∀ a, a < 5 → ∀ b, b < 5 → a ≠ b → (gT_10 a).2.1 ≠ (gT_10 b).2.1 := by decide +kernel
theorem gto_10 : ∀ k, k < 5 → parseFieldDescriptor (gT_10 k).2.2.1 = some (gty_10 k) := by decide +kernel
def gT_11 : u_T := fun k => match k with
  | 0 => ("CircuitDesk$Link", "one", "I", true)
  | 1 => ("CircuitDesk$Link", "other", "I", true)
  | 2 => ("CircuitDesk$Link", "capacity", "I", true)
  | 3 => ("CircuitDesk$Link", "delay", "I", true)
  | _ => ("CircuitDesk$Link", "isUp", "Z", false)
def gty_11 : Nat → FieldType := fun k => match k with
  | 0 => .int
  | 1 => .int
  | 2 => .int
  | 3 => .int
  | _ => .boolean
theorem gin_11 : ∀ w ∈ u_ws "CircuitDesk$Link" gT_11 5, w ∈ lw_all := lw_in (u_ws "CircuitDesk$Link" gT_11 5) [1123, 1125, 1127, 1129, 1131] (by decide +kernel) (by decide +kernel)
theorem gnm_11 : ∀ a, a < 5 → ∀ b, b < 5 → a ≠ b → (gT_11 a).2.1 ≠ (gT_11 b).2.1 := by decide +kernel
theorem gto_11 : ∀ k, k < 5 → parseFieldDescriptor (gT_11 k).2.2.1 = some (gty_11 k) := by decide +kernel
def gT_12 : u_T := fun k => match k with
  | 0 => ("CircuitDesk$Circuit", "band", "I", true)
  | 1 => ("CircuitDesk$Circuit", "period", "I", true)
  | 2 => ("CircuitDesk$Circuit", "way", "LCircuitDesk$Way;", false)
  | 3 => ("CircuitDesk$Circuit", "next", "LCircuitDesk$Way;", false)
  | 4 => ("CircuitDesk$Circuit", "phase", "I", false)
  | 5 => ("CircuitDesk$Circuit", "done", "I", false)
  | 6 => ("CircuitDesk$Circuit", "left", "I", false)
  | 7 => ("CircuitDesk$Circuit", "held", "I", false)
  | 8 => ("CircuitDesk$Circuit", "backlog", "I", false)
  | 9 => ("CircuitDesk$Circuit", "sent", "I", false)
  | 10 => ("CircuitDesk$Circuit", "delivered", "I", false)
  | 11 => ("CircuitDesk$Circuit", "lost", "I", false)
  | 12 => ("CircuitDesk$Circuit", "late", "I", false)
  | 13 => ("CircuitDesk$Circuit", "latest", "I", false)
  | _ => ("CircuitDesk$Circuit", "ticks", "I", false)
def gty_12 : Nat → FieldType := fun k => match k with
  | 0 => .int
  | 1 => .int
  | 2 => (.object "CircuitDesk$Way")
  | 3 => (.object "CircuitDesk$Way")
  | 4 => .int
  | 5 => .int
  | 6 => .int
  | 7 => .int
  | 8 => .int
  | 9 => .int
  | 10 => .int
  | 11 => .int
  | 12 => .int
  | 13 => .int
  | _ => .int
theorem gin_12 : ∀ w ∈ u_ws "CircuitDesk$Circuit" gT_12 15, w ∈ lw_all := lw_in (u_ws "CircuitDesk$Circuit" gT_12 15) [1203, 1205, 1207, 1209, 1211, 1213, 1215, 1217, 1219, 1221, 1223, 1225, 1227, 1229, 1231] (by decide +kernel) (by decide +kernel)
theorem gnm_12 : ∀ a, a < 15 → ∀ b, b < 15 → a ≠ b → (gT_12 a).2.1 ≠ (gT_12 b).2.1 := by decide +kernel
theorem gto_12 : ∀ k, k < 15 → parseFieldDescriptor (gT_12 k).2.2.1 = some (gty_12 k) := by decide +kernel
def gT_13 : u_T := fun k => match k with
  | 0 => ("CircuitDesk$Search", "net", "LCircuitDesk$Net;", true)
  | 1 => ("CircuitDesk$Search", "to", "I", true)
  | 2 => ("CircuitDesk$Search", "isFree", "[Z", true)
  | 3 => ("CircuitDesk$Search", "best", "LCircuitDesk$Way;", false)
  | _ => ("CircuitDesk$Search", "least", "I", false)
def gty_13 : Nat → FieldType := fun k => match k with
  | 0 => (.object "CircuitDesk$Net")
  | 1 => .int
  | 2 => (.array .boolean)
  | 3 => (.object "CircuitDesk$Way")
  | _ => .int
theorem gin_13 : ∀ w ∈ u_ws "CircuitDesk$Search" gT_13 5, w ∈ lw_all := lw_in (u_ws "CircuitDesk$Search" gT_13 5) [748, 750, 752, 754, 756] (by decide +kernel) (by decide +kernel)
theorem gnm_13 : ∀ a, a < 5 → ∀ b, b < 5 → a ≠ b → (gT_13 a).2.1 ≠ (gT_13 b).2.1 := by decide +kernel
theorem gto_13 : ∀ k, k < 5 → parseFieldDescriptor (gT_13 k).2.2.1 = some (gty_13 k) := by decide +kernel
def gT_14 : u_T := fun k => match k with
  | 0 => ("CircuitDesk$Packet", "circuit", "I", false)
  | 1 => ("CircuitDesk$Packet", "number", "I", true)
  | 2 => ("CircuitDesk$Packet", "begun", "I", true)
  | 3 => ("CircuitDesk$Packet", "link", "I", false)
  | 4 => ("CircuitDesk$Packet", "to", "I", false)
  | 5 => ("CircuitDesk$Packet", "space", "I", false)
  | 6 => ("CircuitDesk$Packet", "label", "I", false)
  | _ => ("CircuitDesk$Packet", "left", "I", false)
def gty_14 : Nat → FieldType := fun k => match k with
  | 0 => .int
  | 1 => .int
  | 2 => .int
  | 3 => .int
  | 4 => .int
  | 5 => .int
  | 6 => .int
  | _ => .int
theorem gin_14 : ∀ w ∈ u_ws "CircuitDesk$Packet" gT_14 8, w ∈ lw_all := lw_in (u_ws "CircuitDesk$Packet" gT_14 8) [1826, 1828, 1830, 1832, 1834, 1836, 1838, 1840] (by decide +kernel) (by decide +kernel)
theorem gnm_14 : ∀ a, a < 8 → ∀ b, b < 8 → a ≠ b → (gT_14 a).2.1 ≠ (gT_14 b).2.1 := by decide +kernel
theorem gto_14 : ∀ k, k < 8 → parseFieldDescriptor (gT_14 k).2.2.1 = some (gty_14 k) := by decide +kernel
def gT_15 : u_T := fun k => match k with
  | 0 => ("java/util/AbstractList", "modCount", "I", false)
  | 1 => ("java/util/ArrayList", "elementData", "[Ljava/lang/Object;", false)
  | _ => ("java/util/ArrayList", "size", "I", false)
def gty_15 : Nat → FieldType := fun k => match k with
  | 0 => .int
  | 1 => (.array (.object "java/lang/Object"))
  | _ => .int
theorem gin_15 : ∀ w ∈ u_ws "java/util/ArrayList" gT_15 3, w ∈ lw_all := lw_in (u_ws "java/util/ArrayList" gT_15 3) [507, 503, 505] (by decide +kernel) (by decide +kernel)
theorem gnm_15 : ∀ a, a < 3 → ∀ b, b < 3 → a ≠ b → (gT_15 a).2.1 ≠ (gT_15 b).2.1 := by decide +kernel
theorem gto_15 : ∀ k, k < 3 → parseFieldDescriptor (gT_15 k).2.2.1 = some (gty_15 k) := by decide +kernel
def gT_16 : u_T := fun k => match k with
  | 0 => ("java/util/ArrayList$Itr", "cursor", "I", false)
  | 1 => ("java/util/ArrayList$Itr", "lastRet", "I", false)
  | 2 => ("java/util/ArrayList$Itr", "expectedModCount", "I", false)
  | _ => ("java/util/ArrayList$Itr", "this$0", "Ljava/util/ArrayList;", true)
def gty_16 : Nat → FieldType := fun k => match k with
  | 0 => .int
  | 1 => .int
  | 2 => .int
  | _ => (.object "java/util/ArrayList")
theorem gin_16 : ∀ w ∈ u_ws "java/util/ArrayList$Itr" gT_16 4, w ∈ lw_all := lw_in (u_ws "java/util/ArrayList$Itr" gT_16 4) [1473, 1475, 1477, 1479] (by decide +kernel) (by decide +kernel)
theorem gnm_16 : ∀ a, a < 4 → ∀ b, b < 4 → a ≠ b → (gT_16 a).2.1 ≠ (gT_16 b).2.1 := by decide +kernel
theorem gto_16 : ∀ k, k < 4 → parseFieldDescriptor (gT_16 k).2.2.1 = some (gty_16 k) := by decide +kernel
def gT_17 : u_T := fun k => match k with
  | 0 => ("java/lang/AbstractStringBuilder", "value", "[B", false)
  | 1 => ("java/lang/AbstractStringBuilder", "coder", "B", false)
  | 2 => ("java/lang/AbstractStringBuilder", "maybeLatin1", "Z", false)
  | _ => ("java/lang/AbstractStringBuilder", "count", "I", false)
def gty_17 : Nat → FieldType := fun k => match k with
  | 0 => (.array .byte)
  | 1 => .byte
  | 2 => .boolean
  | _ => .int
theorem gin_17 : ∀ w ∈ u_ws "java/lang/StringBuilder" gT_17 4, w ∈ lw_all := lw_in (u_ws "java/lang/StringBuilder" gT_17 4) [243, 245, 247, 249] (by decide +kernel) (by decide +kernel)
theorem gnm_17 : ∀ a, a < 4 → ∀ b, b < 4 → a ≠ b → (gT_17 a).2.1 ≠ (gT_17 b).2.1 := by decide +kernel
theorem gto_17 : ∀ k, k < 4 → parseFieldDescriptor (gT_17 k).2.2.1 = some (gty_17 k) := by decide +kernel
def gT_18 : u_T := fun k => match k with
  | 0 => ("java/lang/String", "value", "[B", true)
  | 1 => ("java/lang/String", "coder", "B", true)
  | 2 => ("java/lang/String", "hash", "I", false)
  | _ => ("java/lang/String", "hashIsZero", "Z", false)
def gty_18 : Nat → FieldType := fun k => match k with
  | 0 => (.array .byte)
  | 1 => .byte
  | 2 => .int
  | _ => .boolean
theorem gin_18 : ∀ w ∈ u_ws "java/lang/String" gT_18 4, w ∈ lw_all := lw_in (u_ws "java/lang/String" gT_18 4) [485, 487, 489, 491] (by decide +kernel) (by decide +kernel)
theorem gnm_18 : ∀ a, a < 4 → ∀ b, b < 4 → a ≠ b → (gT_18 a).2.1 ≠ (gT_18 b).2.1 := by decide +kernel
theorem gto_18 : ∀ k, k < 4 → parseFieldDescriptor (gT_18 k).2.2.1 = some (gty_18 k) := by decide +kernel
def gCL : List vw_C := [("CircuitDesk", gT_0, 7), ("CircuitDesk$Net", gT_1, 14), ("CircuitDesk$Resting", gT_2, 0), ("CircuitDesk$Building", gT_3, 0), ("CircuitDesk$Draining", gT_4, 0), ("CircuitDesk$Clearing", gT_5, 0), ("CircuitDesk$Way", gT_6, 4), ("CircuitDeskModel", gT_7, 29), ("CircuitDesk$Parser", gT_8, 8), ("CircuitDesk$TextError", gT_9, 8), ("CircuitDesk$Node", gT_10, 5), ("CircuitDesk$Link", gT_11, 5), ("CircuitDesk$Circuit", gT_12, 15), ("CircuitDesk$Search", gT_13, 5), ("CircuitDesk$Packet", gT_14, 8), ("java/util/ArrayList", gT_15, 3), ("java/util/ArrayList$Itr", gT_16, 4), ("java/lang/StringBuilder", gT_17, 4), ("java/lang/String", gT_18, 4)]
def gty (ci : Nat) : Nat → FieldType := match ci with
  | 0 => gty_0
  | 1 => gty_1
  | 2 => gty_2
  | 3 => gty_3
  | 4 => gty_4
  | 5 => gty_5
  | 6 => gty_6
  | 7 => gty_7
  | 8 => gty_8
  | 9 => gty_9
  | 10 => gty_10
  | 11 => gty_11
  | 12 => gty_12
  | 13 => gty_13
  | 14 => gty_14
  | 15 => gty_15
  | 16 => gty_16
  | 17 => gty_17
  | _ => gty_18
theorem gCL_ok : ∀ (ci : Nat) (q : vw_C), gCL[ci]? = some q → (∀ w ∈ u_ws q.1 q.2.1 q.2.2, w ∈ lw_all) ∧ (∀ k, k < q.2.2 → parseFieldDescriptor (q.2.1 k).2.2.1 = some (gty ci k)) ∧ (∀ a, a < q.2.2 → ∀ b, b < q.2.2 → a ≠ b → (q.2.1 a).2.1 ≠ (q.2.1 b).2.1) := by
  intro ci q hq
  match ci, hq with
  | 0, hq => cases hq; exact ⟨gin_0, gto_0, gnm_0⟩
  | 1, hq => cases hq; exact ⟨gin_1, gto_1, gnm_1⟩
  | 2, hq => cases hq; exact ⟨gin_2, gto_2, gnm_2⟩
  | 3, hq => cases hq; exact ⟨gin_3, gto_3, gnm_3⟩
  | 4, hq => cases hq; exact ⟨gin_4, gto_4, gnm_4⟩
  | 5, hq => cases hq; exact ⟨gin_5, gto_5, gnm_5⟩
  | 6, hq => cases hq; exact ⟨gin_6, gto_6, gnm_6⟩
  | 7, hq => cases hq; exact ⟨gin_7, gto_7, gnm_7⟩
  | 8, hq => cases hq; exact ⟨gin_8, gto_8, gnm_8⟩
  | 9, hq => cases hq; exact ⟨gin_9, gto_9, gnm_9⟩
  | 10, hq => cases hq; exact ⟨gin_10, gto_10, gnm_10⟩
  | 11, hq => cases hq; exact ⟨gin_11, gto_11, gnm_11⟩
  | 12, hq => cases hq; exact ⟨gin_12, gto_12, gnm_12⟩
  | 13, hq => cases hq; exact ⟨gin_13, gto_13, gnm_13⟩
  | 14, hq => cases hq; exact ⟨gin_14, gto_14, gnm_14⟩
  | 15, hq => cases hq; exact ⟨gin_15, gto_15, gnm_15⟩
  | 16, hq => cases hq; exact ⟨gin_16, gto_16, gnm_16⟩
  | 17, hq => cases hq; exact ⟨gin_17, gto_17, gnm_17⟩
  | 18, hq => cases hq; exact ⟨gin_18, gto_18, gnm_18⟩
  | k + 19, hq => simp [gCL] at hq
