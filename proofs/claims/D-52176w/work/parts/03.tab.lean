/-! THE CLAIM's TABLES for layer Z: classes, arrays, statics, literals, mirrors (printed by genbase.py) -/
set_option maxRecDepth 100000
def zR_0 : String := "DebateHall"
def zT_0 : u_T := fun k => match k with
  | 0 => ("DebateHall", "tape", "LDebateHall$Tape;", true)
  | 1 => ("DebateHall", "errorAt", "I", false)
  | 2 => ("DebateHall", "record", "LDebateHall$Minutes;", false)
  | _ => ("DebateHall", "paper", "Ljava/lang/StringBuilder;", true)
def zty_0 : Nat → FieldType := fun k => match k with
  | 0 => (.object "DebateHall$Tape")
  | 1 => .int
  | 2 => (.object "DebateHall$Minutes")
  | _ => (.object "java/lang/StringBuilder")
theorem znm_0 : ∀ a, a < 4 → ∀ b, b < 4 → a ≠ b → (zT_0 a).2.1 ≠ (zT_0 b).2.1 := by decide +kernel
theorem ztk_0 : ∀ k, k < 4 → parseFieldDescriptor (zT_0 k).2.2.1 = some (zty_0 k) := by decide +kernel
theorem zin_0 : ∀ w ∈ u_ws zR_0 zT_0 4, w ∈ lw_all := lw_in (u_ws zR_0 zT_0 4) [307, 309, 311, 313] (by decide +kernel) (by decide +kernel)
def zR_1 : String := "DebateHall$Tape"
def zT_1 : u_T := fun k => match k with
  | 0 => ("DebateHall$Tape", "bytes", "[B", true)
  | _ => ("DebateHall$Tape", "size", "I", false)
def zty_1 : Nat → FieldType := fun k => match k with
  | 0 => (.array .byte)
  | _ => .int
theorem znm_1 : ∀ a, a < 2 → ∀ b, b < 2 → a ≠ b → (zT_1 a).2.1 ≠ (zT_1 b).2.1 := by decide +kernel
theorem ztk_1 : ∀ k, k < 2 → parseFieldDescriptor (zT_1 k).2.2.1 = some (zty_1 k) := by decide +kernel
theorem zin_1 : ∀ w ∈ u_ws zR_1 zT_1 2, w ∈ lw_all := lw_in (u_ws zR_1 zT_1 2) [158, 160] (by decide +kernel) (by decide +kernel)
def zR_2 : String := "DebateHall$Minutes"
def zT_2 : u_T := fun k => match k with
  | 0 => ("DebateHall$Minutes", "speakers", "Ljava/util/ArrayList;", true)
  | 1 => ("DebateHall$Minutes", "items", "Ljava/util/ArrayList;", true)
  | 2 => ("DebateHall$Minutes", "speakerNames", "Ljava/util/HashMap;", true)
  | 3 => ("DebateHall$Minutes", "itemNames", "Ljava/util/HashMap;", true)
  | 4 => ("DebateHall$Minutes", "state", "[I", true)
  | 5 => ("DebateHall$Minutes", "next", "[I", true)
  | 6 => ("DebateHall$Minutes", "round", "[I", true)
  | _ => ("DebateHall$Minutes", "rounds", "I", false)
def zty_2 : Nat → FieldType := fun k => match k with
  | 0 => (.object "java/util/ArrayList")
  | 1 => (.object "java/util/ArrayList")
  | 2 => (.object "java/util/HashMap")
  | 3 => (.object "java/util/HashMap")
  | 4 => (.array .int)
  | 5 => (.array .int)
  | 6 => (.array .int)
  | _ => .int
theorem znm_2 : ∀ a, a < 8 → ∀ b, b < 8 → a ≠ b → (zT_2 a).2.1 ≠ (zT_2 b).2.1 := by decide +kernel
theorem ztk_2 : ∀ k, k < 8 → parseFieldDescriptor (zT_2 k).2.2.1 = some (zty_2 k) := by decide +kernel
theorem zin_2 : ∀ w ∈ u_ws zR_2 zT_2 8, w ∈ lw_all := lw_in (u_ws zR_2 zT_2 8) [253, 255, 257, 259, 261, 263, 265, 267] (by decide +kernel) (by decide +kernel)
def zR_3 : String := "DebateHall$Reader"
def zT_3 : u_T := fun k => match k with
  | 0 => ("DebateHall$Reader", "tokens", "Ljava/util/List;", true)
  | 1 => ("DebateHall$Reader", "at", "I", false)
  | _ => ("DebateHall$Reader", "depth", "I", false)
def zty_3 : Nat → FieldType := fun k => match k with
  | 0 => (.object "java/util/List")
  | 1 => .int
  | _ => .int
theorem znm_3 : ∀ a, a < 3 → ∀ b, b < 3 → a ≠ b → (zT_3 a).2.1 ≠ (zT_3 b).2.1 := by decide +kernel
theorem ztk_3 : ∀ k, k < 3 → parseFieldDescriptor (zT_3 k).2.2.1 = some (zty_3 k) := by decide +kernel
theorem zin_3 : ∀ w ∈ u_ws zR_3 zT_3 3, w ∈ lw_all := lw_in (u_ws zR_3 zT_3 3) [853, 855, 857] (by decide +kernel) (by decide +kernel)
def zR_4 : String := "DebateHall$Scanner"
def zT_4 : u_T := fun k => match k with
  | 0 => ("DebateHall$Scanner", "tape", "LDebateHall$Tape;", true)
  | _ => ("DebateHall$Scanner", "tokens", "Ljava/util/ArrayList;", true)
def zty_4 : Nat → FieldType := fun k => match k with
  | 0 => (.object "DebateHall$Tape")
  | _ => (.object "java/util/ArrayList")
theorem znm_4 : ∀ a, a < 2 → ∀ b, b < 2 → a ≠ b → (zT_4 a).2.1 ≠ (zT_4 b).2.1 := by decide +kernel
theorem ztk_4 : ∀ k, k < 2 → parseFieldDescriptor (zT_4 k).2.2.1 = some (zty_4 k) := by decide +kernel
theorem zin_4 : ∀ w ∈ u_ws zR_4 zT_4 2, w ∈ lw_all := lw_in (u_ws zR_4 zT_4 2) [333, 335] (by decide +kernel) (by decide +kernel)
def zR_5 : String := "DebateHall$Token"
def zT_5 : u_T := fun k => match k with
  | 0 => ("DebateHall$Token", "sort", "LDebateHall$Sort;", true)
  | 1 => ("DebateHall$Token", "text", "Ljava/lang/String;", true)
  | _ => ("DebateHall$Token", "at", "I", true)
def zty_5 : Nat → FieldType := fun k => match k with
  | 0 => (.object "DebateHall$Sort")
  | 1 => (.object "java/lang/String")
  | _ => .int
theorem znm_5 : ∀ a, a < 3 → ∀ b, b < 3 → a ≠ b → (zT_5 a).2.1 ≠ (zT_5 b).2.1 := by decide +kernel
theorem ztk_5 : ∀ k, k < 3 → parseFieldDescriptor (zT_5 k).2.2.1 = some (zty_5 k) := by decide +kernel
theorem zin_5 : ∀ w ∈ u_ws zR_5 zT_5 3, w ∈ lw_all := lw_in (u_ws zR_5 zT_5 3) [380, 382, 384] (by decide +kernel) (by decide +kernel)
def zR_6 : String := "DebateHall$Fault"
def zT_6 : u_T := fun k => match k with
  | 0 => ("DebateHall$Fault", "error", "I", true)
  | 1 => ("DebateHall$Fault", "at", "I", true)
  | 2 => ("java/lang/Throwable", "cause", "Ljava/lang/Throwable;", false)
  | 3 => ("java/lang/Throwable", "stackTrace", "[Ljava/lang/StackTraceElement;", false)
  | 4 => ("java/lang/Throwable", "suppressedExceptions", "Ljava/util/List;", false)
  | 5 => ("java/lang/Throwable", "detailMessage", "Ljava/lang/String;", false)
  | 6 => ("java/lang/Throwable", "backtrace", "Ljava/lang/Object;", false)
  | _ => ("java/lang/Throwable", "depth", "I", false)
def zty_6 : Nat → FieldType := fun k => match k with
  | 0 => .int
  | 1 => .int
  | 2 => (.object "java/lang/Throwable")
  | 3 => (.array (.object "java/lang/StackTraceElement"))
  | 4 => (.object "java/util/List")
  | 5 => (.object "java/lang/String")
  | 6 => (.object "java/lang/Object")
  | _ => .int
theorem znm_6 : ∀ a, a < 8 → ∀ b, b < 8 → a ≠ b → (zT_6 a).2.1 ≠ (zT_6 b).2.1 := by decide +kernel
theorem ztk_6 : ∀ k, k < 8 → parseFieldDescriptor (zT_6 k).2.2.1 = some (zty_6 k) := by decide +kernel
theorem zin_6 : ∀ w ∈ u_ws zR_6 zT_6 8, w ∈ lw_all := lw_in (u_ws zR_6 zT_6 8) [935, 937, 919, 920, 921, 922, 923, 939] (by decide +kernel) (by decide +kernel)
def zR_7 : String := "DebateHall$Seat"
def zT_7 : u_T := fun k => match k with
  | 0 => ("DebateHall$Line", "end", "LDebateHall$Token;", false)
  | 1 => ("DebateHall$Seat", "name", "LDebateHall$Token;", true)
  | _ => ("DebateHall$Seat", "time", "LDebateHall$Token;", true)
def zty_7 : Nat → FieldType := fun k => match k with
  | 0 => (.object "DebateHall$Token")
  | 1 => (.object "DebateHall$Token")
  | _ => (.object "DebateHall$Token")
theorem znm_7 : ∀ a, a < 3 → ∀ b, b < 3 → a ≠ b → (zT_7 a).2.1 ≠ (zT_7 b).2.1 := by decide +kernel
theorem ztk_7 : ∀ k, k < 3 → parseFieldDescriptor (zT_7 k).2.2.1 = some (zty_7 k) := by decide +kernel
theorem zin_7 : ∀ w ∈ u_ws zR_7 zT_7 3, w ∈ lw_all := lw_in (u_ws zR_7 zT_7 3) [964, 960, 962] (by decide +kernel) (by decide +kernel)
def zR_8 : String := "DebateHall$Claim"
def zT_8 : u_T := fun k => match k with
  | 0 => ("DebateHall$Line", "end", "LDebateHall$Token;", false)
  | 1 => ("DebateHall$Claim", "name", "LDebateHall$Token;", true)
  | 2 => ("DebateHall$Claim", "by", "LDebateHall$Token;", true)
  | _ => ("DebateHall$Claim", "weight", "LDebateHall$Token;", true)
def zty_8 : Nat → FieldType := fun k => match k with
  | 0 => (.object "DebateHall$Token")
  | 1 => (.object "DebateHall$Token")
  | 2 => (.object "DebateHall$Token")
  | _ => (.object "DebateHall$Token")
theorem znm_8 : ∀ a, a < 4 → ∀ b, b < 4 → a ≠ b → (zT_8 a).2.1 ≠ (zT_8 b).2.1 := by decide +kernel
theorem ztk_8 : ∀ k, k < 4 → parseFieldDescriptor (zT_8 k).2.2.1 = some (zty_8 k) := by decide +kernel
theorem zin_8 : ∀ w ∈ u_ws zR_8 zT_8 4, w ∈ lw_all := lw_in (u_ws zR_8 zT_8 4) [989, 983, 985, 987] (by decide +kernel) (by decide +kernel)
def zR_9 : String := "DebateHall$Several"
def zT_9 : u_T := fun k => match k with
  | 0 => ("DebateHall$Several", "isAll", "Z", true)
  | _ => ("DebateHall$Several", "tests", "Ljava/util/ArrayList;", true)
def zty_9 : Nat → FieldType := fun k => match k with
  | 0 => .boolean
  | _ => (.object "java/util/ArrayList")
theorem znm_9 : ∀ a, a < 2 → ∀ b, b < 2 → a ≠ b → (zT_9 a).2.1 ≠ (zT_9 b).2.1 := by decide +kernel
theorem ztk_9 : ∀ k, k < 2 → parseFieldDescriptor (zT_9 k).2.2.1 = some (zty_9 k) := by decide +kernel
theorem zin_9 : ∀ w ∈ u_ws zR_9 zT_9 2, w ∈ lw_all := lw_in (u_ws zR_9 zT_9 2) [1020, 1022] (by decide +kernel) (by decide +kernel)
def zR_10 : String := "DebateHall$Denied"
def zT_10 : u_T := fun k => match k with
  | _ => ("DebateHall$Denied", "test", "LDebateHall$Test;", true)
def zty_10 : Nat → FieldType := fun k => match k with
  | _ => (.object "DebateHall$Test")
theorem znm_10 : ∀ a, a < 1 → ∀ b, b < 1 → a ≠ b → (zT_10 a).2.1 ≠ (zT_10 b).2.1 := by decide +kernel
theorem ztk_10 : ∀ k, k < 1 → parseFieldDescriptor (zT_10 k).2.2.1 = some (zty_10 k) := by decide +kernel
theorem zin_10 : ∀ w ∈ u_ws zR_10 zT_10 1, w ∈ lw_all := lw_in (u_ws zR_10 zT_10 1) [1045] (by decide +kernel) (by decide +kernel)
def zR_11 : String := "DebateHall$Asked"
def zT_11 : u_T := fun k => match k with
  | 0 => ("DebateHall$Asked", "what", "Ljava/lang/String;", true)
  | _ => ("DebateHall$Asked", "name", "LDebateHall$Token;", true)
def zty_11 : Nat → FieldType := fun k => match k with
  | 0 => (.object "java/lang/String")
  | _ => (.object "DebateHall$Token")
theorem znm_11 : ∀ a, a < 2 → ∀ b, b < 2 → a ≠ b → (zT_11 a).2.1 ≠ (zT_11 b).2.1 := by decide +kernel
theorem ztk_11 : ∀ k, k < 2 → parseFieldDescriptor (zT_11 k).2.2.1 = some (zty_11 k) := by decide +kernel
theorem zin_11 : ∀ w ∈ u_ws zR_11 zT_11 2, w ∈ lw_all := lw_in (u_ws zR_11 zT_11 2) [1062, 1064] (by decide +kernel) (by decide +kernel)
def zR_12 : String := "DebateHall$Thrust"
def zT_12 : u_T := fun k => match k with
  | 0 => ("DebateHall$Line", "end", "LDebateHall$Token;", false)
  | 1 => ("DebateHall$Thrust", "kind", "LDebateHall$Kind;", true)
  | 2 => ("DebateHall$Thrust", "name", "LDebateHall$Token;", true)
  | 3 => ("DebateHall$Thrust", "from", "LDebateHall$Token;", true)
  | 4 => ("DebateHall$Thrust", "to", "LDebateHall$Token;", true)
  | 5 => ("DebateHall$Thrust", "force", "LDebateHall$Token;", true)
  | _ => ("DebateHall$Thrust", "test", "Ljava/util/Optional;", true)
def zty_12 : Nat → FieldType := fun k => match k with
  | 0 => (.object "DebateHall$Token")
  | 1 => (.object "DebateHall$Kind")
  | 2 => (.object "DebateHall$Token")
  | 3 => (.object "DebateHall$Token")
  | 4 => (.object "DebateHall$Token")
  | 5 => (.object "DebateHall$Token")
  | _ => (.object "java/util/Optional")
theorem znm_12 : ∀ a, a < 7 → ∀ b, b < 7 → a ≠ b → (zT_12 a).2.1 ≠ (zT_12 b).2.1 := by decide +kernel
theorem ztk_12 : ∀ k, k < 7 → parseFieldDescriptor (zT_12 k).2.2.1 = some (zty_12 k) := by decide +kernel
theorem zin_12 : ∀ w ∈ u_ws zR_12 zT_12 7, w ∈ lw_all := lw_in (u_ws zR_12 zT_12 7) [1115, 1103, 1105, 1107, 1109, 1111, 1113] (by decide +kernel) (by decide +kernel)
def zR_13 : String := "DebateHall$Turn"
def zT_13 : u_T := fun k => match k with
  | 0 => ("DebateHall$Line", "end", "LDebateHall$Token;", false)
  | 1 => ("DebateHall$Turn", "name", "LDebateHall$Token;", true)
  | _ => ("DebateHall$Turn", "concedes", "Z", true)
def zty_13 : Nat → FieldType := fun k => match k with
  | 0 => (.object "DebateHall$Token")
  | 1 => (.object "DebateHall$Token")
  | _ => .boolean
theorem znm_13 : ∀ a, a < 3 → ∀ b, b < 3 → a ≠ b → (zT_13 a).2.1 ≠ (zT_13 b).2.1 := by decide +kernel
theorem ztk_13 : ∀ k, k < 3 → parseFieldDescriptor (zT_13 k).2.2.1 = some (zty_13 k) := by decide +kernel
theorem zin_13 : ∀ w ∈ u_ws zR_13 zT_13 3, w ∈ lw_all := lw_in (u_ws zR_13 zT_13 3) [1134, 1130, 1132] (by decide +kernel) (by decide +kernel)
def zR_14 : String := "DebateHall$Speaker"
def zT_14 : u_T := fun k => match k with
  | 0 => ("DebateHall$Speaker", "number", "I", true)
  | 1 => ("DebateHall$Speaker", "name", "Ljava/lang/String;", true)
  | _ => ("DebateHall$Speaker", "time", "I", false)
def zty_14 : Nat → FieldType := fun k => match k with
  | 0 => .int
  | 1 => (.object "java/lang/String")
  | _ => .int
theorem znm_14 : ∀ a, a < 3 → ∀ b, b < 3 → a ≠ b → (zT_14 a).2.1 ≠ (zT_14 b).2.1 := by decide +kernel
theorem ztk_14 : ∀ k, k < 3 → parseFieldDescriptor (zT_14 k).2.2.1 = some (zty_14 k) := by decide +kernel
theorem zin_14 : ∀ w ∈ u_ws zR_14 zT_14 3, w ∈ lw_all := lw_in (u_ws zR_14 zT_14 3) [1206, 1208, 1210] (by decide +kernel) (by decide +kernel)
def zR_15 : String := "DebateHall$Item"
def zT_15 : u_T := fun k => match k with
  | 0 => ("DebateHall$Item", "number", "I", true)
  | 1 => ("DebateHall$Item", "kind", "LDebateHall$Kind;", true)
  | 2 => ("DebateHall$Item", "name", "Ljava/lang/String;", true)
  | 3 => ("DebateHall$Item", "speaker", "I", true)
  | 4 => ("DebateHall$Item", "size", "I", true)
  | 5 => ("DebateHall$Item", "source", "LDebateHall$Item;", true)
  | 6 => ("DebateHall$Item", "target", "LDebateHall$Item;", true)
  | _ => ("DebateHall$Item", "isConceded", "Z", false)
def zty_15 : Nat → FieldType := fun k => match k with
  | 0 => .int
  | 1 => (.object "DebateHall$Kind")
  | 2 => (.object "java/lang/String")
  | 3 => .int
  | 4 => .int
  | 5 => (.object "DebateHall$Item")
  | 6 => (.object "DebateHall$Item")
  | _ => .boolean
theorem znm_15 : ∀ a, a < 8 → ∀ b, b < 8 → a ≠ b → (zT_15 a).2.1 ≠ (zT_15 b).2.1 := by decide +kernel
theorem ztk_15 : ∀ k, k < 8 → parseFieldDescriptor (zT_15 k).2.2.1 = some (zty_15 k) := by decide +kernel
theorem zin_15 : ∀ w ∈ u_ws zR_15 zT_15 8, w ∈ lw_all := lw_in (u_ws zR_15 zT_15 8) [1764, 1766, 1768, 1770, 1772, 1774, 1776, 1778] (by decide +kernel) (by decide +kernel)
def zR_16 : String := "DebateHallModel"
def zT_16 : u_T := fun k => match k with
  | 0 => ("DebateHallModel", "thrown", "I", false)
  | 1 => ("DebateHallModel", "errorAt", "I", false)
  | 2 => ("DebateHallModel", "taped", "I", false)
  | 3 => ("DebateHallModel", "tape", "[I", true)
  | 4 => ("DebateHallModel", "written", "I", false)
  | 5 => ("DebateHallModel", "paper", "[I", true)
  | 6 => ("DebateHallModel", "tokens", "I", false)
  | 7 => ("DebateHallModel", "sort", "[I", true)
  | 8 => ("DebateHallModel", "place", "[I", true)
  | 9 => ("DebateHallModel", "value", "[J", true)
  | 10 => ("DebateHallModel", "t", "I", false)
  | 11 => ("DebateHallModel", "s", "LDebateHallModel$State;", true)
  | 12 => ("DebateHallModel", "kept", "LDebateHallModel$State;", true)
  | 13 => ("DebateHallModel", "how", "[I", true)
  | 14 => ("DebateHallModel", "round", "[I", true)
  | 15 => ("DebateHallModel", "rounds", "I", false)
  | 16 => ("DebateHallModel", "then", "[I", true)
  | 17 => ("DebateHallModel", "thenRound", "[I", true)
  | 18 => ("DebateHallModel", "one", "I", false)
  | 19 => ("DebateHallModel", "two", "I", false)
  | 20 => ("DebateHallModel", "hit", "I", false)
  | 21 => ("DebateHallModel", "first", "[I", true)
  | 22 => ("DebateHallModel", "next", "[I", true)
  | _ => ("DebateHallModel", "found", "[I", true)
def zty_16 : Nat → FieldType := fun k => match k with
  | 0 => .int
  | 1 => .int
  | 2 => .int
  | 3 => (.array .int)
  | 4 => .int
  | 5 => (.array .int)
  | 6 => .int
  | 7 => (.array .int)
  | 8 => (.array .int)
  | 9 => (.array .long)
  | 10 => .int
  | 11 => (.object "DebateHallModel$State")
  | 12 => (.object "DebateHallModel$State")
  | 13 => (.array .int)
  | 14 => (.array .int)
  | 15 => .int
  | 16 => (.array .int)
  | 17 => (.array .int)
  | 18 => .int
  | 19 => .int
  | 20 => .int
  | 21 => (.array .int)
  | 22 => (.array .int)
  | _ => (.array .int)
theorem znm_16 : ∀ a, a < 24 → ∀ b, b < 24 → a ≠ b → (zT_16 a).2.1 ≠ (zT_16 b).2.1 := by decide +kernel
theorem ztk_16 : ∀ k, k < 24 → parseFieldDescriptor (zT_16 k).2.2.1 = some (zty_16 k) := by decide +kernel
theorem zin_16 : ∀ w ∈ u_ws zR_16 zT_16 24, w ∈ lw_all := lw_in (u_ws zR_16 zT_16 24) [2460, 2462, 2464, 2466, 2468, 2470, 2472, 2474, 2476, 2478, 2480, 2482, 2484, 2486, 2488, 2490, 2492, 2494, 2496, 2498, 2500, 2502, 2504, 2506] (by decide +kernel) (by decide +kernel)
def zR_17 : String := "DebateHallModel$State"
def zT_17 : u_T := fun k => match k with
  | 0 => ("DebateHallModel$State", "speakers", "I", false)
  | 1 => ("DebateHallModel$State", "speaker", "[J", true)
  | 2 => ("DebateHallModel$State", "time", "[I", true)
  | 3 => ("DebateHallModel$State", "items", "I", false)
  | 4 => ("DebateHallModel$State", "name", "[J", true)
  | 5 => ("DebateHallModel$State", "kind", "[I", true)
  | 6 => ("DebateHallModel$State", "by", "[I", true)
  | 7 => ("DebateHallModel$State", "size", "[I", true)
  | 8 => ("DebateHallModel$State", "source", "[I", true)
  | 9 => ("DebateHallModel$State", "target", "[I", true)
  | 10 => ("DebateHallModel$State", "conceded", "[I", true)
  | _ => ("DebateHallModel$State", "this$0", "LDebateHallModel;", true)
def zty_17 : Nat → FieldType := fun k => match k with
  | 0 => .int
  | 1 => (.array .long)
  | 2 => (.array .int)
  | 3 => .int
  | 4 => (.array .long)
  | 5 => (.array .int)
  | 6 => (.array .int)
  | 7 => (.array .int)
  | 8 => (.array .int)
  | 9 => (.array .int)
  | 10 => (.array .int)
  | _ => (.object "DebateHallModel")
theorem znm_17 : ∀ a, a < 12 → ∀ b, b < 12 → a ≠ b → (zT_17 a).2.1 ≠ (zT_17 b).2.1 := by decide +kernel
theorem ztk_17 : ∀ k, k < 12 → parseFieldDescriptor (zT_17 k).2.2.1 = some (zty_17 k) := by decide +kernel
theorem zin_17 : ∀ w ∈ u_ws zR_17 zT_17 12, w ∈ lw_all := lw_in (u_ws zR_17 zT_17 12) [2410, 2412, 2414, 2416, 2418, 2420, 2422, 2424, 2426, 2428, 2430, 2432] (by decide +kernel) (by decide +kernel)
def zR_18 : String := "java/util/ArrayList"
def zT_18 : u_T := fun k => match k with
  | 0 => ("java/util/AbstractList", "modCount", "I", false)
  | 1 => ("java/util/ArrayList", "elementData", "[Ljava/lang/Object;", false)
  | _ => ("java/util/ArrayList", "size", "I", false)
def zty_18 : Nat → FieldType := fun k => match k with
  | 0 => .int
  | 1 => (.array (.object "java/lang/Object"))
  | _ => .int
theorem znm_18 : ∀ a, a < 3 → ∀ b, b < 3 → a ≠ b → (zT_18 a).2.1 ≠ (zT_18 b).2.1 := by decide +kernel
theorem ztk_18 : ∀ k, k < 3 → parseFieldDescriptor (zT_18 k).2.2.1 = some (zty_18 k) := by decide +kernel
theorem zin_18 : ∀ w ∈ u_ws zR_18 zT_18 3, w ∈ lw_all := lw_in (u_ws zR_18 zT_18 3) [196, 192, 194] (by decide +kernel) (by decide +kernel)
def zR_19 : String := "java/util/HashMap"
def zT_19 : u_T := fun k => match k with
  | 0 => ("java/util/AbstractMap", "keySet", "Ljava/util/Set;", false)
  | 1 => ("java/util/AbstractMap", "values", "Ljava/util/Collection;", false)
  | 2 => ("java/util/HashMap", "table", "[Ljava/util/HashMap$Node;", false)
  | 3 => ("java/util/HashMap", "entrySet", "Ljava/util/Set;", false)
  | 4 => ("java/util/HashMap", "size", "I", false)
  | 5 => ("java/util/HashMap", "modCount", "I", false)
  | 6 => ("java/util/HashMap", "threshold", "I", false)
  | _ => ("java/util/HashMap", "loadFactor", "F", true)
def zty_19 : Nat → FieldType := fun k => match k with
  | 0 => (.object "java/util/Set")
  | 1 => (.object "java/util/Collection")
  | 2 => (.array (.object "java/util/HashMap$Node"))
  | 3 => (.object "java/util/Set")
  | 4 => .int
  | 5 => .int
  | 6 => .int
  | _ => .float
theorem znm_19 : ∀ a, a < 8 → ∀ b, b < 8 → a ≠ b → (zT_19 a).2.1 ≠ (zT_19 b).2.1 := by decide +kernel
theorem ztk_19 : ∀ k, k < 8 → parseFieldDescriptor (zT_19 k).2.2.1 = some (zty_19 k) := by decide +kernel
theorem zin_19 : ∀ w ∈ u_ws zR_19 zT_19 8, w ∈ lw_all := lw_in (u_ws zR_19 zT_19 8) [226, 228, 214, 216, 218, 220, 222, 224] (by decide +kernel) (by decide +kernel)
def zR_20 : String := "java/lang/StringBuilder"
def zT_20 : u_T := fun k => match k with
  | 0 => ("java/lang/AbstractStringBuilder", "value", "[B", false)
  | 1 => ("java/lang/AbstractStringBuilder", "coder", "B", false)
  | 2 => ("java/lang/AbstractStringBuilder", "maybeLatin1", "Z", false)
  | _ => ("java/lang/AbstractStringBuilder", "count", "I", false)
def zty_20 : Nat → FieldType := fun k => match k with
  | 0 => (.array .byte)
  | 1 => .byte
  | 2 => .boolean
  | _ => .int
theorem znm_20 : ∀ a, a < 4 → ∀ b, b < 4 → a ≠ b → (zT_20 a).2.1 ≠ (zT_20 b).2.1 := by decide +kernel
theorem ztk_20 : ∀ k, k < 4 → parseFieldDescriptor (zT_20 k).2.2.1 = some (zty_20 k) := by decide +kernel
theorem zin_20 : ∀ w ∈ u_ws zR_20 zT_20 4, w ∈ lw_all := lw_in (u_ws zR_20 zT_20 4) [294, 296, 298, 300] (by decide +kernel) (by decide +kernel)
def zR_21 : String := "java/lang/String"
def zT_21 : u_T := fun k => match k with
  | 0 => ("java/lang/String", "value", "[B", true)
  | 1 => ("java/lang/String", "coder", "B", true)
  | 2 => ("java/lang/String", "hash", "I", false)
  | _ => ("java/lang/String", "hashIsZero", "Z", false)
def zty_21 : Nat → FieldType := fun k => match k with
  | 0 => (.array .byte)
  | 1 => .byte
  | 2 => .int
  | _ => .boolean
theorem znm_21 : ∀ a, a < 4 → ∀ b, b < 4 → a ≠ b → (zT_21 a).2.1 ≠ (zT_21 b).2.1 := by decide +kernel
theorem ztk_21 : ∀ k, k < 4 → parseFieldDescriptor (zT_21 k).2.2.1 = some (zty_21 k) := by decide +kernel
theorem zin_21 : ∀ w ∈ u_ws zR_21 zT_21 4, w ∈ lw_all := lw_in (u_ws zR_21 zT_21 4) [693, 695, 697, 699] (by decide +kernel) (by decide +kernel)
def zR_22 : String := "java/util/Optional"
def zT_22 : u_T := fun k => match k with
  | _ => ("java/util/Optional", "value", "Ljava/lang/Object;", true)
def zty_22 : Nat → FieldType := fun k => match k with
  | _ => (.object "java/lang/Object")
theorem znm_22 : ∀ a, a < 1 → ∀ b, b < 1 → a ≠ b → (zT_22 a).2.1 ≠ (zT_22 b).2.1 := by decide +kernel
theorem ztk_22 : ∀ k, k < 1 → parseFieldDescriptor (zT_22 k).2.2.1 = some (zty_22 k) := by decide +kernel
theorem zin_22 : ∀ w ∈ u_ws zR_22 zT_22 1, w ∈ lw_all := lw_in (u_ws zR_22 zT_22 1) [1083] (by decide +kernel) (by decide +kernel)
def zR_23 : String := "java/util/ArrayList$Itr"
def zT_23 : u_T := fun k => match k with
  | 0 => ("java/util/ArrayList$Itr", "cursor", "I", false)
  | 1 => ("java/util/ArrayList$Itr", "lastRet", "I", false)
  | 2 => ("java/util/ArrayList$Itr", "expectedModCount", "I", false)
  | _ => ("java/util/ArrayList$Itr", "this$0", "Ljava/util/ArrayList;", true)
def zty_23 : Nat → FieldType := fun k => match k with
  | 0 => .int
  | 1 => .int
  | 2 => .int
  | _ => (.object "java/util/ArrayList")
theorem znm_23 : ∀ a, a < 4 → ∀ b, b < 4 → a ≠ b → (zT_23 a).2.1 ≠ (zT_23 b).2.1 := by decide +kernel
theorem ztk_23 : ∀ k, k < 4 → parseFieldDescriptor (zT_23 k).2.2.1 = some (zty_23 k) := by decide +kernel
theorem zin_23 : ∀ w ∈ u_ws zR_23 zT_23 4, w ∈ lw_all := lw_in (u_ws zR_23 zT_23 4) [1158, 1160, 1162, 1164] (by decide +kernel) (by decide +kernel)
def zR_24 : String := "java/util/HashMap$Node"
def zT_24 : u_T := fun k => match k with
  | 0 => ("java/util/HashMap$Node", "hash", "I", true)
  | 1 => ("java/util/HashMap$Node", "key", "Ljava/lang/Object;", true)
  | 2 => ("java/util/HashMap$Node", "value", "Ljava/lang/Object;", false)
  | _ => ("java/util/HashMap$Node", "next", "Ljava/util/HashMap$Node;", false)
def zty_24 : Nat → FieldType := fun k => match k with
  | 0 => .int
  | 1 => (.object "java/lang/Object")
  | 2 => (.object "java/lang/Object")
  | _ => (.object "java/util/HashMap$Node")
theorem znm_24 : ∀ a, a < 4 → ∀ b, b < 4 → a ≠ b → (zT_24 a).2.1 ≠ (zT_24 b).2.1 := by decide +kernel
theorem ztk_24 : ∀ k, k < 4 → parseFieldDescriptor (zT_24 k).2.2.1 = some (zty_24 k) := by decide +kernel
theorem zin_24 : ∀ w ∈ u_ws zR_24 zT_24 4, w ∈ lw_all := lw_in (u_ws zR_24 zT_24 4) [1369, 1371, 1373, 1375] (by decide +kernel) (by decide +kernel)
def zR_25 : String := "java/util/HashMap$TreeNode"
def zT_25 : u_T := fun k => match k with
  | 0 => ("java/util/HashMap$Node", "hash", "I", true)
  | 1 => ("java/util/HashMap$Node", "key", "Ljava/lang/Object;", true)
  | 2 => ("java/util/HashMap$Node", "value", "Ljava/lang/Object;", false)
  | 3 => ("java/util/HashMap$Node", "next", "Ljava/util/HashMap$Node;", false)
  | 4 => ("java/util/HashMap$TreeNode", "parent", "Ljava/util/HashMap$TreeNode;", false)
  | 5 => ("java/util/HashMap$TreeNode", "left", "Ljava/util/HashMap$TreeNode;", false)
  | 6 => ("java/util/HashMap$TreeNode", "right", "Ljava/util/HashMap$TreeNode;", false)
  | 7 => ("java/util/HashMap$TreeNode", "prev", "Ljava/util/HashMap$TreeNode;", false)
  | 8 => ("java/util/HashMap$TreeNode", "red", "Z", false)
  | 9 => ("java/util/LinkedHashMap$Entry", "before", "Ljava/util/LinkedHashMap$Entry;", false)
  | _ => ("java/util/LinkedHashMap$Entry", "after", "Ljava/util/LinkedHashMap$Entry;", false)
def zty_25 : Nat → FieldType := fun k => match k with
  | 0 => .int
  | 1 => (.object "java/lang/Object")
  | 2 => (.object "java/lang/Object")
  | 3 => (.object "java/util/HashMap$Node")
  | 4 => (.object "java/util/HashMap$TreeNode")
  | 5 => (.object "java/util/HashMap$TreeNode")
  | 6 => (.object "java/util/HashMap$TreeNode")
  | 7 => (.object "java/util/HashMap$TreeNode")
  | 8 => .boolean
  | 9 => (.object "java/util/LinkedHashMap$Entry")
  | _ => (.object "java/util/LinkedHashMap$Entry")
theorem znm_25 : ∀ a, a < 11 → ∀ b, b < 11 → a ≠ b → (zT_25 a).2.1 ≠ (zT_25 b).2.1 := by decide +kernel
theorem ztk_25 : ∀ k, k < 11 → parseFieldDescriptor (zT_25 k).2.2.1 = some (zty_25 k) := by decide +kernel
theorem zin_25 : ∀ w ∈ u_ws zR_25 zT_25 11, w ∈ lw_all := lw_in (u_ws zR_25 zT_25 11) [1705, 1706, 1707, 1708, 1691, 1693, 1695, 1697, 1699, 1701, 1703] (by decide +kernel) (by decide +kernel)
def zR_26 : String := "java/lang/IllegalStateException"
def zT_26 : u_T := fun k => match k with
  | _ => ("", "", "", false)
def zty_26 : Nat → FieldType := fun k => match k with
  | _ => .int
theorem znm_26 : ∀ a, a < 0 → ∀ b, b < 0 → a ≠ b → (zT_26 a).2.1 ≠ (zT_26 b).2.1 := by decide +kernel
theorem ztk_26 : ∀ k, k < 0 → parseFieldDescriptor (zT_26 k).2.2.1 = some (zty_26 k) := by decide +kernel
theorem zin_26 : ∀ w ∈ u_ws zR_26 zT_26 0, w ∈ lw_all := lw_in (u_ws zR_26 zT_26 0) [] (by decide +kernel) (by decide +kernel)
def zR_27 : String := "java/lang/IllegalArgumentException"
def zT_27 : u_T := fun k => match k with
  | _ => ("", "", "", false)
def zty_27 : Nat → FieldType := fun k => match k with
  | _ => .int
theorem znm_27 : ∀ a, a < 0 → ∀ b, b < 0 → a ≠ b → (zT_27 a).2.1 ≠ (zT_27 b).2.1 := by decide +kernel
theorem ztk_27 : ∀ k, k < 0 → parseFieldDescriptor (zT_27 k).2.2.1 = some (zty_27 k) := by decide +kernel
theorem zin_27 : ∀ w ∈ u_ws zR_27 zT_27 0, w ∈ lw_all := lw_in (u_ws zR_27 zT_27 0) [] (by decide +kernel) (by decide +kernel)
def zR_28 : String := "java/lang/IndexOutOfBoundsException"
def zT_28 : u_T := fun k => match k with
  | _ => ("", "", "", false)
def zty_28 : Nat → FieldType := fun k => match k with
  | _ => .int
theorem znm_28 : ∀ a, a < 0 → ∀ b, b < 0 → a ≠ b → (zT_28 a).2.1 ≠ (zT_28 b).2.1 := by decide +kernel
theorem ztk_28 : ∀ k, k < 0 → parseFieldDescriptor (zT_28 k).2.2.1 = some (zty_28 k) := by decide +kernel
theorem zin_28 : ∀ w ∈ u_ws zR_28 zT_28 0, w ∈ lw_all := lw_in (u_ws zR_28 zT_28 0) [] (by decide +kernel) (by decide +kernel)
def zR_30 : String := "DebateHall$Kind$1"
def zT_30 : u_T := fun k => match k with
  | 0 => ("java/lang/Enum", "ordinal", "I", true)
  | 1 => ("DebateHall$Kind", "size", "I", true)
  | _ => ("DebateHall$Kind", "cost", "I", true)
def zty_30 : Nat → FieldType := fun k => match k with
  | 0 => .int
  | 1 => .int
  | _ => .int
def zR_31 : String := "DebateHall$Kind$2"
def zT_31 : u_T := fun k => match k with
  | 0 => ("java/lang/Enum", "ordinal", "I", true)
  | 1 => ("DebateHall$Kind", "size", "I", true)
  | _ => ("DebateHall$Kind", "cost", "I", true)
def zty_31 : Nat → FieldType := fun k => match k with
  | 0 => .int
  | 1 => .int
  | _ => .int
def zR_32 : String := "DebateHall$Kind$3"
def zT_32 : u_T := fun k => match k with
  | 0 => ("java/lang/Enum", "ordinal", "I", true)
  | 1 => ("DebateHall$Kind", "size", "I", true)
  | _ => ("DebateHall$Kind", "cost", "I", true)
def zty_32 : Nat → FieldType := fun k => match k with
  | 0 => .int
  | 1 => .int
  | _ => .int
def zR_33 : String := "DebateHall$Sort"
def zT_33 : u_T := fun k => match k with
  | _ => ("java/lang/Enum", "ordinal", "I", true)
def zty_33 : Nat → FieldType := fun k => match k with
  | _ => .int
def zR_34 : String := "jdk/internal/misc/Unsafe"
def zT_34 : u_T := fun k => match k with
  | _ => ("", "", "", false)
def zty_34 : Nat → FieldType := fun k => match k with
  | _ => .int
/-- the classes by their numbers -/
def zzCl : Nat → Option vw_C := fun c => match c with
  | 0 => some (zR_0, zT_0, 4)
  | 1 => some (zR_1, zT_1, 2)
  | 2 => some (zR_2, zT_2, 8)
  | 3 => some (zR_3, zT_3, 3)
  | 4 => some (zR_4, zT_4, 2)
  | 5 => some (zR_5, zT_5, 3)
  | 6 => some (zR_6, zT_6, 8)
  | 7 => some (zR_7, zT_7, 3)
  | 8 => some (zR_8, zT_8, 4)
  | 9 => some (zR_9, zT_9, 2)
  | 10 => some (zR_10, zT_10, 1)
  | 11 => some (zR_11, zT_11, 2)
  | 12 => some (zR_12, zT_12, 7)
  | 13 => some (zR_13, zT_13, 3)
  | 14 => some (zR_14, zT_14, 3)
  | 15 => some (zR_15, zT_15, 8)
  | 16 => some (zR_16, zT_16, 24)
  | 17 => some (zR_17, zT_17, 12)
  | 18 => some (zR_18, zT_18, 3)
  | 19 => some (zR_19, zT_19, 8)
  | 20 => some (zR_20, zT_20, 4)
  | 21 => some (zR_21, zT_21, 4)
  | 22 => some (zR_22, zT_22, 1)
  | 23 => some (zR_23, zT_23, 4)
  | 24 => some (zR_24, zT_24, 4)
  | 25 => some (zR_25, zT_25, 11)
  | 26 => some (zR_26, zT_26, 0)
  | 27 => some (zR_27, zT_27, 0)
  | 28 => some (zR_28, zT_28, 0)
  | 30 => some (zR_30, zT_30, 3)
  | 31 => some (zR_31, zT_31, 3)
  | 32 => some (zR_32, zT_32, 3)
  | 33 => some (zR_33, zT_33, 1)
  | 34 => some (zR_34, zT_34, 0)
  | _ => none
def zzTy : Nat → Nat → FieldType := fun c => match c with
  | 0 => zty_0
  | 1 => zty_1
  | 2 => zty_2
  | 3 => zty_3
  | 4 => zty_4
  | 5 => zty_5
  | 6 => zty_6
  | 7 => zty_7
  | 8 => zty_8
  | 9 => zty_9
  | 10 => zty_10
  | 11 => zty_11
  | 12 => zty_12
  | 13 => zty_13
  | 14 => zty_14
  | 15 => zty_15
  | 16 => zty_16
  | 17 => zty_17
  | 18 => zty_18
  | 19 => zty_19
  | 20 => zty_20
  | 21 => zty_21
  | 22 => zty_22
  | 23 => zty_23
  | 24 => zty_24
  | 25 => zty_25
  | 26 => zty_26
  | 27 => zty_27
  | 28 => zty_28
  | 30 => zty_30
  | 31 => zty_31
  | 32 => zty_32
  | 33 => zty_33
  | 34 => zty_34
  | _ => fun _ => .int
/-- the arrays by their numbers -/
def zzAr : Nat → Option FieldType := fun t => match t with
  | 100 => some .int
  | 101 => some .byte
  | 102 => some .long
  | 103 => some (.object "java/lang/Object")
  | 104 => some (.object "java/util/HashMap$Node")
  | 105 => some (.object "java/lang/String")
  | _ => none
theorem zz_mut {c : Nat} {r : vw_C} (h : zzCl c = some r) (hc : c < 29) : (∀ w ∈ u_ws r.1 r.2.1 r.2.2, w ∈ lw_all) ∧ (∀ a, a < r.2.2 → ∀ b, b < r.2.2 → a ≠ b → (r.2.1 a).2.1 ≠ (r.2.1 b).2.1) ∧ (∀ k, k < r.2.2 → parseFieldDescriptor (r.2.1 k).2.2.1 = some (zzTy c k)) := by
  match c, h, hc with
  | 0, h, _ => cases h; exact ⟨zin_0, znm_0, ztk_0⟩
  | 1, h, _ => cases h; exact ⟨zin_1, znm_1, ztk_1⟩
  | 2, h, _ => cases h; exact ⟨zin_2, znm_2, ztk_2⟩
  | 3, h, _ => cases h; exact ⟨zin_3, znm_3, ztk_3⟩
  | 4, h, _ => cases h; exact ⟨zin_4, znm_4, ztk_4⟩
  | 5, h, _ => cases h; exact ⟨zin_5, znm_5, ztk_5⟩
  | 6, h, _ => cases h; exact ⟨zin_6, znm_6, ztk_6⟩
  | 7, h, _ => cases h; exact ⟨zin_7, znm_7, ztk_7⟩
  | 8, h, _ => cases h; exact ⟨zin_8, znm_8, ztk_8⟩
  | 9, h, _ => cases h; exact ⟨zin_9, znm_9, ztk_9⟩
  | 10, h, _ => cases h; exact ⟨zin_10, znm_10, ztk_10⟩
  | 11, h, _ => cases h; exact ⟨zin_11, znm_11, ztk_11⟩
  | 12, h, _ => cases h; exact ⟨zin_12, znm_12, ztk_12⟩
  | 13, h, _ => cases h; exact ⟨zin_13, znm_13, ztk_13⟩
  | 14, h, _ => cases h; exact ⟨zin_14, znm_14, ztk_14⟩
  | 15, h, _ => cases h; exact ⟨zin_15, znm_15, ztk_15⟩
  | 16, h, _ => cases h; exact ⟨zin_16, znm_16, ztk_16⟩
  | 17, h, _ => cases h; exact ⟨zin_17, znm_17, ztk_17⟩
  | 18, h, _ => cases h; exact ⟨zin_18, znm_18, ztk_18⟩
  | 19, h, _ => cases h; exact ⟨zin_19, znm_19, ztk_19⟩
  | 20, h, _ => cases h; exact ⟨zin_20, znm_20, ztk_20⟩
  | 21, h, _ => cases h; exact ⟨zin_21, znm_21, ztk_21⟩
  | 22, h, _ => cases h; exact ⟨zin_22, znm_22, ztk_22⟩
  | 23, h, _ => cases h; exact ⟨zin_23, znm_23, ztk_23⟩
  | 24, h, _ => cases h; exact ⟨zin_24, znm_24, ztk_24⟩
  | 25, h, _ => cases h; exact ⟨zin_25, znm_25, ztk_25⟩
  | 26, h, _ => cases h; exact ⟨zin_26, znm_26, ztk_26⟩
  | 27, h, _ => cases h; exact ⟨zin_27, znm_27, ztk_27⟩
  | 28, h, _ => cases h; exact ⟨zin_28, znm_28, ztk_28⟩
  | n + 29, _, hc => exact absurd hc (by omega)
/-- statics: class, name, descriptor; a number or the place of an address -/
def zzSt : Nat → Option (String × String × String) := fun i => match i with
  | 0 => some ("java/util/ArrayList", "DEFAULTCAPACITY_EMPTY_ELEMENTDATA", "[Ljava/lang/Object;")
  | 1 => some ("DebateHall$Sort", "NAME", "LDebateHall$Sort;")
  | 2 => some ("DebateHall$Sort", "KEY", "LDebateHall$Sort;")
  | 3 => some ("DebateHall$Sort", "NUMBER", "LDebateHall$Sort;")
  | 4 => some ("DebateHall$Sort", "SYMBOL", "LDebateHall$Sort;")
  | 5 => some ("DebateHall$Sort", "END", "LDebateHall$Sort;")
  | 6 => some ("DebateHall$Sort", "BAD", "LDebateHall$Sort;")
  | 7 => some ("DebateHall$Scanner", "KEYS", "[Ljava/lang/String;")
  | 8 => some ("DebateHall$Kind", "CLAIM", "LDebateHall$Kind;")
  | 9 => some ("DebateHall$Kind", "ATTACK", "LDebateHall$Kind;")
  | 10 => some ("DebateHall$Kind", "SUPPORT", "LDebateHall$Kind;")
  | 11 => some ("java/util/Optional", "EMPTY", "Ljava/util/Optional;")
  | 12 => some ("jdk/internal/util/ArraysSupport", "U", "Ljdk/internal/misc/Unsafe;")
  | 13 => some ("DebateHallModel", "KEYS", "[J")
  | 14 => some ("java/lang/String", "COMPACT_STRINGS", "Z")
  | 15 => some ("java/lang/StringUTF16", "$assertionsDisabled", "Z")
  | 16 => some ("java/lang/StringUTF16", "HI_BYTE_SHIFT", "I")
  | 17 => some ("java/lang/StringUTF16", "LO_BYTE_SHIFT", "I")
  | 18 => some ("jdk/internal/misc/Unsafe", "ARRAY_BYTE_BASE_OFFSET", "I")
  | 19 => some ("jdk/internal/util/ArraysSupport", "LOG2_ARRAY_BYTE_INDEX_SCALE", "I")
  | 20 => some ("jdk/internal/util/ArraysSupport", "LOG2_ARRAY_LONG_INDEX_SCALE", "I")
  | 21 => some ("jdk/internal/misc/UnsafeConstants", "BIG_ENDIAN", "Z")
  | 22 => some ("jdk/internal/util/ArraysSupport", "BIG_ENDIAN", "Z")
  | 23 => some ("jdk/internal/util/ArraysSupport", "LOG2_BYTE_BIT_SIZE", "I")
  | 24 => some ("jdk/internal/util/ArraysSupport", "LOG2_ARRAY_INT_INDEX_SCALE", "I")
  | 25 => some ("java/util/HashMap$TreeNode", "$assertionsDisabled", "Z")
  | 26 => some ("jdk/internal/util/Preconditions", "SIOOBE_FORMATTER", "Ljava/util/function/BiFunction;")
  | _ => none
def zzSv (ad : Nat → Nat) : Nat → Value := fun i => match i with
  | 14 => .int 1
  | 15 => .int 1
  | 16 => .int 0
  | 17 => .int 8
  | 18 => .int 16
  | 19 => .int 0
  | 20 => .int 3
  | 21 => .int 0
  | 22 => .int 0
  | 23 => .int 3
  | 24 => .int 2
  | 25 => .int 1
  | 26 => va_rf (if ad 526 = 0 then none else some (ad 26))
  | i => .ref (ad i)
/-- String constants: class, entry, text -/
def zzLi : Nat → Option (String × Nat × String) := fun i => match i with
  | 0 => some ("DebateHall$Scanner", 75, "")
  | 1 => some ("java/util/Arrays", 337, " > ")
  | 2 => some ("java/util/Arrays", 59, ")")
  | 3 => some ("java/util/Arrays", 57, ") > toIndex(")
  | 4 => some ("DebateHall$Reader", 73, ";")
  | 5 => some ("java/lang/ArrayIndexOutOfBoundsException", 13, "Array index out of range: ")
  | 6 => some ("java/lang/StringIndexOutOfBoundsException", 13, "String index out of range: ")
  | 7 => some ("DebateHall$Reader", 200, "[")
  | 8 => some ("DebateHall$Scanner", 104, "[];")
  | 9 => some ("DebateHall$Reader", 202, "]")
  | 10 => some ("DebateHall$Reader", 188, "and")
  | 11 => some ("DebateHall$Scanner", 150, "and")
  | 12 => some ("DebateHallModel", 237, "and")
  | 13 => some ("DebateHall$Reader", 116, "attack")
  | 14 => some ("DebateHall$Scanner", 122, "attack")
  | 15 => some ("DebateHallModel", 205, "attack")
  | 16 => some ("DebateHall$Reader", 107, "by")
  | 17 => some ("DebateHall$Scanner", 118, "by")
  | 18 => some ("DebateHallModel", 202, "by")
  | 19 => some ("DebateHall$Reader", 105, "claim")
  | 20 => some ("DebateHall$Scanner", 116, "claim")
  | 21 => some ("DebateHallModel", 200, "claim")
  | 22 => some ("DebateHall$Reader", 137, "concede")
  | 23 => some ("DebateHall$Scanner", 136, "concede")
  | 24 => some ("DebateHallModel", 218, "concede")
  | 25 => some ("DebateHall$Asked", 42, "conceded")
  | 26 => some ("DebateHall$Reader", 210, "conceded")
  | 27 => some ("DebateHall$Scanner", 146, "conceded")
  | 28 => some ("DebateHallModel", 251, "conceded")
  | 29 => some ("DebateHall$Reader", 135, "for")
  | 30 => some ("DebateHall$Scanner", 130, "for")
  | 31 => some ("DebateHallModel", 216, "for")
  | 32 => some ("DebateHall$Reader", 148, "force")
  | 33 => some ("DebateHall$Scanner", 132, "force")
  | 34 => some ("DebateHallModel", 222, "force")
  | 35 => some ("DebateHall$Reader", 146, "from")
  | 36 => some ("DebateHall$Scanner", 126, "from")
  | 37 => some ("DebateHallModel", 207, "from")
  | 38 => some ("java/util/Arrays", 48, "fromIndex(")
  | 39 => some ("DebateHall$Reader", 150, "if")
  | 40 => some ("DebateHall$Scanner", 134, "if")
  | 41 => some ("DebateHallModel", 224, "if")
  | 42 => some ("DebateHall$Minutes", 168, "in")
  | 43 => some ("DebateHall$Reader", 204, "in")
  | 44 => some ("DebateHall$Scanner", 140, "in")
  | 45 => some ("DebateHallModel", 245, "in")
  | 46 => some ("DebateHall$Reader", 190, "not")
  | 47 => some ("DebateHall$Scanner", 148, "not")
  | 48 => some ("DebateHallModel", 239, "not")
  | 49 => some ("DebateHall$Reader", 124, "on")
  | 50 => some ("DebateHall$Scanner", 128, "on")
  | 51 => some ("DebateHallModel", 209, "on")
  | 52 => some ("DebateHall$Minutes", 172, "open")
  | 53 => some ("DebateHall$Reader", 208, "open")
  | 54 => some ("DebateHall$Scanner", 144, "open")
  | 55 => some ("DebateHallModel", 249, "open")
  | 56 => some ("DebateHall$Reader", 183, "or")
  | 57 => some ("DebateHall$Scanner", 152, "or")
  | 58 => some ("DebateHallModel", 232, "or")
  | 59 => some ("DebateHall$Minutes", 170, "out")
  | 60 => some ("DebateHall$Reader", 206, "out")
  | 61 => some ("DebateHall$Scanner", 142, "out")
  | 62 => some ("DebateHallModel", 247, "out")
  | 63 => some ("DebateHall$Reader", 144, "recall")
  | 64 => some ("DebateHall$Scanner", 138, "recall")
  | 65 => some ("DebateHallModel", 220, "recall")
  | 66 => some ("DebateHall$Reader", 89, "speaker")
  | 67 => some ("DebateHall$Scanner", 112, "speaker")
  | 68 => some ("DebateHallModel", 187, "speaker")
  | 69 => some ("DebateHall$Reader", 130, "support")
  | 70 => some ("DebateHall$Scanner", 124, "support")
  | 71 => some ("DebateHallModel", 214, "support")
  | 72 => some ("DebateHall$Reader", 96, "time")
  | 73 => some ("DebateHall$Scanner", 114, "time")
  | 74 => some ("DebateHallModel", 196, "time")
  | 75 => some ("jdk/internal/util/ArraysSupport", 92, "unrecognized basic type: ")
  | 76 => some ("DebateHall$Reader", 111, "weight")
  | 77 => some ("DebateHall$Scanner", 120, "weight")
  | 78 => some ("DebateHallModel", 203, "weight")
  | _ => none
/-- classes whose Class objects are known -/
def zzMi : Nat → Option String := fun i => match i with
  | 0 => some "[Ljava/lang/Object;"
  | 1 => some "java/lang/String"
  | 2 => some "java/lang/Enum"
  | 3 => some "DebateHall"
  | 4 => some "DebateHall$Asked"
  | 5 => some "DebateHall$Claim"
  | 6 => some "DebateHall$Denied"
  | 7 => some "DebateHall$Fault"
  | 8 => some "DebateHall$Item"
  | 9 => some "DebateHall$Kind$1"
  | 10 => some "DebateHall$Kind$2"
  | 11 => some "DebateHall$Kind$3"
  | 12 => some "DebateHall$Minutes"
  | 13 => some "DebateHall$Reader"
  | 14 => some "DebateHall$Scanner"
  | 15 => some "DebateHall$Seat"
  | 16 => some "DebateHall$Several"
  | 17 => some "DebateHall$Sort"
  | 18 => some "DebateHall$Speaker"
  | 19 => some "DebateHall$Tape"
  | 20 => some "DebateHall$Thrust"
  | 21 => some "DebateHall$Token"
  | 22 => some "DebateHall$Turn"
  | 23 => some "DebateHallModel"
  | 24 => some "DebateHallModel$State"
  | 25 => some "java/lang/ArrayIndexOutOfBoundsException"
  | 26 => some "java/lang/IllegalArgumentException"
  | 27 => some "java/lang/IllegalStateException"
  | 28 => some "java/lang/IndexOutOfBoundsException"
  | 29 => some "java/lang/StringBuilder"
  | 30 => some "java/lang/StringIndexOutOfBoundsException"
  | 31 => some "java/lang/System$2"
  | 32 => some "java/lang/Throwable"
  | 33 => some "java/util/ArrayList"
  | 34 => some "java/util/ArrayList$Itr"
  | 35 => some "java/util/HashMap"
  | 36 => some "java/util/HashMap$Node"
  | 37 => some "java/util/HashMap$TreeNode"
  | 38 => some "java/util/Optional"
  | 39 => some "jdk/internal/misc/Unsafe"
  | _ => none
/-- interface calls: receiver's class, the interface's method, the method that is run -/
def zzIf : List (String × MethodName × MethodName) := [("java/util/ArrayList", ⟨"java/util/List", "get", "(I)Ljava/lang/Object;"⟩, ⟨"java/util/ArrayList", "get", "(I)Ljava/lang/Object;"⟩), ("java/util/ArrayList", ⟨"java/util/List", "iterator", "()Ljava/util/Iterator;"⟩, ⟨"java/util/ArrayList", "iterator", "()Ljava/util/Iterator;"⟩), ("java/util/ArrayList$Itr", ⟨"java/util/Iterator", "hasNext", "()Z"⟩, ⟨"java/util/ArrayList$Itr", "hasNext", "()Z"⟩), ("java/util/ArrayList$Itr", ⟨"java/util/Iterator", "next", "()Ljava/lang/Object;"⟩, ⟨"java/util/ArrayList$Itr", "next", "()Ljava/lang/Object;"⟩), ("java/lang/System$2", ⟨"jdk/internal/access/JavaLangAccess", "getUTF16Char", "([BI)C"⟩, ⟨"java/lang/System$2", "getUTF16Char", "([BI)C"⟩), ("java/lang/StringBuilder", ⟨"java/lang/Comparable", "compareTo", "(Ljava/lang/Object;)I"⟩, ⟨"java/lang/StringBuilder", "compareTo", "(Ljava/lang/Object;)I"⟩), ("java/lang/String", ⟨"java/lang/Comparable", "compareTo", "(Ljava/lang/Object;)I"⟩, ⟨"java/lang/String", "compareTo", "(Ljava/lang/Object;)I"⟩), ("DebateHall$Kind$2", ⟨"java/lang/Comparable", "compareTo", "(Ljava/lang/Object;)I"⟩, ⟨"java/lang/Enum", "compareTo", "(Ljava/lang/Object;)I"⟩), ("DebateHall$Kind$1", ⟨"java/lang/Comparable", "compareTo", "(Ljava/lang/Object;)I"⟩, ⟨"java/lang/Enum", "compareTo", "(Ljava/lang/Object;)I"⟩), ("DebateHall$Kind$3", ⟨"java/lang/Comparable", "compareTo", "(Ljava/lang/Object;)I"⟩, ⟨"java/lang/Enum", "compareTo", "(Ljava/lang/Object;)I"⟩), ("DebateHall$Sort", ⟨"java/lang/Comparable", "compareTo", "(Ljava/lang/Object;)I"⟩, ⟨"java/lang/Enum", "compareTo", "(Ljava/lang/Object;)I"⟩)]
/-- private methods of a superclass, called on an object of a subclass -/
def zzXs : List (String × MethodName) := [("java/lang/StringBuilder", ⟨"java/lang/AbstractStringBuilder", "ensureCapacityInternal", "(I)V"⟩), ("java/lang/StringBuilder", ⟨"java/lang/AbstractStringBuilder", "newCapacity", "(I)I"⟩), ("java/lang/StringBuilder", ⟨"java/lang/AbstractStringBuilder", "putStringAt", "(ILjava/lang/String;)V"⟩), ("java/lang/StringBuilder", ⟨"java/lang/AbstractStringBuilder", "inflateIfNeededFor", "(Ljava/lang/String;)V"⟩)]
/-- classes not castable -/
def zzNc : List (String × String) := [("DebateHall", "DebateHall$Fault"), ("DebateHall$Tape", "DebateHall$Fault"), ("DebateHall$Minutes", "DebateHall$Fault"), ("java/util/ArrayList", "DebateHall$Fault"), ("java/util/HashMap", "DebateHall$Fault"), ("java/lang/StringBuilder", "DebateHall$Fault"), ("DebateHallModel", "DebateHall$Fault"), ("DebateHallModel$State", "DebateHall$Fault"), ("java/lang/IllegalStateException", "DebateHall$Fault"), ("java/lang/IllegalArgumentException", "DebateHall$Fault"), ("DebateHall$Reader", "DebateHall$Fault"), ("DebateHall$Scanner", "DebateHall$Fault"), ("DebateHall$Token", "DebateHall$Fault"), ("DebateHall$Sort", "DebateHall$Fault"), ("java/lang/String", "DebateHall$Fault"), ("DebateHall$Seat", "DebateHall$Fault"), ("DebateHall$Claim", "DebateHall$Fault"), ("DebateHall$Kind$2", "DebateHall$Fault"), ("DebateHall$Several", "DebateHall$Fault"), ("DebateHall$Denied", "DebateHall$Fault"), ("DebateHall$Asked", "DebateHall$Fault"), ("java/util/Optional", "DebateHall$Fault"), ("DebateHall$Thrust", "DebateHall$Fault"), ("DebateHall$Kind$3", "DebateHall$Fault"), ("DebateHall$Turn", "DebateHall$Fault"), ("java/util/ArrayList$Itr", "DebateHall$Fault"), ("DebateHall$Speaker", "DebateHall$Fault"), ("java/util/HashMap$Node", "DebateHall$Fault"), ("jdk/internal/misc/Unsafe", "DebateHall$Fault"), ("java/util/HashMap$TreeNode", "DebateHall$Fault"), ("DebateHall$Item", "DebateHall$Fault"), ("DebateHall$Kind$1", "DebateHall$Fault"), ("java/lang/IndexOutOfBoundsException", "DebateHall$Fault"), ("DebateHall", "java/lang/String"), ("DebateHall$Tape", "java/lang/String"), ("DebateHall$Minutes", "java/lang/String"), ("java/util/ArrayList", "java/lang/String"), ("java/util/HashMap", "java/lang/String"), ("java/lang/StringBuilder", "java/lang/String"), ("DebateHallModel", "java/lang/String"), ("DebateHallModel$State", "java/lang/String"), ("java/lang/IllegalStateException", "java/lang/String"), ("java/lang/IllegalArgumentException", "java/lang/String"), ("DebateHall$Reader", "java/lang/String"), ("DebateHall$Scanner", "java/lang/String"), ("DebateHall$Token", "java/lang/String"), ("DebateHall$Sort", "java/lang/String"), ("DebateHall$Fault", "java/lang/String"), ("DebateHall$Seat", "java/lang/String"), ("DebateHall$Claim", "java/lang/String"), ("DebateHall$Kind$2", "java/lang/String"), ("DebateHall$Several", "java/lang/String"), ("DebateHall$Denied", "java/lang/String"), ("DebateHall$Asked", "java/lang/String"), ("java/util/Optional", "java/lang/String"), ("DebateHall$Thrust", "java/lang/String"), ("DebateHall$Kind$3", "java/lang/String"), ("DebateHall$Turn", "java/lang/String"), ("java/util/ArrayList$Itr", "java/lang/String"), ("DebateHall$Speaker", "java/lang/String"), ("java/util/HashMap$Node", "java/lang/String"), ("jdk/internal/misc/Unsafe", "java/lang/String"), ("java/util/HashMap$TreeNode", "java/lang/String"), ("DebateHall$Item", "java/lang/String"), ("DebateHall$Kind$1", "java/lang/String"), ("java/lang/IndexOutOfBoundsException", "java/lang/String"), ("DebateHall", "java/util/HashMap$TreeNode"), ("DebateHall$Tape", "java/util/HashMap$TreeNode"), ("DebateHall$Minutes", "java/util/HashMap$TreeNode"), ("java/util/ArrayList", "java/util/HashMap$TreeNode"), ("java/util/HashMap", "java/util/HashMap$TreeNode"), ("java/lang/StringBuilder", "java/util/HashMap$TreeNode"), ("DebateHallModel", "java/util/HashMap$TreeNode"), ("DebateHallModel$State", "java/util/HashMap$TreeNode"), ("java/lang/IllegalStateException", "java/util/HashMap$TreeNode"), ("java/lang/IllegalArgumentException", "java/util/HashMap$TreeNode"), ("DebateHall$Reader", "java/util/HashMap$TreeNode"), ("DebateHall$Scanner", "java/util/HashMap$TreeNode"), ("DebateHall$Token", "java/util/HashMap$TreeNode"), ("DebateHall$Sort", "java/util/HashMap$TreeNode"), ("java/lang/String", "java/util/HashMap$TreeNode"), ("DebateHall$Fault", "java/util/HashMap$TreeNode"), ("DebateHall$Seat", "java/util/HashMap$TreeNode"), ("DebateHall$Claim", "java/util/HashMap$TreeNode"), ("DebateHall$Kind$2", "java/util/HashMap$TreeNode"), ("DebateHall$Several", "java/util/HashMap$TreeNode"), ("DebateHall$Denied", "java/util/HashMap$TreeNode"), ("DebateHall$Asked", "java/util/HashMap$TreeNode"), ("java/util/Optional", "java/util/HashMap$TreeNode"), ("DebateHall$Thrust", "java/util/HashMap$TreeNode"), ("DebateHall$Kind$3", "java/util/HashMap$TreeNode"), ("DebateHall$Turn", "java/util/HashMap$TreeNode"), ("java/util/ArrayList$Itr", "java/util/HashMap$TreeNode"), ("DebateHall$Speaker", "java/util/HashMap$TreeNode"), ("java/util/HashMap$Node", "java/util/HashMap$TreeNode"), ("jdk/internal/misc/Unsafe", "java/util/HashMap$TreeNode"), ("DebateHall$Item", "java/util/HashMap$TreeNode"), ("DebateHall$Kind$1", "java/util/HashMap$TreeNode"), ("java/lang/IndexOutOfBoundsException", "java/util/HashMap$TreeNode"), ("DebateHall", "java/lang/Comparable"), ("DebateHall$Tape", "java/lang/Comparable"), ("DebateHall$Minutes", "java/lang/Comparable"), ("java/util/ArrayList", "java/lang/Comparable"), ("java/util/HashMap", "java/lang/Comparable"), ("DebateHallModel", "java/lang/Comparable"), ("DebateHallModel$State", "java/lang/Comparable"), ("java/lang/IllegalStateException", "java/lang/Comparable"), ("java/lang/IllegalArgumentException", "java/lang/Comparable"), ("DebateHall$Reader", "java/lang/Comparable"), ("DebateHall$Scanner", "java/lang/Comparable"), ("DebateHall$Token", "java/lang/Comparable"), ("DebateHall$Fault", "java/lang/Comparable"), ("DebateHall$Seat", "java/lang/Comparable"), ("DebateHall$Claim", "java/lang/Comparable"), ("DebateHall$Several", "java/lang/Comparable"), ("DebateHall$Denied", "java/lang/Comparable"), ("DebateHall$Asked", "java/lang/Comparable"), ("java/util/Optional", "java/lang/Comparable"), ("DebateHall$Thrust", "java/lang/Comparable"), ("DebateHall$Turn", "java/lang/Comparable"), ("java/util/ArrayList$Itr", "java/lang/Comparable"), ("DebateHall$Speaker", "java/lang/Comparable"), ("java/util/HashMap$Node", "java/lang/Comparable"), ("jdk/internal/misc/Unsafe", "java/lang/Comparable"), ("java/util/HashMap$TreeNode", "java/lang/Comparable"), ("DebateHall$Item", "java/lang/Comparable"), ("java/lang/IndexOutOfBoundsException", "java/lang/Comparable"), ("DebateHall", "java/lang/IllegalStateException"), ("DebateHall$Tape", "java/lang/IllegalStateException"), ("DebateHall$Minutes", "java/lang/IllegalStateException"), ("java/util/ArrayList", "java/lang/IllegalStateException"), ("java/util/HashMap", "java/lang/IllegalStateException"), ("java/lang/StringBuilder", "java/lang/IllegalStateException"), ("DebateHallModel", "java/lang/IllegalStateException"), ("DebateHallModel$State", "java/lang/IllegalStateException"), ("java/lang/IllegalArgumentException", "java/lang/IllegalStateException"), ("DebateHall$Reader", "java/lang/IllegalStateException"), ("DebateHall$Scanner", "java/lang/IllegalStateException"), ("DebateHall$Token", "java/lang/IllegalStateException"), ("DebateHall$Sort", "java/lang/IllegalStateException"), ("java/lang/String", "java/lang/IllegalStateException"), ("DebateHall$Fault", "java/lang/IllegalStateException"), ("DebateHall$Seat", "java/lang/IllegalStateException"), ("DebateHall$Claim", "java/lang/IllegalStateException"), ("DebateHall$Kind$2", "java/lang/IllegalStateException"), ("DebateHall$Several", "java/lang/IllegalStateException"), ("DebateHall$Denied", "java/lang/IllegalStateException"), ("DebateHall$Asked", "java/lang/IllegalStateException"), ("java/util/Optional", "java/lang/IllegalStateException"), ("DebateHall$Thrust", "java/lang/IllegalStateException"), ("DebateHall$Kind$3", "java/lang/IllegalStateException"), ("DebateHall$Turn", "java/lang/IllegalStateException"), ("java/util/ArrayList$Itr", "java/lang/IllegalStateException"), ("DebateHall$Speaker", "java/lang/IllegalStateException"), ("java/util/HashMap$Node", "java/lang/IllegalStateException"), ("jdk/internal/misc/Unsafe", "java/lang/IllegalStateException"), ("java/util/HashMap$TreeNode", "java/lang/IllegalStateException"), ("DebateHall$Item", "java/lang/IllegalStateException"), ("DebateHall$Kind$1", "java/lang/IllegalStateException"), ("java/lang/IndexOutOfBoundsException", "java/lang/IllegalStateException"), ("DebateHall", "java/lang/IllegalArgumentException"), ("DebateHall$Tape", "java/lang/IllegalArgumentException"), ("DebateHall$Minutes", "java/lang/IllegalArgumentException"), ("java/util/ArrayList", "java/lang/IllegalArgumentException"), ("java/util/HashMap", "java/lang/IllegalArgumentException"), ("java/lang/StringBuilder", "java/lang/IllegalArgumentException"), ("DebateHallModel", "java/lang/IllegalArgumentException"), ("DebateHallModel$State", "java/lang/IllegalArgumentException"), ("java/lang/IllegalStateException", "java/lang/IllegalArgumentException"), ("DebateHall$Reader", "java/lang/IllegalArgumentException"), ("DebateHall$Scanner", "java/lang/IllegalArgumentException"), ("DebateHall$Token", "java/lang/IllegalArgumentException"), ("DebateHall$Sort", "java/lang/IllegalArgumentException"), ("java/lang/String", "java/lang/IllegalArgumentException"), ("DebateHall$Fault", "java/lang/IllegalArgumentException"), ("DebateHall$Seat", "java/lang/IllegalArgumentException"), ("DebateHall$Claim", "java/lang/IllegalArgumentException"), ("DebateHall$Kind$2", "java/lang/IllegalArgumentException"), ("DebateHall$Several", "java/lang/IllegalArgumentException"), ("DebateHall$Denied", "java/lang/IllegalArgumentException"), ("DebateHall$Asked", "java/lang/IllegalArgumentException"), ("java/util/Optional", "java/lang/IllegalArgumentException"), ("DebateHall$Thrust", "java/lang/IllegalArgumentException"), ("DebateHall$Kind$3", "java/lang/IllegalArgumentException"), ("DebateHall$Turn", "java/lang/IllegalArgumentException"), ("java/util/ArrayList$Itr", "java/lang/IllegalArgumentException"), ("DebateHall$Speaker", "java/lang/IllegalArgumentException"), ("java/util/HashMap$Node", "java/lang/IllegalArgumentException"), ("jdk/internal/misc/Unsafe", "java/lang/IllegalArgumentException"), ("java/util/HashMap$TreeNode", "java/lang/IllegalArgumentException"), ("DebateHall$Item", "java/lang/IllegalArgumentException"), ("DebateHall$Kind$1", "java/lang/IllegalArgumentException"), ("java/lang/IndexOutOfBoundsException", "java/lang/IllegalArgumentException"), ("DebateHall", "java/lang/IndexOutOfBoundsException"), ("DebateHall$Tape", "java/lang/IndexOutOfBoundsException"), ("DebateHall$Minutes", "java/lang/IndexOutOfBoundsException"), ("java/util/ArrayList", "java/lang/IndexOutOfBoundsException"), ("java/util/HashMap", "java/lang/IndexOutOfBoundsException"), ("java/lang/StringBuilder", "java/lang/IndexOutOfBoundsException"), ("DebateHallModel", "java/lang/IndexOutOfBoundsException"), ("DebateHallModel$State", "java/lang/IndexOutOfBoundsException"), ("java/lang/IllegalStateException", "java/lang/IndexOutOfBoundsException"), ("java/lang/IllegalArgumentException", "java/lang/IndexOutOfBoundsException"), ("DebateHall$Reader", "java/lang/IndexOutOfBoundsException"), ("DebateHall$Scanner", "java/lang/IndexOutOfBoundsException"), ("DebateHall$Token", "java/lang/IndexOutOfBoundsException"), ("DebateHall$Sort", "java/lang/IndexOutOfBoundsException"), ("java/lang/String", "java/lang/IndexOutOfBoundsException"), ("DebateHall$Fault", "java/lang/IndexOutOfBoundsException"), ("DebateHall$Seat", "java/lang/IndexOutOfBoundsException"), ("DebateHall$Claim", "java/lang/IndexOutOfBoundsException"), ("DebateHall$Kind$2", "java/lang/IndexOutOfBoundsException"), ("DebateHall$Several", "java/lang/IndexOutOfBoundsException"), ("DebateHall$Denied", "java/lang/IndexOutOfBoundsException"), ("DebateHall$Asked", "java/lang/IndexOutOfBoundsException"), ("java/util/Optional", "java/lang/IndexOutOfBoundsException"), ("DebateHall$Thrust", "java/lang/IndexOutOfBoundsException"), ("DebateHall$Kind$3", "java/lang/IndexOutOfBoundsException"), ("DebateHall$Turn", "java/lang/IndexOutOfBoundsException"), ("java/util/ArrayList$Itr", "java/lang/IndexOutOfBoundsException"), ("DebateHall$Speaker", "java/lang/IndexOutOfBoundsException"), ("java/util/HashMap$Node", "java/lang/IndexOutOfBoundsException"), ("jdk/internal/misc/Unsafe", "java/lang/IndexOutOfBoundsException"), ("java/util/HashMap$TreeNode", "java/lang/IndexOutOfBoundsException"), ("DebateHall$Item", "java/lang/IndexOutOfBoundsException"), ("DebateHall$Kind$1", "java/lang/IndexOutOfBoundsException"), ("DebateHall", "[B"), ("DebateHall$Tape", "[B"), ("DebateHall$Minutes", "[B"), ("java/util/ArrayList", "[B"), ("java/util/HashMap", "[B"), ("java/lang/StringBuilder", "[B"), ("DebateHallModel", "[B"), ("DebateHallModel$State", "[B"), ("java/lang/IllegalStateException", "[B"), ("java/lang/IllegalArgumentException", "[B"), ("DebateHall$Reader", "[B"), ("DebateHall$Scanner", "[B"), ("DebateHall$Token", "[B"), ("DebateHall$Sort", "[B"), ("java/lang/String", "[B"), ("DebateHall$Fault", "[B"), ("DebateHall$Seat", "[B"), ("DebateHall$Claim", "[B"), ("DebateHall$Kind$2", "[B"), ("DebateHall$Several", "[B"), ("DebateHall$Denied", "[B"), ("DebateHall$Asked", "[B"), ("java/util/Optional", "[B"), ("DebateHall$Thrust", "[B"), ("DebateHall$Kind$3", "[B"), ("DebateHall$Turn", "[B"), ("java/util/ArrayList$Itr", "[B"), ("DebateHall$Speaker", "[B"), ("java/util/HashMap$Node", "[B"), ("jdk/internal/misc/Unsafe", "[B"), ("java/util/HashMap$TreeNode", "[B"), ("DebateHall$Item", "[B"), ("DebateHall$Kind$1", "[B"), ("java/lang/IndexOutOfBoundsException", "[B"), ("[I", "[B"), ("[Ljava/lang/Object;", "[B"), ("[Ljava/util/HashMap$Node;", "[B"), ("[J", "[B"), ("[Ljava/lang/String;", "[B"), ("[B", "java/lang/String"), ("[I", "java/lang/String"), ("[Ljava/lang/Object;", "java/lang/String"), ("[Ljava/util/HashMap$Node;", "java/lang/String"), ("[J", "java/lang/String"), ("[Ljava/lang/String;", "java/lang/String"), ("[B", "java/util/HashMap$TreeNode"), ("[I", "java/util/HashMap$TreeNode"), ("[Ljava/lang/Object;", "java/util/HashMap$TreeNode"), ("[Ljava/util/HashMap$Node;", "java/util/HashMap$TreeNode"), ("[J", "java/util/HashMap$TreeNode"), ("[Ljava/lang/String;", "java/util/HashMap$TreeNode"), ("[B", "java/lang/Comparable"), ("[I", "java/lang/Comparable"), ("[Ljava/lang/Object;", "java/lang/Comparable"), ("[Ljava/util/HashMap$Node;", "java/lang/Comparable"), ("[J", "java/lang/Comparable"), ("[Ljava/lang/String;", "java/lang/Comparable")]
