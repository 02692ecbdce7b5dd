/-! classes, fields, words of the tables by their places: printed by gen/names.py -/
set_option maxRecDepth 100000
def RX0 : String := "PegBandsLaw"
def RX1 : String := "PegBands"
def TX1 : u_T := fun k => match k with
  | 0 => ("PegBands", "tape", "[B", true)
  | 1 => ("PegBands", "length", "I", false)
  | 2 => ("PegBands", "size", "I", false)
  | 3 => ("PegBands", "today", "I", false)
  | 4 => ("PegBands", "broken", "LPegBands$Fault;", true)
  | 5 => ("PegBands", "words", "[Ljava/lang/String;", true)
  | 6 => ("PegBands", "board", "LPegBands$Board;", false)
  | 7 => ("PegBands", "calls", "LPegBands$Calls;", true)
  | 8 => ("PegBands", "coming", "LPegBands$Calls;", true)
  | 9 => ("PegBands", "boardReader", "LPegBands$BoardReader;", true)
  | 10 => ("PegBands", "callsReader", "LPegBands$CallsReader;", true)
  | 11 => ("PegBands", "fault", "I", false)
  | 12 => ("PegBands", "whyWrong", "I", false)
  | 13 => ("PegBands", "row", "[I", true)
  | 14 => ("PegBands", "leastRow", "[I", true)
  | 15 => ("PegBands", "other", "[I", true)
  | 16 => ("PegBands", "told", "[I", true)
  | 17 => ("PegBands", "toldMany", "I", false)
  | 18 => ("PegBands", "kept", "[[LPegBands$Band;", true)
  | 19 => ("PegBands", "undoMany", "I", false)
  | 20 => ("PegBands", "text", "[B", true)
  | 21 => ("PegBands", "textMany", "I", false)
  | 22 => ("PegBands", "three", "LPegBands$Band;", true)
  | 23 => ("PegBands", "found", "I", false)
  | 24 => ("PegBands", "foundArea", "I", false)
  | 25 => ("PegBands", "alongX", "[I", true)
  | 26 => ("PegBands", "alongY", "[I", true)
  | 27 => ("PegBands", "alongMany", "I", false)
  | 28 => ("PegBands", "steps", "[I", true)
  | 29 => ("PegBands", "queue", "[I", true)
  | 30 => ("PegBands", "reached", "I", false)
  | 31 => ("PegBands", "lineA", "[I", true)
  | 32 => ("PegBands", "lineB", "[I", true)
  | 33 => ("PegBands", "lineMany", "I", false)
  | 34 => ("PegBands", "sentenceReader", "LPegBands$SentenceReader;", true)
  | 35 => ("PegBands", "sentence", "LPegBands$Cond;", false)
  | _ => ("PegBands", "images", "[LPegBands$Kept;", true)
def tyX1 : Nat → FieldType := fun k => match k with
  | 0 => .array .byte
  | 1 => .int
  | 2 => .int
  | 3 => .int
  | 4 => .object "PegBands$Fault"
  | 5 => .array (.object "java/lang/String")
  | 6 => .object "PegBands$Board"
  | 7 => .object "PegBands$Calls"
  | 8 => .object "PegBands$Calls"
  | 9 => .object "PegBands$BoardReader"
  | 10 => .object "PegBands$CallsReader"
  | 11 => .int
  | 12 => .int
  | 13 => .array .int
  | 14 => .array .int
  | 15 => .array .int
  | 16 => .array .int
  | 17 => .int
  | 18 => .array (.array (.object "PegBands$Band"))
  | 19 => .int
  | 20 => .array .byte
  | 21 => .int
  | 22 => .object "PegBands$Band"
  | 23 => .int
  | 24 => .int
  | 25 => .array .int
  | 26 => .array .int
  | 27 => .int
  | 28 => .array .int
  | 29 => .array .int
  | 30 => .int
  | 31 => .array .int
  | 32 => .array .int
  | 33 => .int
  | 34 => .object "PegBands$SentenceReader"
  | 35 => .object "PegBands$Cond"
  | _ => .array (.object "PegBands$Kept")
abbrev wsX10 : List Cond := u_ws RX1 TX1 37
theorem nmX1 : ∀ a, a < 37 → ∀ b, b < 37 → a ≠ b → (TX1 a).2.1 ≠ (TX1 b).2.1 := by decide +kernel
theorem tyX1_ok : ∀ k, k < 37 → parseFieldDescriptor (TX1 k).2.2.1 = some (tyX1 k) := by decide +kernel
def RX2 : String := "PegBands$Fault"
def TX2 : u_T := fun k => match k with
  | 0 => ("java/lang/Throwable", "cause", "Ljava/lang/Throwable;", false)
  | 1 => ("java/lang/Throwable", "stackTrace", "[Ljava/lang/StackTraceElement;", false)
  | 2 => ("java/lang/Throwable", "suppressedExceptions", "Ljava/util/List;", false)
  | 3 => ("java/lang/Throwable", "detailMessage", "Ljava/lang/String;", false)
  | 4 => ("java/lang/Throwable", "backtrace", "Ljava/lang/Object;", false)
  | 5 => ("java/lang/Throwable", "depth", "I", false)
  | 6 => ("PegBands$Fault", "kind", "I", false)
  | _ => ("PegBands$Fault", "place", "I", false)
def tyX2 : Nat → FieldType := fun k => match k with
  | 0 => .object "java/lang/Throwable"
  | 1 => .array (.object "java/lang/StackTraceElement")
  | 2 => .object "java/util/List"
  | 3 => .object "java/lang/String"
  | 4 => .object "java/lang/Object"
  | 5 => .int
  | 6 => .int
  | _ => .int
abbrev wsX20 : List Cond := u_ws RX2 TX2 8
theorem nmX2 : ∀ a, a < 8 → ∀ b, b < 8 → a ≠ b → (TX2 a).2.1 ≠ (TX2 b).2.1 := by decide +kernel
theorem tyX2_ok : ∀ k, k < 8 → parseFieldDescriptor (TX2 k).2.2.1 = some (tyX2 k) := by decide +kernel
def RX3 : String := "PegBands$Board"
def TX3 : u_T := fun k => match k with
  | 0 => ("PegBands$Board", "bands", "[LPegBands$Band;", true)
  | 1 => ("PegBands$Board", "out", "[Z", true)
  | 2 => ("PegBands$Board", "w", "I", false)
  | 3 => ("PegBands$Board", "h", "I", false)
  | 4 => ("PegBands$Board", "many", "I", false)
  | 5 => ("PegBands$Board", "outs", "I", false)
  | _ => ("PegBands$Board", "bell", "Z", false)
def tyX3 : Nat → FieldType := fun k => match k with
  | 0 => .array (.object "PegBands$Band")
  | 1 => .array .boolean
  | 2 => .int
  | 3 => .int
  | 4 => .int
  | 5 => .int
  | _ => .boolean
abbrev wsX30 : List Cond := u_ws RX3 TX3 7
theorem nmX3 : ∀ a, a < 7 → ∀ b, b < 7 → a ≠ b → (TX3 a).2.1 ≠ (TX3 b).2.1 := by decide +kernel
theorem tyX3_ok : ∀ k, k < 7 → parseFieldDescriptor (TX3 k).2.2.1 = some (tyX3 k) := by decide +kernel
def RX4 : String := "PegBands$Calls"
def TX4 : u_T := fun k => match k with
  | 0 => ("PegBands$Calls", "xs", "[I", true)
  | 1 => ("PegBands$Calls", "ys", "[I", true)
  | 2 => ("PegBands$Calls", "x", "I", false)
  | 3 => ("PegBands$Calls", "y", "I", false)
  | _ => ("PegBands$Calls", "many", "I", false)
def tyX4 : Nat → FieldType := fun k => match k with
  | 0 => .array .int
  | 1 => .array .int
  | 2 => .int
  | 3 => .int
  | _ => .int
abbrev wsX40 : List Cond := u_ws RX4 TX4 5
theorem nmX4 : ∀ a, a < 5 → ∀ b, b < 5 → a ≠ b → (TX4 a).2.1 ≠ (TX4 b).2.1 := by decide +kernel
theorem tyX4_ok : ∀ k, k < 5 → parseFieldDescriptor (TX4 k).2.2.1 = some (tyX4 k) := by decide +kernel
def RX5 : String := "PegBands$Reader"
def RX6 : String := "PegBands$BoardReader"
def TX6 : u_T := fun k => match k with
  | 0 => ("PegBands$Reader", "most", "I", true)
  | 1 => ("PegBands$Reader", "p", "I", false)
  | 2 => ("PegBands$Reader", "at", "I", false)
  | 3 => ("PegBands$Reader", "token", "I", false)
  | 4 => ("PegBands$Reader", "value", "I", false)
  | 5 => ("PegBands$Reader", "many", "I", false)
  | 6 => ("PegBands$Reader", "name", "J", false)
  | 7 => ("PegBands$Reader", "this$0", "LPegBands;", true)
  | 8 => ("PegBands$BoardReader", "x", "LPegBands$Board;", false)
  | _ => ("PegBands$BoardReader", "this$0", "LPegBands;", true)
def tyX6 : Nat → FieldType := fun k => match k with
  | 0 => .int
  | 1 => .int
  | 2 => .int
  | 3 => .int
  | 4 => .int
  | 5 => .int
  | 6 => .long
  | 7 => .object "PegBands"
  | 8 => .object "PegBands$Board"
  | _ => .object "PegBands"
abbrev wsX60 : List Cond := u_ws RX6 TX6 10
theorem tyX6_ok : ∀ k, k < 10 → parseFieldDescriptor (TX6 k).2.2.1 = some (tyX6 k) := by decide +kernel
def RX7 : String := "PegBands$CallsReader"
def TX7 : u_T := fun k => match k with
  | 0 => ("PegBands$Reader", "most", "I", true)
  | 1 => ("PegBands$Reader", "p", "I", false)
  | 2 => ("PegBands$Reader", "at", "I", false)
  | 3 => ("PegBands$Reader", "token", "I", false)
  | 4 => ("PegBands$Reader", "value", "I", false)
  | 5 => ("PegBands$Reader", "many", "I", false)
  | 6 => ("PegBands$Reader", "name", "J", false)
  | 7 => ("PegBands$Reader", "this$0", "LPegBands;", true)
  | _ => ("PegBands$CallsReader", "this$0", "LPegBands;", true)
def tyX7 : Nat → FieldType := fun k => match k with
  | 0 => .int
  | 1 => .int
  | 2 => .int
  | 3 => .int
  | 4 => .int
  | 5 => .int
  | 6 => .long
  | 7 => .object "PegBands"
  | _ => .object "PegBands"
abbrev wsX70 : List Cond := u_ws RX7 TX7 9
theorem tyX7_ok : ∀ k, k < 9 → parseFieldDescriptor (TX7 k).2.2.1 = some (tyX7 k) := by decide +kernel
def RX8 : String := "PegBands$Band"
def TX8 : u_T := fun k => match k with
  | 0 => ("PegBands$Band", "xs", "[I", true)
  | 1 => ("PegBands$Band", "ys", "[I", true)
  | 2 => ("PegBands$Band", "many", "I", false)
  | _ => ("PegBands$Band", "name", "J", false)
def tyX8 : Nat → FieldType := fun k => match k with
  | 0 => .array .int
  | 1 => .array .int
  | 2 => .int
  | _ => .long
abbrev wsX80 : List Cond := u_ws RX8 TX8 4
theorem nmX8 : ∀ a, a < 4 → ∀ b, b < 4 → a ≠ b → (TX8 a).2.1 ≠ (TX8 b).2.1 := by decide +kernel
theorem tyX8_ok : ∀ k, k < 4 → parseFieldDescriptor (TX8 k).2.2.1 = some (tyX8 k) := by decide +kernel
def RX9 : String := "PegBands$SentenceReader"
def TX9 : u_T := fun k => match k with
  | 0 => ("PegBands$Reader", "most", "I", true)
  | 1 => ("PegBands$Reader", "p", "I", false)
  | 2 => ("PegBands$Reader", "at", "I", false)
  | 3 => ("PegBands$Reader", "token", "I", false)
  | 4 => ("PegBands$Reader", "value", "I", false)
  | 5 => ("PegBands$Reader", "many", "I", false)
  | 6 => ("PegBands$Reader", "name", "J", false)
  | 7 => ("PegBands$Reader", "this$0", "LPegBands;", true)
  | 8 => ("PegBands$SentenceReader", "counts", "[Ljava/lang/String;", true)
  | 9 => ("PegBands$SentenceReader", "ones", "I", false)
  | _ => ("PegBands$SentenceReader", "this$0", "LPegBands;", true)
def tyX9 : Nat → FieldType := fun k => match k with
  | 0 => .int
  | 1 => .int
  | 2 => .int
  | 3 => .int
  | 4 => .int
  | 5 => .int
  | 6 => .long
  | 7 => .object "PegBands"
  | 8 => .array (.object "java/lang/String")
  | 9 => .int
  | _ => .object "PegBands"
abbrev wsX90 : List Cond := u_ws RX9 TX9 11
theorem tyX9_ok : ∀ k, k < 11 → parseFieldDescriptor (TX9 k).2.2.1 = some (tyX9 k) := by decide +kernel
def RX10 : String := "PegBandsModel"
def TX10 : u_T := fun k => match k with
  | 0 => ("PegBandsModel", "thrown", "I", false)
  | 1 => ("PegBandsModel", "tape", "[I", true)
  | 2 => ("PegBandsModel", "taped", "I", false)
  | 3 => ("PegBandsModel", "size", "I", false)
  | 4 => ("PegBandsModel", "limit", "I", false)
  | 5 => ("PegBandsModel", "to", "I", false)
  | 6 => ("PegBandsModel", "from", "I", false)
  | 7 => ("PegBandsModel", "kind", "I", false)
  | 8 => ("PegBandsModel", "number", "I", false)
  | 9 => ("PegBandsModel", "signed", "I", false)
  | 10 => ("PegBandsModel", "fault", "I", false)
  | 11 => ("PegBandsModel", "place", "I", false)
  | 12 => ("PegBandsModel", "why", "I", false)
  | 13 => ("PegBandsModel", "word", "J", false)
  | 14 => ("PegBandsModel", "told", "I", false)
  | 15 => ("PegBandsModel", "now", "[I", true)
  | 16 => ("PegBandsModel", "read", "[I", true)
  | 17 => ("PegBandsModel", "line", "[I", true)
  | 18 => ("PegBandsModel", "kept", "[I", true)
  | 19 => ("PegBandsModel", "snaps", "[I", true)
  | 20 => ("PegBandsModel", "name", "[J", true)
  | 21 => ("PegBandsModel", "readName", "[J", true)
  | 22 => ("PegBandsModel", "snapName", "[J", true)
  | 23 => ("PegBandsModel", "said", "[J", true)
  | 24 => ("PegBandsModel", "keptName", "[J", true)
  | 25 => ("PegBandsModel", "keptSaid", "[J", true)
  | 26 => ("PegBandsModel", "isKept", "[Z", true)
  | 27 => ("PegBandsModel", "snapMany", "I", false)
  | 28 => ("PegBandsModel", "turned", "[I", true)
  | 29 => ("PegBandsModel", "row", "[I", true)
  | 30 => ("PegBandsModel", "least", "[I", true)
  | 31 => ("PegBandsModel", "other", "[I", true)
  | 32 => ("PegBandsModel", "formed", "[I", true)
  | 33 => ("PegBandsModel", "formMany", "I", false)
  | 34 => ("PegBandsModel", "lineMany", "I", false)
  | 35 => ("PegBandsModel", "text", "[I", true)
  | 36 => ("PegBandsModel", "texted", "I", false)
  | 37 => ("PegBandsModel", "areaFound", "I", false)
  | 38 => ("PegBandsModel", "alongX", "[I", true)
  | 39 => ("PegBandsModel", "alongY", "[I", true)
  | 40 => ("PegBandsModel", "sums", "[I", true)
  | 41 => ("PegBandsModel", "far", "[I", true)
  | 42 => ("PegBandsModel", "queue", "[I", true)
  | 43 => ("PegBandsModel", "lain", "[I", true)
  | 44 => ("PegBandsModel", "node", "[I", true)
  | 45 => ("PegBandsModel", "saying", "[J", true)
  | 46 => ("PegBandsModel", "nodes", "I", false)
  | 47 => ("PegBandsModel", "onesMany", "I", false)
  | 48 => ("PegBandsModel", "within", "I", false)
  | 49 => ("PegBandsModel", "top", "I", false)
  | _ => ("PegBandsModel", "named", "I", false)
def tyX10 : Nat → FieldType := fun k => match k with
  | 0 => .int
  | 1 => .array .int
  | 2 => .int
  | 3 => .int
  | 4 => .int
  | 5 => .int
  | 6 => .int
  | 7 => .int
  | 8 => .int
  | 9 => .int
  | 10 => .int
  | 11 => .int
  | 12 => .int
  | 13 => .long
  | 14 => .int
  | 15 => .array .int
  | 16 => .array .int
  | 17 => .array .int
  | 18 => .array .int
  | 19 => .array .int
  | 20 => .array .long
  | 21 => .array .long
  | 22 => .array .long
  | 23 => .array .long
  | 24 => .array .long
  | 25 => .array .long
  | 26 => .array .boolean
  | 27 => .int
  | 28 => .array .int
  | 29 => .array .int
  | 30 => .array .int
  | 31 => .array .int
  | 32 => .array .int
  | 33 => .int
  | 34 => .int
  | 35 => .array .int
  | 36 => .int
  | 37 => .int
  | 38 => .array .int
  | 39 => .array .int
  | 40 => .array .int
  | 41 => .array .int
  | 42 => .array .int
  | 43 => .array .int
  | 44 => .array .int
  | 45 => .array .long
  | 46 => .int
  | 47 => .int
  | 48 => .int
  | 49 => .int
  | _ => .int
abbrev wsX100 : List Cond := u_ws RX10 TX10 51
theorem nmX10 : ∀ a, a < 51 → ∀ b, b < 51 → a ≠ b → (TX10 a).2.1 ≠ (TX10 b).2.1 := by decide +kernel
theorem tyX10_ok : ∀ k, k < 51 → parseFieldDescriptor (TX10 k).2.2.1 = some (tyX10 k) := by decide +kernel
def RX11 : String := "PegBands$Cond"
def RX12 : String := "PegBands$Not"
def TX12 : u_T := fun k => match k with
  | _ => ("PegBands$Not", "a", "LPegBands$Cond;", true)
def tyX12 : Nat → FieldType := fun k => match k with
  | _ => .object "PegBands$Cond"
abbrev wsX120 : List Cond := u_ws RX12 TX12 1
theorem nmX12 : ∀ a, a < 1 → ∀ b, b < 1 → a ≠ b → (TX12 a).2.1 ≠ (TX12 b).2.1 := by decide +kernel
theorem tyX12_ok : ∀ k, k < 1 → parseFieldDescriptor (TX12 k).2.2.1 = some (tyX12 k) := by decide +kernel
def RX13 : String := "PegBands$Counts"
def TX13 : u_T := fun k => match k with
  | 0 => ("PegBands$Counts", "what", "I", true)
  | 1 => ("PegBands$Counts", "sign", "I", true)
  | _ => ("PegBands$Counts", "number", "I", true)
def tyX13 : Nat → FieldType := fun k => match k with
  | 0 => .int
  | 1 => .int
  | _ => .int
abbrev wsX130 : List Cond := u_ws RX13 TX13 3
theorem nmX13 : ∀ a, a < 3 → ∀ b, b < 3 → a ≠ b → (TX13 a).2.1 ≠ (TX13 b).2.1 := by decide +kernel
theorem tyX13_ok : ∀ k, k < 3 → parseFieldDescriptor (TX13 k).2.2.1 = some (tyX13 k) := by decide +kernel
def RX14 : String := "PegBands$Like"
def TX14 : u_T := fun k => match k with
  | 0 => ("PegBands$Like", "alike", "Z", true)
  | _ => ("PegBands$Like", "name", "J", true)
def tyX14 : Nat → FieldType := fun k => match k with
  | 0 => .boolean
  | _ => .long
abbrev wsX140 : List Cond := u_ws RX14 TX14 2
theorem nmX14 : ∀ a, a < 2 → ∀ b, b < 2 → a ≠ b → (TX14 a).2.1 ≠ (TX14 b).2.1 := by decide +kernel
theorem tyX14_ok : ∀ k, k < 2 → parseFieldDescriptor (TX14 k).2.2.1 = some (tyX14 k) := by decide +kernel
def RX15 : String := "PegBands$Both"
def TX15 : u_T := fun k => match k with
  | 0 => ("PegBands$Both", "a", "LPegBands$Cond;", true)
  | _ => ("PegBands$Both", "b", "LPegBands$Cond;", true)
def tyX15 : Nat → FieldType := fun k => match k with
  | 0 => .object "PegBands$Cond"
  | _ => .object "PegBands$Cond"
abbrev wsX150 : List Cond := u_ws RX15 TX15 2
theorem nmX15 : ∀ a, a < 2 → ∀ b, b < 2 → a ≠ b → (TX15 a).2.1 ≠ (TX15 b).2.1 := by decide +kernel
theorem tyX15_ok : ∀ k, k < 2 → parseFieldDescriptor (TX15 k).2.2.1 = some (tyX15 k) := by decide +kernel
def RX16 : String := "PegBands$Any"
def TX16 : u_T := fun k => match k with
  | 0 => ("PegBands$Any", "a", "LPegBands$Cond;", true)
  | _ => ("PegBands$Any", "b", "LPegBands$Cond;", true)
def tyX16 : Nat → FieldType := fun k => match k with
  | 0 => .object "PegBands$Cond"
  | _ => .object "PegBands$Cond"
abbrev wsX160 : List Cond := u_ws RX16 TX16 2
theorem nmX16 : ∀ a, a < 2 → ∀ b, b < 2 → a ≠ b → (TX16 a).2.1 ≠ (TX16 b).2.1 := by decide +kernel
theorem tyX16_ok : ∀ k, k < 2 → parseFieldDescriptor (TX16 k).2.2.1 = some (tyX16 k) := by decide +kernel
def RX17 : String := "PegBands$Kept"
def TX17 : u_T := fun k => match k with
  | 0 => ("PegBands$Kept", "board", "LPegBands$Board;", false)
  | 1 => ("PegBands$Kept", "bands", "[LPegBands$Band;", true)
  | 2 => ("PegBands$Kept", "calls", "LPegBands$Calls;", true)
  | 3 => ("PegBands$Kept", "lineA", "[I", true)
  | 4 => ("PegBands$Kept", "lineB", "[I", true)
  | 5 => ("PegBands$Kept", "many", "I", false)
  | 6 => ("PegBands$Kept", "lineMany", "I", false)
  | _ => ("PegBands$Kept", "sentence", "LPegBands$Cond;", false)
def tyX17 : Nat → FieldType := fun k => match k with
  | 0 => .object "PegBands$Board"
  | 1 => .array (.object "PegBands$Band")
  | 2 => .object "PegBands$Calls"
  | 3 => .array .int
  | 4 => .array .int
  | 5 => .int
  | 6 => .int
  | _ => .object "PegBands$Cond"
abbrev wsX170 : List Cond := u_ws RX17 TX17 8
theorem nmX17 : ∀ a, a < 8 → ∀ b, b < 8 → a ≠ b → (TX17 a).2.1 ≠ (TX17 b).2.1 := by decide +kernel
theorem tyX17_ok : ∀ k, k < 8 → parseFieldDescriptor (TX17 k).2.2.1 = some (tyX17 k) := by decide +kernel
def RJ0 : String := "java/lang/Throwable"
def TJ0 : u_T := fun k => match k with
  | 0 => ("java/lang/Throwable", "cause", "Ljava/lang/Throwable;", false)
  | 1 => ("java/lang/Throwable", "stackTrace", "[Ljava/lang/StackTraceElement;", false)
  | 2 => ("java/lang/Throwable", "suppressedExceptions", "Ljava/util/List;", false)
  | 3 => ("java/lang/Throwable", "detailMessage", "Ljava/lang/String;", false)
  | _ => ("java/lang/Throwable", "backtrace", "Ljava/lang/Object;", false)
def tyJ0 : Nat → FieldType := fun k => match k with
  | 0 => .object "java/lang/Throwable"
  | 1 => .array (.object "java/lang/StackTraceElement")
  | 2 => .object "java/util/List"
  | 3 => .object "java/lang/String"
  | _ => .object "java/lang/Object"
abbrev wsJ00 : List Cond := u_ws RJ0 TJ0 5
theorem nmJ0 : ∀ a, a < 5 → ∀ b, b < 5 → a ≠ b → (TJ0 a).2.1 ≠ (TJ0 b).2.1 := by decide +kernel
theorem tyJ0_ok : ∀ k, k < 5 → parseFieldDescriptor (TJ0 k).2.2.1 = some (tyJ0 k) := by decide +kernel
def RJ1 : String := "java/lang/Exception"
def RJ2 : String := "java/lang/String"
def RJ3 : String := "java/lang/StringLatin1"
def RJ4 : String := "jdk/internal/util/Preconditions"
def RJ5 : String := "java/lang/StringUTF16"
def RJ6 : String := "java/lang/Math"
def RJ7 : String := "java/lang/RuntimeException"
def RJ8 : String := "java/util/NoSuchElementException"
def TJ8 : u_T := fun k => match k with
  | 0 => ("java/lang/Throwable", "cause", "Ljava/lang/Throwable;", false)
  | 1 => ("java/lang/Throwable", "stackTrace", "[Ljava/lang/StackTraceElement;", false)
  | 2 => ("java/lang/Throwable", "suppressedExceptions", "Ljava/util/List;", false)
  | 3 => ("java/lang/Throwable", "detailMessage", "Ljava/lang/String;", false)
  | 4 => ("java/lang/Throwable", "backtrace", "Ljava/lang/Object;", false)
  | _ => ("java/lang/Throwable", "depth", "I", false)
def tyJ8 : Nat → FieldType := fun k => match k with
  | 0 => .object "java/lang/Throwable"
  | 1 => .array (.object "java/lang/StackTraceElement")
  | 2 => .object "java/util/List"
  | 3 => .object "java/lang/String"
  | 4 => .object "java/lang/Object"
  | _ => .int
abbrev wsJ80 : List Cond := u_ws RJ8 TJ8 6
theorem nmJ8 : ∀ a, a < 6 → ∀ b, b < 6 → a ≠ b → (TJ8 a).2.1 ≠ (TJ8 b).2.1 := by decide +kernel
theorem tyJ8_ok : ∀ k, k < 6 → parseFieldDescriptor (TJ8 k).2.2.1 = some (tyJ8 k) := by decide +kernel
def RJ9 : String := "java/lang/Object"
theorem q107 : (Jvm.Cond.initialized "PegBandsLaw") ∈ lw_all := lw_g (lw_at lw_m1 0 rfl) rfl
theorem q108 : (Jvm.Cond.initialized "PegBands") ∈ lw_all := lw_g (lw_at lw_m1 1 rfl) rfl
theorem q109 : (Jvm.Cond.initialized "java/lang/Throwable") ∈ lw_all := lw_g (lw_at lw_m1 2 rfl) rfl
theorem q110 : (Jvm.Cond.initialized "java/lang/Exception") ∈ lw_all := lw_g (lw_at lw_m1 3 rfl) rfl
theorem q111 : (Jvm.Cond.initialized "PegBands$Fault") ∈ lw_all := lw_g (lw_at lw_m1 4 rfl) rfl
theorem q112 : (Jvm.Cond.initialized "PegBands$Board") ∈ lw_all := lw_g (lw_at lw_m1 5 rfl) rfl
theorem q113 : (Jvm.Cond.initialized "PegBands$Calls") ∈ lw_all := lw_g (lw_at lw_m1 6 rfl) rfl
theorem q114 : (Jvm.Cond.initialized "PegBands$Reader") ∈ lw_all := lw_g (lw_at lw_m1 7 rfl) rfl
theorem q115 : (Jvm.Cond.initialized "PegBands$BoardReader") ∈ lw_all := lw_g (lw_at lw_m1 8 rfl) rfl
theorem q116 : (Jvm.Cond.initialized "PegBands$CallsReader") ∈ lw_all := lw_g (lw_at lw_m1 9 rfl) rfl
theorem q117 : (Jvm.Cond.initialized "PegBands$Band") ∈ lw_all := lw_g (lw_at lw_m1 10 rfl) rfl
theorem q118 : (Jvm.Cond.initialized "PegBands$SentenceReader") ∈ lw_all := lw_g (lw_at lw_m1 11 rfl) rfl
theorem q119 : (Jvm.Cond.initialized "PegBandsModel") ∈ lw_all := lw_g (lw_at lw_m1 12 rfl) rfl
theorem q120 : (Jvm.Cond.initialized "java/lang/String") ∈ lw_all := lw_g (lw_at lw_m1 13 rfl) rfl
theorem q121 : (Jvm.Cond.initialized "java/lang/StringLatin1") ∈ lw_all := lw_g (lw_at lw_m1 14 rfl) rfl
theorem q122 : (Jvm.Cond.initialized "jdk/internal/util/Preconditions") ∈ lw_all := lw_g (lw_at lw_m1 15 rfl) rfl
theorem q123 : (Jvm.Cond.initialized "java/lang/StringUTF16") ∈ lw_all := lw_g (lw_at lw_m1 16 rfl) rfl
theorem q124 : (Jvm.Cond.initialized "java/lang/Math") ∈ lw_all := lw_g (lw_at lw_m1 17 rfl) rfl
theorem q125 : (Jvm.Cond.initialized "java/lang/RuntimeException") ∈ lw_all := lw_g (lw_at lw_m1 18 rfl) rfl
theorem q126 : (Jvm.Cond.initialized "java/util/NoSuchElementException") ∈ lw_all := lw_g (lw_at lw_m1 19 rfl) rfl
theorem q127 : (Jvm.Cond.initialized "java/lang/System") ∈ lw_all := lw_g (lw_at lw_m1 20 rfl) rfl
theorem q128 : (Jvm.Cond.initialized "PegBands$Cond") ∈ lw_all := lw_g (lw_at lw_m1 21 rfl) rfl
theorem q129 : (Jvm.Cond.initialized "PegBands$Not") ∈ lw_all := lw_g (lw_at lw_m1 22 rfl) rfl
theorem q130 : (Jvm.Cond.initialized "PegBands$Counts") ∈ lw_all := lw_g (lw_at lw_m1 23 rfl) rfl
theorem q131 : (Jvm.Cond.initialized "PegBands$Like") ∈ lw_all := lw_g (lw_at lw_m1 24 rfl) rfl
theorem q132 : (Jvm.Cond.initialized "PegBands$Both") ∈ lw_all := lw_g (lw_at lw_m1 25 rfl) rfl
theorem q133 : (Jvm.Cond.initialized "PegBands$Any") ∈ lw_all := lw_g (lw_at lw_m1 26 rfl) rfl
theorem q134 : (Jvm.Cond.initialized "PegBands$Kept") ∈ lw_all := lw_g (lw_at lw_m1 27 rfl) rfl
theorem q135 : (Jvm.Cond.classLink "PegBandsLaw" (8 : Nat) "PegBands") ∈ lw_all := lw_g (lw_at lw_m1 28 rfl) rfl
theorem q136 : (Jvm.Cond.instantiable "PegBands" (37 : Nat)) ∈ lw_all := lw_g (lw_at lw_m1 29 rfl) rfl
theorem q137 : (Jvm.Cond.methodLink "PegBandsLaw" (15 : Nat) ({ cls := "PegBands", name := "<init>", desc := "()V" } : Jvm.MethodName)) ∈ lw_all := lw_g (lw_at lw_m1 30 rfl) rfl
theorem q138 : (Jvm.Cond.instanceMethod ({ cls := "PegBands", name := "<init>", desc := "()V" } : Jvm.MethodName)) ∈ lw_all := lw_g (lw_at lw_m1 31 rfl) rfl
theorem q139 : (Jvm.Cond.code ({ cls := "PegBands", name := "<init>", desc := "()V" } : Jvm.MethodName) prog_1_method_1_code (1 : Nat) (Option.none : Option Jvm.ClassFile.FieldType)) ∈ lw_all := lw_g (lw_at lw_m1 32 rfl) rfl
theorem q140 : (Jvm.Cond.methodLink "PegBands" (1 : Nat) ({ cls := "java/lang/Object", name := "<init>", desc := "()V" } : Jvm.MethodName)) ∈ lw_all := lw_g (lw_at lw_m1 33 rfl) rfl
theorem q141 : (Jvm.Cond.instanceMethod ({ cls := "java/lang/Object", name := "<init>", desc := "()V" } : Jvm.MethodName)) ∈ lw_all := lw_g (lw_at lw_m1 34 rfl) rfl
theorem q142 : (Jvm.Cond.code ({ cls := "java/lang/Object", name := "<init>", desc := "()V" } : Jvm.MethodName) object_method_1_code (1 : Nat) (Option.none : Option Jvm.ClassFile.FieldType)) ∈ lw_all := lw_g (lw_at lw_m1 35 rfl) rfl
theorem q143 : (Jvm.Cond.classLink "PegBands" (13 : Nat) "PegBands$Fault") ∈ lw_all := lw_g (lw_at lw_m1 36 rfl) rfl
theorem q144 : (Jvm.Cond.instantiable "PegBands$Fault" (8 : Nat)) ∈ lw_all := lw_g (lw_at lw_m1 37 rfl) rfl
theorem q145 : (Jvm.Cond.castable "PegBands$Fault" "PegBands$Fault") ∈ lw_tbl := lw_at lw_m1 38 rfl
theorem q146 : (Jvm.Cond.declares ({ cls := "java/lang/Exception", name := "<init>", desc := "()V" } : Jvm.MethodName)) ∈ lw_tbl := lw_at lw_m1 39 rfl
theorem q147 : (Jvm.Cond.declares ({ cls := "java/lang/Exception", name := "<init>", desc := "(Ljava/lang/String;)V" } : Jvm.MethodName)) ∈ lw_tbl := lw_at lw_m1 40 rfl
theorem q148 : (Jvm.Cond.declares ({ cls := "java/lang/Throwable", name := "<init>", desc := "()V" } : Jvm.MethodName)) ∈ lw_tbl := lw_at lw_m1 41 rfl
theorem q149 : (Jvm.Cond.declares ({ cls := "java/lang/Throwable", name := "<init>", desc := "(Ljava/lang/String;)V" } : Jvm.MethodName)) ∈ lw_tbl := lw_at lw_m1 42 rfl
theorem q150 : (Jvm.Cond.selects "PegBands$Fault" ({ cls := "java/lang/Throwable", name := "fillInStackTrace", desc := "(I)Ljava/lang/Throwable;" } : Jvm.MethodName) ({ cls := "java/lang/Throwable", name := "fillInStackTrace", desc := "(I)Ljava/lang/Throwable;" } : Jvm.MethodName)) ∈ lw_all := lw_g (lw_at lw_m1 43 rfl) rfl
theorem q151 : (Jvm.Cond.selects "PegBands$Fault" ({ cls := "java/lang/Throwable", name := "fillInStackTrace", desc := "()Ljava/lang/Throwable;" } : Jvm.MethodName) ({ cls := "java/lang/Throwable", name := "fillInStackTrace", desc := "()Ljava/lang/Throwable;" } : Jvm.MethodName)) ∈ lw_all := lw_g (lw_at lw_m1 44 rfl) rfl
theorem q152 : (Jvm.Cond.lays "PegBands$Fault" "java/lang/Throwable" "cause" "Ljava/lang/Throwable;") ∈ lw_all := lw_g (lw_at lw_m1 45 rfl) rfl
theorem q153 : (Jvm.Cond.lays "java/lang/Throwable" "java/lang/Throwable" "cause" "Ljava/lang/Throwable;") ∈ lw_all := lw_g (lw_at lw_m1 46 rfl) rfl
theorem q154 : (Jvm.Cond.lays "PegBands$Fault" "java/lang/Throwable" "stackTrace" "[Ljava/lang/StackTraceElement;") ∈ lw_all := lw_g (lw_at lw_m1 47 rfl) rfl
theorem q155 : (Jvm.Cond.lays "java/lang/Throwable" "java/lang/Throwable" "stackTrace" "[Ljava/lang/StackTraceElement;") ∈ lw_all := lw_g (lw_at lw_m1 48 rfl) rfl
theorem q156 : (Jvm.Cond.lays "PegBands$Fault" "java/lang/Throwable" "suppressedExceptions" "Ljava/util/List;") ∈ lw_all := lw_g (lw_at lw_m1 49 rfl) rfl
theorem q157 : (Jvm.Cond.lays "java/lang/Throwable" "java/lang/Throwable" "suppressedExceptions" "Ljava/util/List;") ∈ lw_all := lw_g (lw_at lw_m1 50 rfl) rfl
theorem q158 : (Jvm.Cond.lays "PegBands$Fault" "java/lang/Throwable" "detailMessage" "Ljava/lang/String;") ∈ lw_all := lw_g (lw_at lw_m1 51 rfl) rfl
theorem q159 : (Jvm.Cond.lays "java/lang/Throwable" "java/lang/Throwable" "detailMessage" "Ljava/lang/String;") ∈ lw_all := lw_g (lw_at lw_m1 52 rfl) rfl
theorem q160 : (Jvm.Cond.lays "PegBands$Fault" "java/lang/Throwable" "backtrace" "Ljava/lang/Object;") ∈ lw_all := lw_g (lw_at lw_m1 53 rfl) rfl
theorem q161 : (Jvm.Cond.lays "java/lang/Throwable" "java/lang/Throwable" "backtrace" "Ljava/lang/Object;") ∈ lw_all := lw_g (lw_at lw_m1 54 rfl) rfl
theorem q162 : (Jvm.Cond.fieldLink "java/lang/Throwable" (198 : Nat) "java/lang/Throwable" "backtrace" "Ljava/lang/Object;") ∈ lw_all := lw_g (lw_at lw_m1 55 rfl) rfl
theorem q163 : (Jvm.Cond.superclass "java/lang/Throwable" "java/lang/Object") ∈ lw_all := lw_g (lw_at lw_m1 56 rfl) rfl
theorem q164 : (Jvm.Cond.instanceMethod ({ cls := "java/lang/Throwable", name := "<init>", desc := "()V" } : Jvm.MethodName)) ∈ lw_all := lw_g (lw_at lw_m1 57 rfl) rfl
theorem q165 : (Jvm.Cond.code ({ cls := "java/lang/Throwable", name := "<init>", desc := "()V" } : Jvm.MethodName) prog_29_method_1_code (1 : Nat) (Option.none : Option Jvm.ClassFile.FieldType)) ∈ lw_all := lw_g (lw_at lw_m1 58 rfl) rfl
theorem q166 : (Jvm.Cond.methodLink "java/lang/Throwable" (1 : Nat) ({ cls := "java/lang/Object", name := "<init>", desc := "()V" } : Jvm.MethodName)) ∈ lw_all := lw_g (lw_at lw_m1 59 rfl) rfl
theorem q167 : (Jvm.Cond.fieldLink "java/lang/Throwable" (13 : Nat) "java/lang/Throwable" "UNASSIGNED_STACK" "[Ljava/lang/StackTraceElement;") ∈ lw_all := lw_g (lw_at lw_m1 60 rfl) rfl
theorem q168 : (Jvm.Cond.laysStatic "java/lang/Throwable" "UNASSIGNED_STACK" "[Ljava/lang/StackTraceElement;") ∈ lw_tbl := lw_at lw_m1 61 rfl
theorem q169 : (Jvm.Cond.fieldLink "java/lang/Throwable" (20 : Nat) "java/lang/Throwable" "SUPPRESSED_SENTINEL" "Ljava/util/List;") ∈ lw_all := lw_g (lw_at lw_m1 62 rfl) rfl
theorem q170 : (Jvm.Cond.laysStatic "java/lang/Throwable" "SUPPRESSED_SENTINEL" "Ljava/util/List;") ∈ lw_tbl := lw_at lw_m1 63 rfl
theorem q171 : (Jvm.Cond.methodLink "java/lang/Throwable" (27 : Nat) ({ cls := "java/lang/Throwable", name := "fillInStackTrace", desc := "()Ljava/lang/Throwable;" } : Jvm.MethodName)) ∈ lw_all := lw_g (lw_at lw_m1 64 rfl) rfl
theorem q172 : (Jvm.Cond.instanceMethod ({ cls := "java/lang/Throwable", name := "fillInStackTrace", desc := "()Ljava/lang/Throwable;" } : Jvm.MethodName)) ∈ lw_all := lw_g (lw_at lw_m1 65 rfl) rfl
theorem q173 : (Jvm.Cond.sameMethod "java/lang/Throwable" "java/lang/Throwable" "fillInStackTrace" "()Ljava/lang/Throwable;") ∈ lw_all := lw_g (lw_at lw_m1 66 rfl) rfl
theorem q174 : (Jvm.Cond.selects "java/util/NoSuchElementException" ({ cls := "java/lang/Throwable", name := "fillInStackTrace", desc := "()Ljava/lang/Throwable;" } : Jvm.MethodName) ({ cls := "java/lang/Throwable", name := "fillInStackTrace", desc := "()Ljava/lang/Throwable;" } : Jvm.MethodName)) ∈ lw_all := lw_g (lw_at lw_m1 67 rfl) rfl
theorem q175 : (Jvm.Cond.codeSync ({ cls := "java/lang/Throwable", name := "fillInStackTrace", desc := "()Ljava/lang/Throwable;" } : Jvm.MethodName) prog_29_method_18_code (1 : Nat) (Option.some (Jvm.ClassFile.FieldType.object "java/lang/Throwable"))) ∈ lw_all := lw_g (lw_at lw_m1 68 rfl) rfl
theorem q176 : (Jvm.Cond.methodLink "java/lang/Throwable" (202 : Nat) ({ cls := "java/lang/Throwable", name := "fillInStackTrace", desc := "(I)Ljava/lang/Throwable;" } : Jvm.MethodName)) ∈ lw_all := lw_g (lw_at lw_m1 69 rfl) rfl
theorem q177 : (Jvm.Cond.privateMethod ({ cls := "java/lang/Throwable", name := "fillInStackTrace", desc := "(I)Ljava/lang/Throwable;" } : Jvm.MethodName)) ∈ lw_tbl := lw_at lw_m1 70 rfl
theorem q178 : (Jvm.Cond.instanceMethod ({ cls := "java/lang/Throwable", name := "fillInStackTrace", desc := "(I)Ljava/lang/Throwable;" } : Jvm.MethodName)) ∈ lw_all := lw_g (lw_at lw_m1 71 rfl) rfl
theorem q179 : (Jvm.Cond.instantiable "java/lang/Throwable" (6 : Nat)) ∈ lw_all := lw_g (lw_at lw_m1 72 rfl) rfl
theorem q180 : (Jvm.Cond.native ({ cls := "java/lang/Throwable", name := "fillInStackTrace", desc := "(I)Ljava/lang/Throwable;" } : Jvm.MethodName)) ∈ lw_all := lw_g (lw_at lw_m1 73 rfl) rfl
theorem q181 : (Jvm.Cond.methodLink "PegBands" (15 : Nat) ({ cls := "PegBands$Fault", name := "<init>", desc := "()V" } : Jvm.MethodName)) ∈ lw_all := lw_g (lw_at lw_m1 74 rfl) rfl
theorem q182 : (Jvm.Cond.instanceMethod ({ cls := "PegBands$Fault", name := "<init>", desc := "()V" } : Jvm.MethodName)) ∈ lw_all := lw_g (lw_at lw_m1 75 rfl) rfl
theorem q183 : (Jvm.Cond.code ({ cls := "PegBands$Fault", name := "<init>", desc := "()V" } : Jvm.MethodName) prog_11_method_1_code (1 : Nat) (Option.none : Option Jvm.ClassFile.FieldType)) ∈ lw_all := lw_g (lw_at lw_m1 76 rfl) rfl
theorem q184 : (Jvm.Cond.methodLink "PegBands$Fault" (1 : Nat) ({ cls := "java/lang/Exception", name := "<init>", desc := "(Ljava/lang/String;Ljava/lang/Throwable;ZZ)V" } : Jvm.MethodName)) ∈ lw_all := lw_g (lw_at lw_m1 77 rfl) rfl
theorem q185 : (Jvm.Cond.instanceMethod ({ cls := "java/lang/Exception", name := "<init>", desc := "(Ljava/lang/String;Ljava/lang/Throwable;ZZ)V" } : Jvm.MethodName)) ∈ lw_all := lw_g (lw_at lw_m1 78 rfl) rfl
theorem q186 : (Jvm.Cond.code ({ cls := "java/lang/Exception", name := "<init>", desc := "(Ljava/lang/String;Ljava/lang/Throwable;ZZ)V" } : Jvm.MethodName) prog_22_method_5_code (5 : Nat) (Option.none : Option Jvm.ClassFile.FieldType)) ∈ lw_all := lw_g (lw_at lw_m1 79 rfl) rfl
theorem q187 : (Jvm.Cond.methodLink "java/lang/Exception" (16 : Nat) ({ cls := "java/lang/Throwable", name := "<init>", desc := "(Ljava/lang/String;Ljava/lang/Throwable;ZZ)V" } : Jvm.MethodName)) ∈ lw_all := lw_g (lw_at lw_m1 80 rfl) rfl
theorem q188 : (Jvm.Cond.instanceMethod ({ cls := "java/lang/Throwable", name := "<init>", desc := "(Ljava/lang/String;Ljava/lang/Throwable;ZZ)V" } : Jvm.MethodName)) ∈ lw_all := lw_g (lw_at lw_m1 81 rfl) rfl
theorem q189 : (Jvm.Cond.code ({ cls := "java/lang/Throwable", name := "<init>", desc := "(Ljava/lang/String;Ljava/lang/Throwable;ZZ)V" } : Jvm.MethodName) prog_29_method_5_code (5 : Nat) (Option.none : Option Jvm.ClassFile.FieldType)) ∈ lw_all := lw_g (lw_at lw_m1 82 rfl) rfl
theorem q190 : (Jvm.Cond.fieldLink "PegBands$Reader" (92 : Nat) "PegBands$Fault" "kind" "I") ∈ lw_all := lw_g (lw_at lw_m1 83 rfl) rfl
theorem q191 : (Jvm.Cond.fieldLink "PegBands" (222 : Nat) "PegBands$Fault" "kind" "I") ∈ lw_all := lw_g (lw_at lw_m1 84 rfl) rfl
theorem q192 : (Jvm.Cond.fieldLink "PegBands$Reader" (97 : Nat) "PegBands$Fault" "place" "I") ∈ lw_all := lw_g (lw_at lw_m1 85 rfl) rfl
theorem q193 : (Jvm.Cond.fieldLink "PegBands" (225 : Nat) "PegBands$Fault" "place" "I") ∈ lw_all := lw_g (lw_at lw_m1 86 rfl) rfl
theorem q194 : (Jvm.Cond.fieldLink "java/lang/Throwable" (198 : Nat) "java/lang/Throwable" "backtrace" "Ljava/lang/Object;") ∈ lw_all := lw_g (lw_at lw_m1 87 rfl) rfl
theorem q195 : (Jvm.Cond.fieldLink "java/lang/Throwable" (31 : Nat) "java/lang/Throwable" "detailMessage" "Ljava/lang/String;") ∈ lw_all := lw_g (lw_at lw_m1 88 rfl) rfl
theorem q196 : (Jvm.Cond.fieldLink "java/lang/Throwable" (7 : Nat) "java/lang/Throwable" "cause" "Ljava/lang/Throwable;") ∈ lw_all := lw_g (lw_at lw_m1 89 rfl) rfl
theorem q197 : (Jvm.Cond.fieldLink "java/lang/Throwable" (17 : Nat) "java/lang/Throwable" "stackTrace" "[Ljava/lang/StackTraceElement;") ∈ lw_all := lw_g (lw_at lw_m1 90 rfl) rfl
theorem q198 : (Jvm.Cond.fieldLink "java/lang/Throwable" (24 : Nat) "java/lang/Throwable" "suppressedExceptions" "Ljava/util/List;") ∈ lw_all := lw_g (lw_at lw_m1 91 rfl) rfl
theorem q199 : (Jvm.Cond.lays "PegBands$Fault" "PegBands$Fault" "kind" "I") ∈ lw_all := lw_g (lw_at lw_m1 92 rfl) rfl
theorem q200 : (Jvm.Cond.soleField "PegBands$Fault" "kind") ∈ lw_all := lw_g (lw_at lw_m1 93 rfl) rfl
theorem q201 : (Jvm.Cond.lays "PegBands$Fault" "PegBands$Fault" "place" "I") ∈ lw_all := lw_g (lw_at lw_m1 94 rfl) rfl
theorem q202 : (Jvm.Cond.soleField "PegBands$Fault" "place") ∈ lw_all := lw_g (lw_at lw_m1 95 rfl) rfl
theorem q203 : (Jvm.Cond.soleField "java/lang/Throwable" "backtrace") ∈ lw_all := lw_g (lw_at lw_m1 96 rfl) rfl
theorem q204 : (Jvm.Cond.soleField "java/lang/Throwable" "detailMessage") ∈ lw_all := lw_g (lw_at lw_m1 97 rfl) rfl
theorem q205 : (Jvm.Cond.soleField "java/lang/Throwable" "cause") ∈ lw_all := lw_g (lw_at lw_m1 98 rfl) rfl
theorem q206 : (Jvm.Cond.soleField "java/lang/Throwable" "stackTrace") ∈ lw_all := lw_g (lw_at lw_m1 99 rfl) rfl
theorem q207 : (Jvm.Cond.lays "PegBands$Fault" "java/lang/Throwable" "depth" "I") ∈ lw_all := lw_g (lw_at lw_m1 100 rfl) rfl
theorem q208 : (Jvm.Cond.soleField "java/lang/Throwable" "depth") ∈ lw_all := lw_g (lw_at lw_m1 101 rfl) rfl
theorem q209 : (Jvm.Cond.soleField "java/lang/Throwable" "suppressedExceptions") ∈ lw_all := lw_g (lw_at lw_m1 102 rfl) rfl
theorem q210 : (Jvm.Cond.superclass "PegBands$Fault" "java/lang/Exception") ∈ lw_all := lw_g (lw_at lw_m1 103 rfl) rfl
theorem q211 : (Jvm.Cond.arrayClass Jvm.ClassFile.FieldType.byte) ∈ lw_all := lw_g (lw_at lw_m1 104 rfl) rfl
theorem q212 : (Jvm.Cond.classLink "PegBands" (20 : Nat) "java/lang/String") ∈ lw_all := lw_g (lw_at lw_m1 105 rfl) rfl
theorem q213 : (Jvm.Cond.arrayOver (Jvm.ClassFile.FieldType.object "java/lang/String")) ∈ lw_tbl := lw_at lw_m1 106 rfl
theorem q214 : (Jvm.Cond.stringRef "PegBands" (22 : Nat) "board") ∈ lw_tbl := lw_at lw_m1 107 rfl
theorem q215 : (Jvm.Cond.stringRef "PegBands" (24 : Nat) "bell") ∈ lw_tbl := lw_at lw_m1 108 rfl
theorem q216 : (Jvm.Cond.stringRef "PegBands" (26 : Nat) "out") ∈ lw_tbl := lw_at lw_m1 109 rfl
theorem q217 : (Jvm.Cond.stringRef "PegBands" (28 : Nat) "band") ∈ lw_tbl := lw_at lw_m1 110 rfl
theorem q218 : (Jvm.Cond.stringRef "PegBands" (30 : Nat) "at") ∈ lw_tbl := lw_at lw_m1 111 rfl
theorem q219 : (Jvm.Cond.stringRef "PegBands" (32 : Nat) "by") ∈ lw_tbl := lw_at lw_m1 112 rfl
theorem q220 : (Jvm.Cond.stringRef "PegBands" (34 : Nat) "or") ∈ lw_tbl := lw_at lw_m1 113 rfl
theorem q221 : (Jvm.Cond.stringRef "PegBands" (36 : Nat) "and") ∈ lw_tbl := lw_at lw_m1 114 rfl
theorem q222 : (Jvm.Cond.stringRef "PegBands" (38 : Nat) "not") ∈ lw_tbl := lw_at lw_m1 115 rfl
theorem q223 : (Jvm.Cond.stringRef "PegBands" (40 : Nat) "in") ∈ lw_tbl := lw_at lw_m1 116 rfl
theorem q224 : (Jvm.Cond.stringRef "PegBands" (42 : Nat) "alike") ∈ lw_tbl := lw_at lw_m1 117 rfl
theorem q225 : (Jvm.Cond.stringRef "PegBands" (44 : Nat) "bent") ∈ lw_tbl := lw_at lw_m1 118 rfl
theorem q226 : (Jvm.Cond.stringRef "PegBands" (46 : Nat) "area") ∈ lw_tbl := lw_at lw_m1 119 rfl
theorem q227 : (Jvm.Cond.stringRef "PegBands" (48 : Nat) "on") ∈ lw_tbl := lw_at lw_m1 120 rfl
theorem q228 : (Jvm.Cond.stringRef "PegBands" (50 : Nat) "within") ∈ lw_tbl := lw_at lw_m1 121 rfl
theorem q229 : (Jvm.Cond.stringRef "PegBands" (52 : Nat) "corners") ∈ lw_tbl := lw_at lw_m1 122 rfl
theorem q230 : (Jvm.Cond.stringRef "PegBands" (54 : Nat) "right") ∈ lw_tbl := lw_at lw_m1 123 rfl
theorem q231 : (Jvm.Cond.classLink "PegBands" (60 : Nat) "PegBands$Board") ∈ lw_all := lw_g (lw_at lw_m1 124 rfl) rfl
theorem q232 : (Jvm.Cond.instantiable "PegBands$Board" (7 : Nat)) ∈ lw_all := lw_g (lw_at lw_m1 125 rfl) rfl
theorem q233 : (Jvm.Cond.methodLinkNest "PegBands" (62 : Nat) ({ cls := "PegBands$Board", name := "<init>", desc := "()V" } : Jvm.MethodName) "PegBands") ∈ lw_tbl := lw_at lw_m1 126 rfl
theorem q234 : (Jvm.Cond.instanceMethod ({ cls := "PegBands$Board", name := "<init>", desc := "()V" } : Jvm.MethodName)) ∈ lw_all := lw_g (lw_at lw_m1 127 rfl) rfl
theorem q235 : (Jvm.Cond.code ({ cls := "PegBands$Board", name := "<init>", desc := "()V" } : Jvm.MethodName) prog_4_method_1_code (1 : Nat) (Option.none : Option Jvm.ClassFile.FieldType)) ∈ lw_all := lw_g (lw_at lw_m1 128 rfl) rfl
theorem q236 : (Jvm.Cond.methodLink "PegBands$Board" (3 : Nat) ({ cls := "java/lang/Object", name := "<init>", desc := "()V" } : Jvm.MethodName)) ∈ lw_all := lw_g (lw_at lw_m1 129 rfl) rfl
theorem q237 : (Jvm.Cond.classLink "PegBands$Board" (9 : Nat) "PegBands$Band") ∈ lw_all := lw_g (lw_at lw_m1 130 rfl) rfl
theorem q238 : (Jvm.Cond.arrayOver (Jvm.ClassFile.FieldType.object "PegBands$Band")) ∈ lw_tbl := lw_at lw_m1 131 rfl
theorem q239 : (Jvm.Cond.fieldLink "PegBands$Board" (11 : Nat) "PegBands$Board" "bands" "[LPegBands$Band;") ∈ lw_all := lw_g (lw_at lw_m1 132 rfl) rfl
theorem q240 : (Jvm.Cond.fieldLinkNest "PegBands$Counts" (25 : Nat) "PegBands$Board" "bands" "[LPegBands$Band;" "PegBands") ∈ lw_tbl := lw_at lw_m1 133 rfl
theorem q241 : (Jvm.Cond.fieldLinkNest "PegBands$Like" (29 : Nat) "PegBands$Board" "bands" "[LPegBands$Band;" "PegBands") ∈ lw_tbl := lw_at lw_m1 134 rfl
theorem q242 : (Jvm.Cond.fieldLinkNest "PegBands$BoardReader" (117 : Nat) "PegBands$Board" "bands" "[LPegBands$Band;" "PegBands") ∈ lw_tbl := lw_at lw_m1 135 rfl
theorem q243 : (Jvm.Cond.fieldLinkNest "PegBands$Reader" (113 : Nat) "PegBands$Board" "bands" "[LPegBands$Band;" "PegBands") ∈ lw_tbl := lw_at lw_m1 136 rfl
theorem q244 : (Jvm.Cond.fieldLinkNest "PegBands" (248 : Nat) "PegBands$Board" "bands" "[LPegBands$Band;" "PegBands") ∈ lw_tbl := lw_at lw_m1 137 rfl
theorem q245 : (Jvm.Cond.fieldLink "PegBands$Board" (17 : Nat) "PegBands$Board" "out" "[Z") ∈ lw_all := lw_g (lw_at lw_m1 138 rfl) rfl
theorem q246 : (Jvm.Cond.fieldLinkNest "PegBands$BoardReader" (82 : Nat) "PegBands$Board" "out" "[Z" "PegBands") ∈ lw_tbl := lw_at lw_m1 139 rfl
theorem q247 : (Jvm.Cond.fieldLinkNest "PegBands" (238 : Nat) "PegBands$Board" "out" "[Z" "PegBands") ∈ lw_tbl := lw_at lw_m1 140 rfl
theorem q248 : (Jvm.Cond.fieldLink "PegBands$Board" (21 : Nat) "PegBands$Board" "w" "I") ∈ lw_all := lw_g (lw_at lw_m1 141 rfl) rfl
theorem q249 : (Jvm.Cond.fieldLinkNest "PegBands$CallsReader" (35 : Nat) "PegBands$Board" "w" "I" "PegBands") ∈ lw_tbl := lw_at lw_m1 142 rfl
theorem q250 : (Jvm.Cond.fieldLinkNest "PegBands$BoardReader" (33 : Nat) "PegBands$Board" "w" "I" "PegBands") ∈ lw_tbl := lw_at lw_m1 143 rfl
theorem q251 : (Jvm.Cond.fieldLinkNest "PegBands" (401 : Nat) "PegBands$Board" "w" "I" "PegBands") ∈ lw_tbl := lw_at lw_m1 144 rfl
theorem q252 : (Jvm.Cond.fieldLink "PegBands$Board" (29 : Nat) "PegBands$Board" "h" "I") ∈ lw_all := lw_g (lw_at lw_m1 145 rfl) rfl
theorem q253 : (Jvm.Cond.fieldLinkNest "PegBands$BoardReader" (39 : Nat) "PegBands$Board" "h" "I" "PegBands") ∈ lw_tbl := lw_at lw_m1 146 rfl
theorem q254 : (Jvm.Cond.fieldLinkNest "PegBands$CallsReader" (47 : Nat) "PegBands$Board" "h" "I" "PegBands") ∈ lw_tbl := lw_at lw_m1 147 rfl
theorem q255 : (Jvm.Cond.fieldLinkNest "PegBands" (392 : Nat) "PegBands$Board" "h" "I" "PegBands") ∈ lw_tbl := lw_at lw_m1 148 rfl
theorem q256 : (Jvm.Cond.fieldLinkNest "PegBands$Like" (23 : Nat) "PegBands$Board" "many" "I" "PegBands") ∈ lw_tbl := lw_at lw_m1 149 rfl
theorem q257 : (Jvm.Cond.fieldLinkNest "PegBands$BoardReader" (66 : Nat) "PegBands$Board" "many" "I" "PegBands") ∈ lw_tbl := lw_at lw_m1 150 rfl
theorem q258 : (Jvm.Cond.fieldLink "PegBands$Board" (57 : Nat) "PegBands$Board" "many" "I") ∈ lw_all := lw_g (lw_at lw_m1 151 rfl) rfl
theorem q259 : (Jvm.Cond.fieldLinkNest "PegBands$Reader" (110 : Nat) "PegBands$Board" "many" "I" "PegBands") ∈ lw_tbl := lw_at lw_m1 152 rfl
theorem q260 : (Jvm.Cond.fieldLinkNest "PegBands" (234 : Nat) "PegBands$Board" "many" "I" "PegBands") ∈ lw_tbl := lw_at lw_m1 153 rfl
theorem q261 : (Jvm.Cond.fieldLinkNest "PegBands$BoardReader" (69 : Nat) "PegBands$Board" "outs" "I" "PegBands") ∈ lw_tbl := lw_at lw_m1 154 rfl
theorem q262 : (Jvm.Cond.fieldLink "PegBands$Board" (69 : Nat) "PegBands$Board" "outs" "I") ∈ lw_all := lw_g (lw_at lw_m1 155 rfl) rfl
theorem q263 : (Jvm.Cond.fieldLinkNest "PegBands" (481 : Nat) "PegBands$Board" "outs" "I" "PegBands") ∈ lw_tbl := lw_at lw_m1 156 rfl
theorem q264 : (Jvm.Cond.fieldLinkNest "PegBands$BoardReader" (63 : Nat) "PegBands$Board" "bell" "Z" "PegBands") ∈ lw_tbl := lw_at lw_m1 157 rfl
theorem q265 : (Jvm.Cond.fieldLink "PegBands$Board" (53 : Nat) "PegBands$Board" "bell" "Z") ∈ lw_all := lw_g (lw_at lw_m1 158 rfl) rfl
theorem q266 : (Jvm.Cond.fieldLinkNest "PegBands" (484 : Nat) "PegBands$Board" "bell" "Z" "PegBands") ∈ lw_tbl := lw_at lw_m1 159 rfl
theorem q267 : (Jvm.Cond.laysFinal "PegBands$Board" "PegBands$Board" "bands" "[LPegBands$Band;") ∈ lw_all := lw_g (lw_at lw_m1 160 rfl) rfl
theorem q268 : (Jvm.Cond.soleField "PegBands$Board" "bands") ∈ lw_all := lw_g (lw_at lw_m1 161 rfl) rfl
theorem q269 : (Jvm.Cond.laysFinal "PegBands$Board" "PegBands$Board" "out" "[Z") ∈ lw_all := lw_g (lw_at lw_m1 162 rfl) rfl
theorem q270 : (Jvm.Cond.soleField "PegBands$Board" "out") ∈ lw_all := lw_g (lw_at lw_m1 163 rfl) rfl
theorem q271 : (Jvm.Cond.lays "PegBands$Board" "PegBands$Board" "w" "I") ∈ lw_all := lw_g (lw_at lw_m1 164 rfl) rfl
theorem q272 : (Jvm.Cond.soleField "PegBands$Board" "w") ∈ lw_all := lw_g (lw_at lw_m1 165 rfl) rfl
theorem q273 : (Jvm.Cond.lays "PegBands$Board" "PegBands$Board" "h" "I") ∈ lw_all := lw_g (lw_at lw_m1 166 rfl) rfl
theorem q274 : (Jvm.Cond.soleField "PegBands$Board" "h") ∈ lw_all := lw_g (lw_at lw_m1 167 rfl) rfl
theorem q275 : (Jvm.Cond.lays "PegBands$Board" "PegBands$Board" "many" "I") ∈ lw_all := lw_g (lw_at lw_m1 168 rfl) rfl
theorem q276 : (Jvm.Cond.soleField "PegBands$Board" "many") ∈ lw_all := lw_g (lw_at lw_m1 169 rfl) rfl
theorem q277 : (Jvm.Cond.lays "PegBands$Board" "PegBands$Board" "outs" "I") ∈ lw_all := lw_g (lw_at lw_m1 170 rfl) rfl
theorem q278 : (Jvm.Cond.soleField "PegBands$Board" "outs") ∈ lw_all := lw_g (lw_at lw_m1 171 rfl) rfl
theorem q279 : (Jvm.Cond.lays "PegBands$Board" "PegBands$Board" "bell" "Z") ∈ lw_all := lw_g (lw_at lw_m1 172 rfl) rfl
theorem q280 : (Jvm.Cond.soleField "PegBands$Board" "bell") ∈ lw_all := lw_g (lw_at lw_m1 173 rfl) rfl
theorem q281 : (Jvm.Cond.superclass "PegBands$Board" "java/lang/Object") ∈ lw_all := lw_g (lw_at lw_m1 174 rfl) rfl
theorem q282 : (Jvm.Cond.arrayClass Jvm.ClassFile.FieldType.boolean) ∈ lw_all := lw_g (lw_at lw_m1 175 rfl) rfl
theorem q283 : (Jvm.Cond.classLink "PegBands" (66 : Nat) "PegBands$Calls") ∈ lw_all := lw_g (lw_at lw_m1 176 rfl) rfl
theorem q284 : (Jvm.Cond.instantiable "PegBands$Calls" (5 : Nat)) ∈ lw_all := lw_g (lw_at lw_m1 177 rfl) rfl
theorem q285 : (Jvm.Cond.methodLinkNest "PegBands" (68 : Nat) ({ cls := "PegBands$Calls", name := "<init>", desc := "()V" } : Jvm.MethodName) "PegBands") ∈ lw_tbl := lw_at lw_m1 178 rfl
theorem q286 : (Jvm.Cond.instanceMethod ({ cls := "PegBands$Calls", name := "<init>", desc := "()V" } : Jvm.MethodName)) ∈ lw_all := lw_g (lw_at lw_m1 179 rfl) rfl
theorem q287 : (Jvm.Cond.code ({ cls := "PegBands$Calls", name := "<init>", desc := "()V" } : Jvm.MethodName) prog_7_method_1_code (1 : Nat) (Option.none : Option Jvm.ClassFile.FieldType)) ∈ lw_all := lw_g (lw_at lw_m1 180 rfl) rfl
theorem q288 : (Jvm.Cond.methodLink "PegBands$Calls" (3 : Nat) ({ cls := "java/lang/Object", name := "<init>", desc := "()V" } : Jvm.MethodName)) ∈ lw_all := lw_g (lw_at lw_m1 181 rfl) rfl
theorem q289 : (Jvm.Cond.fieldLink "PegBands$Calls" (9 : Nat) "PegBands$Calls" "xs" "[I") ∈ lw_all := lw_g (lw_at lw_m1 182 rfl) rfl
theorem q290 : (Jvm.Cond.fieldLinkNest "PegBands$CallsReader" (73 : Nat) "PegBands$Calls" "xs" "[I" "PegBands") ∈ lw_tbl := lw_at lw_m1 183 rfl
theorem q291 : (Jvm.Cond.fieldLink "PegBands$Calls" (15 : Nat) "PegBands$Calls" "ys" "[I") ∈ lw_all := lw_g (lw_at lw_m1 184 rfl) rfl
theorem q292 : (Jvm.Cond.fieldLinkNest "PegBands$CallsReader" (81 : Nat) "PegBands$Calls" "ys" "[I" "PegBands") ∈ lw_tbl := lw_at lw_m1 185 rfl
theorem q293 : (Jvm.Cond.fieldLink "PegBands$Calls" (24 : Nat) "PegBands$Calls" "x" "I") ∈ lw_all := lw_g (lw_at lw_m1 186 rfl) rfl
theorem q294 : (Jvm.Cond.fieldLinkNest "PegBands$CallsReader" (44 : Nat) "PegBands$Calls" "x" "I" "PegBands") ∈ lw_tbl := lw_at lw_m1 187 rfl
theorem q295 : (Jvm.Cond.fieldLink "PegBands$Calls" (28 : Nat) "PegBands$Calls" "y" "I") ∈ lw_all := lw_g (lw_at lw_m1 188 rfl) rfl
theorem q296 : (Jvm.Cond.fieldLinkNest "PegBands$CallsReader" (50 : Nat) "PegBands$Calls" "y" "I" "PegBands") ∈ lw_tbl := lw_at lw_m1 189 rfl
theorem q297 : (Jvm.Cond.fieldLinkNest "PegBands$CallsReader" (25 : Nat) "PegBands$Calls" "many" "I" "PegBands") ∈ lw_tbl := lw_at lw_m1 190 rfl
theorem q298 : (Jvm.Cond.fieldLink "PegBands$Calls" (31 : Nat) "PegBands$Calls" "many" "I") ∈ lw_all := lw_g (lw_at lw_m1 191 rfl) rfl
theorem q299 : (Jvm.Cond.fieldLinkNest "PegBands" (209 : Nat) "PegBands$Calls" "many" "I" "PegBands") ∈ lw_tbl := lw_at lw_m1 192 rfl
theorem q300 : (Jvm.Cond.laysFinal "PegBands$Calls" "PegBands$Calls" "xs" "[I") ∈ lw_all := lw_g (lw_at lw_m1 193 rfl) rfl
theorem q301 : (Jvm.Cond.soleField "PegBands$Calls" "xs") ∈ lw_all := lw_g (lw_at lw_m1 194 rfl) rfl
theorem q302 : (Jvm.Cond.laysFinal "PegBands$Calls" "PegBands$Calls" "ys" "[I") ∈ lw_all := lw_g (lw_at lw_m1 195 rfl) rfl
theorem q303 : (Jvm.Cond.soleField "PegBands$Calls" "ys") ∈ lw_all := lw_g (lw_at lw_m1 196 rfl) rfl
theorem q304 : (Jvm.Cond.lays "PegBands$Calls" "PegBands$Calls" "x" "I") ∈ lw_all := lw_g (lw_at lw_m1 197 rfl) rfl
theorem q305 : (Jvm.Cond.soleField "PegBands$Calls" "x") ∈ lw_all := lw_g (lw_at lw_m1 198 rfl) rfl
theorem q306 : (Jvm.Cond.lays "PegBands$Calls" "PegBands$Calls" "y" "I") ∈ lw_all := lw_g (lw_at lw_m1 199 rfl) rfl
theorem q307 : (Jvm.Cond.soleField "PegBands$Calls" "y") ∈ lw_all := lw_g (lw_at lw_m1 200 rfl) rfl
theorem q308 : (Jvm.Cond.lays "PegBands$Calls" "PegBands$Calls" "many" "I") ∈ lw_all := lw_g (lw_at lw_m1 201 rfl) rfl
theorem q309 : (Jvm.Cond.soleField "PegBands$Calls" "many") ∈ lw_all := lw_g (lw_at lw_m1 202 rfl) rfl
theorem q310 : (Jvm.Cond.superclass "PegBands$Calls" "java/lang/Object") ∈ lw_all := lw_g (lw_at lw_m1 203 rfl) rfl
theorem q311 : (Jvm.Cond.arrayClass Jvm.ClassFile.FieldType.int) ∈ lw_all := lw_g (lw_at lw_m1 204 rfl) rfl
theorem q312 : (Jvm.Cond.classLink "PegBands" (76 : Nat) "PegBands$BoardReader") ∈ lw_all := lw_g (lw_at lw_m1 205 rfl) rfl
theorem q313 : (Jvm.Cond.instantiable "PegBands$BoardReader" (10 : Nat)) ∈ lw_all := lw_g (lw_at lw_m1 206 rfl) rfl
theorem q314 : (Jvm.Cond.methodLink "PegBands" (78 : Nat) ({ cls := "PegBands$BoardReader", name := "<init>", desc := "(LPegBands;)V" } : Jvm.MethodName)) ∈ lw_all := lw_g (lw_at lw_m1 207 rfl) rfl
theorem q315 : (Jvm.Cond.instanceMethod ({ cls := "PegBands$BoardReader", name := "<init>", desc := "(LPegBands;)V" } : Jvm.MethodName)) ∈ lw_all := lw_g (lw_at lw_m1 208 rfl) rfl
theorem q316 : (Jvm.Cond.code ({ cls := "PegBands$BoardReader", name := "<init>", desc := "(LPegBands;)V" } : Jvm.MethodName) prog_5_method_1_code (2 : Nat) (Option.none : Option Jvm.ClassFile.FieldType)) ∈ lw_all := lw_g (lw_at lw_m1 209 rfl) rfl
theorem q317 : (Jvm.Cond.methodLink "PegBands$BoardReader" (9 : Nat) ({ cls := "PegBands$Reader", name := "<init>", desc := "(LPegBands;I)V" } : Jvm.MethodName)) ∈ lw_all := lw_g (lw_at lw_m1 210 rfl) rfl
theorem q318 : (Jvm.Cond.instanceMethod ({ cls := "PegBands$Reader", name := "<init>", desc := "(LPegBands;I)V" } : Jvm.MethodName)) ∈ lw_all := lw_g (lw_at lw_m1 211 rfl) rfl
theorem q319 : (Jvm.Cond.code ({ cls := "PegBands$Reader", name := "<init>", desc := "(LPegBands;I)V" } : Jvm.MethodName) prog_15_method_1_code (3 : Nat) (Option.none : Option Jvm.ClassFile.FieldType)) ∈ lw_all := lw_g (lw_at lw_m1 212 rfl) rfl
theorem q320 : (Jvm.Cond.methodLink "PegBands$Reader" (9 : Nat) ({ cls := "java/lang/Object", name := "<init>", desc := "()V" } : Jvm.MethodName)) ∈ lw_all := lw_g (lw_at lw_m1 213 rfl) rfl
theorem q321 : (Jvm.Cond.fieldLink "PegBands$BoardReader" (15 : Nat) "PegBands$BoardReader" "x" "LPegBands$Board;") ∈ lw_all := lw_g (lw_at lw_m1 214 rfl) rfl
theorem q322 : (Jvm.Cond.fieldLink "PegBands$BoardReader" (3 : Nat) "PegBands$BoardReader" "this$0" "LPegBands;") ∈ lw_all := lw_g (lw_at lw_m1 215 rfl) rfl
theorem q323 : (Jvm.Cond.fieldLink "PegBands$Reader" (15 : Nat) "PegBands$Reader" "most" "I") ∈ lw_all := lw_g (lw_at lw_m1 216 rfl) rfl
theorem q324 : (Jvm.Cond.fieldLink "PegBands$Reader" (19 : Nat) "PegBands$Reader" "p" "I") ∈ lw_all := lw_g (lw_at lw_m1 217 rfl) rfl
theorem q325 : (Jvm.Cond.fieldLink "PegBands$Reader" (40 : Nat) "PegBands$Reader" "at" "I") ∈ lw_all := lw_g (lw_at lw_m1 218 rfl) rfl
theorem q326 : (Jvm.Cond.fieldLink "PegBands$SentenceReader" (43 : Nat) "PegBands$SentenceReader" "token" "I") ∈ lw_all := lw_g (lw_at lw_m1 219 rfl) rfl
theorem q327 : (Jvm.Cond.sameField "PegBands$SentenceReader" "PegBands$Reader" "token" "I") ∈ lw_all := lw_g (lw_at lw_m1 220 rfl) rfl
theorem q328 : (Jvm.Cond.fieldLink "PegBands$BoardReader" (46 : Nat) "PegBands$BoardReader" "token" "I") ∈ lw_all := lw_g (lw_at lw_m1 221 rfl) rfl
theorem q329 : (Jvm.Cond.sameField "PegBands$BoardReader" "PegBands$Reader" "token" "I") ∈ lw_all := lw_g (lw_at lw_m1 222 rfl) rfl
theorem q330 : (Jvm.Cond.fieldLink "PegBands$CallsReader" (57 : Nat) "PegBands$CallsReader" "token" "I") ∈ lw_all := lw_g (lw_at lw_m1 223 rfl) rfl
theorem q331 : (Jvm.Cond.sameField "PegBands$CallsReader" "PegBands$Reader" "token" "I") ∈ lw_all := lw_g (lw_at lw_m1 224 rfl) rfl
theorem q332 : (Jvm.Cond.fieldLink "PegBands$Reader" (43 : Nat) "PegBands$Reader" "token" "I") ∈ lw_all := lw_g (lw_at lw_m1 225 rfl) rfl
theorem q333 : (Jvm.Cond.fieldLink "PegBands$BoardReader" (79 : Nat) "PegBands$BoardReader" "value" "I") ∈ lw_all := lw_g (lw_at lw_m1 226 rfl) rfl
theorem q334 : (Jvm.Cond.sameField "PegBands$BoardReader" "PegBands$Reader" "value" "I") ∈ lw_all := lw_g (lw_at lw_m1 227 rfl) rfl
theorem q335 : (Jvm.Cond.fieldLink "PegBands$SentenceReader" (125 : Nat) "PegBands$SentenceReader" "value" "I") ∈ lw_all := lw_g (lw_at lw_m1 228 rfl) rfl
theorem q336 : (Jvm.Cond.sameField "PegBands$SentenceReader" "PegBands$Reader" "value" "I") ∈ lw_all := lw_g (lw_at lw_m1 229 rfl) rfl
theorem q337 : (Jvm.Cond.fieldLink "PegBands$Reader" (57 : Nat) "PegBands$Reader" "value" "I") ∈ lw_all := lw_g (lw_at lw_m1 230 rfl) rfl
theorem q338 : (Jvm.Cond.fieldLink "PegBands$Reader" (64 : Nat) "PegBands$Reader" "many" "I") ∈ lw_all := lw_g (lw_at lw_m1 231 rfl) rfl
theorem q339 : (Jvm.Cond.fieldLink "PegBands$BoardReader" (97 : Nat) "PegBands$BoardReader" "name" "J") ∈ lw_all := lw_g (lw_at lw_m1 232 rfl) rfl
theorem q340 : (Jvm.Cond.sameField "PegBands$BoardReader" "PegBands$Reader" "name" "J") ∈ lw_all := lw_g (lw_at lw_m1 233 rfl) rfl
theorem q341 : (Jvm.Cond.fieldLink "PegBands$SentenceReader" (116 : Nat) "PegBands$SentenceReader" "name" "J") ∈ lw_all := lw_g (lw_at lw_m1 234 rfl) rfl
theorem q342 : (Jvm.Cond.sameField "PegBands$SentenceReader" "PegBands$Reader" "name" "J") ∈ lw_all := lw_g (lw_at lw_m1 235 rfl) rfl
theorem q343 : (Jvm.Cond.fieldLink "PegBands$Reader" (60 : Nat) "PegBands$Reader" "name" "J") ∈ lw_all := lw_g (lw_at lw_m1 236 rfl) rfl
theorem q344 : (Jvm.Cond.fieldLink "PegBands$Reader" (3 : Nat) "PegBands$Reader" "this$0" "LPegBands;") ∈ lw_all := lw_g (lw_at lw_m1 237 rfl) rfl
theorem q345 : (Jvm.Cond.lays "PegBands$BoardReader" "PegBands$BoardReader" "x" "LPegBands$Board;") ∈ lw_all := lw_g (lw_at lw_m1 238 rfl) rfl
theorem q346 : (Jvm.Cond.soleField "PegBands$BoardReader" "x") ∈ lw_all := lw_g (lw_at lw_m1 239 rfl) rfl
theorem q347 : (Jvm.Cond.laysFinal "PegBands$BoardReader" "PegBands$BoardReader" "this$0" "LPegBands;") ∈ lw_all := lw_g (lw_at lw_m2 0 rfl) rfl
theorem q348 : (Jvm.Cond.soleField "PegBands$BoardReader" "this$0") ∈ lw_all := lw_g (lw_at lw_m2 1 rfl) rfl
theorem q349 : (Jvm.Cond.laysFinal "PegBands$BoardReader" "PegBands$Reader" "most" "I") ∈ lw_all := lw_g (lw_at lw_m2 2 rfl) rfl
theorem q350 : (Jvm.Cond.soleField "PegBands$Reader" "most") ∈ lw_all := lw_g (lw_at lw_m2 3 rfl) rfl
theorem q351 : (Jvm.Cond.lays "PegBands$BoardReader" "PegBands$Reader" "p" "I") ∈ lw_all := lw_g (lw_at lw_m2 4 rfl) rfl
theorem q352 : (Jvm.Cond.soleField "PegBands$Reader" "p") ∈ lw_all := lw_g (lw_at lw_m2 5 rfl) rfl
theorem q353 : (Jvm.Cond.lays "PegBands$BoardReader" "PegBands$Reader" "at" "I") ∈ lw_all := lw_g (lw_at lw_m2 6 rfl) rfl
theorem q354 : (Jvm.Cond.soleField "PegBands$Reader" "at") ∈ lw_all := lw_g (lw_at lw_m2 7 rfl) rfl
theorem q355 : (Jvm.Cond.lays "PegBands$BoardReader" "PegBands$Reader" "token" "I") ∈ lw_all := lw_g (lw_at lw_m2 8 rfl) rfl
theorem q356 : (Jvm.Cond.soleField "PegBands$Reader" "token") ∈ lw_all := lw_g (lw_at lw_m2 9 rfl) rfl
theorem q357 : (Jvm.Cond.lays "PegBands$BoardReader" "PegBands$Reader" "value" "I") ∈ lw_all := lw_g (lw_at lw_m2 10 rfl) rfl
theorem q358 : (Jvm.Cond.soleField "PegBands$Reader" "value") ∈ lw_all := lw_g (lw_at lw_m2 11 rfl) rfl
theorem q359 : (Jvm.Cond.lays "PegBands$BoardReader" "PegBands$Reader" "many" "I") ∈ lw_all := lw_g (lw_at lw_m2 12 rfl) rfl
theorem q360 : (Jvm.Cond.soleField "PegBands$Reader" "many") ∈ lw_all := lw_g (lw_at lw_m2 13 rfl) rfl
theorem q361 : (Jvm.Cond.lays "PegBands$BoardReader" "PegBands$Reader" "name" "J") ∈ lw_all := lw_g (lw_at lw_m2 14 rfl) rfl
theorem q362 : (Jvm.Cond.soleField "PegBands$Reader" "name") ∈ lw_all := lw_g (lw_at lw_m2 15 rfl) rfl
theorem q363 : (Jvm.Cond.laysFinal "PegBands$BoardReader" "PegBands$Reader" "this$0" "LPegBands;") ∈ lw_all := lw_g (lw_at lw_m2 16 rfl) rfl
theorem q364 : (Jvm.Cond.soleField "PegBands$Reader" "this$0") ∈ lw_all := lw_g (lw_at lw_m2 17 rfl) rfl
theorem q365 : (Jvm.Cond.superclass "PegBands$BoardReader" "PegBands$Reader") ∈ lw_all := lw_g (lw_at lw_m2 18 rfl) rfl
theorem q366 : (Jvm.Cond.classLink "PegBands" (85 : Nat) "PegBands$CallsReader") ∈ lw_all := lw_g (lw_at lw_m2 19 rfl) rfl
theorem q367 : (Jvm.Cond.instantiable "PegBands$CallsReader" (9 : Nat)) ∈ lw_all := lw_g (lw_at lw_m2 20 rfl) rfl
theorem q368 : (Jvm.Cond.methodLink "PegBands" (87 : Nat) ({ cls := "PegBands$CallsReader", name := "<init>", desc := "(LPegBands;)V" } : Jvm.MethodName)) ∈ lw_all := lw_g (lw_at lw_m2 21 rfl) rfl
theorem q369 : (Jvm.Cond.instanceMethod ({ cls := "PegBands$CallsReader", name := "<init>", desc := "(LPegBands;)V" } : Jvm.MethodName)) ∈ lw_all := lw_g (lw_at lw_m2 22 rfl) rfl
theorem q370 : (Jvm.Cond.code ({ cls := "PegBands$CallsReader", name := "<init>", desc := "(LPegBands;)V" } : Jvm.MethodName) prog_8_method_1_code (2 : Nat) (Option.none : Option Jvm.ClassFile.FieldType)) ∈ lw_all := lw_g (lw_at lw_m2 23 rfl) rfl
theorem q371 : (Jvm.Cond.methodLink "PegBands$CallsReader" (9 : Nat) ({ cls := "PegBands$Reader", name := "<init>", desc := "(LPegBands;I)V" } : Jvm.MethodName)) ∈ lw_all := lw_g (lw_at lw_m2 24 rfl) rfl
theorem q372 : (Jvm.Cond.fieldLink "PegBands$CallsReader" (3 : Nat) "PegBands$CallsReader" "this$0" "LPegBands;") ∈ lw_all := lw_g (lw_at lw_m2 25 rfl) rfl
theorem q373 : (Jvm.Cond.laysFinal "PegBands$CallsReader" "PegBands$CallsReader" "this$0" "LPegBands;") ∈ lw_all := lw_g (lw_at lw_m2 26 rfl) rfl
theorem q374 : (Jvm.Cond.soleField "PegBands$CallsReader" "this$0") ∈ lw_all := lw_g (lw_at lw_m2 27 rfl) rfl
theorem q375 : (Jvm.Cond.laysFinal "PegBands$CallsReader" "PegBands$Reader" "most" "I") ∈ lw_all := lw_g (lw_at lw_m2 28 rfl) rfl
theorem q376 : (Jvm.Cond.lays "PegBands$CallsReader" "PegBands$Reader" "p" "I") ∈ lw_all := lw_g (lw_at lw_m2 29 rfl) rfl
theorem q377 : (Jvm.Cond.lays "PegBands$CallsReader" "PegBands$Reader" "at" "I") ∈ lw_all := lw_g (lw_at lw_m2 30 rfl) rfl
theorem q378 : (Jvm.Cond.lays "PegBands$CallsReader" "PegBands$Reader" "token" "I") ∈ lw_all := lw_g (lw_at lw_m2 31 rfl) rfl
theorem q379 : (Jvm.Cond.lays "PegBands$CallsReader" "PegBands$Reader" "value" "I") ∈ lw_all := lw_g (lw_at lw_m2 32 rfl) rfl
theorem q380 : (Jvm.Cond.lays "PegBands$CallsReader" "PegBands$Reader" "many" "I") ∈ lw_all := lw_g (lw_at lw_m2 33 rfl) rfl
theorem q381 : (Jvm.Cond.lays "PegBands$CallsReader" "PegBands$Reader" "name" "J") ∈ lw_all := lw_g (lw_at lw_m2 34 rfl) rfl
theorem q382 : (Jvm.Cond.laysFinal "PegBands$CallsReader" "PegBands$Reader" "this$0" "LPegBands;") ∈ lw_all := lw_g (lw_at lw_m2 35 rfl) rfl
theorem q383 : (Jvm.Cond.superclass "PegBands$CallsReader" "PegBands$Reader") ∈ lw_all := lw_g (lw_at lw_m2 36 rfl) rfl
theorem q384 : (Jvm.Cond.classLink "PegBands" (105 : Nat) "[LPegBands$Band;") ∈ lw_all := lw_g (lw_at lw_m2 37 rfl) rfl
theorem q385 : (Jvm.Cond.arrayOver (Jvm.ClassFile.FieldType.array (Jvm.ClassFile.FieldType.object "PegBands$Band"))) ∈ lw_tbl := lw_at lw_m2 38 rfl
theorem q386 : (Jvm.Cond.classLink "PegBands" (114 : Nat) "PegBands$Band") ∈ lw_all := lw_g (lw_at lw_m2 39 rfl) rfl
theorem q387 : (Jvm.Cond.instantiable "PegBands$Band" (4 : Nat)) ∈ lw_all := lw_g (lw_at lw_m2 40 rfl) rfl
theorem q388 : (Jvm.Cond.methodLink "PegBands" (116 : Nat) ({ cls := "PegBands$Band", name := "<init>", desc := "()V" } : Jvm.MethodName)) ∈ lw_all := lw_g (lw_at lw_m2 41 rfl) rfl
theorem q389 : (Jvm.Cond.instanceMethod ({ cls := "PegBands$Band", name := "<init>", desc := "()V" } : Jvm.MethodName)) ∈ lw_all := lw_g (lw_at lw_m2 42 rfl) rfl
theorem q390 : (Jvm.Cond.code ({ cls := "PegBands$Band", name := "<init>", desc := "()V" } : Jvm.MethodName) prog_3_method_1_code (1 : Nat) (Option.none : Option Jvm.ClassFile.FieldType)) ∈ lw_all := lw_g (lw_at lw_m2 43 rfl) rfl
theorem q391 : (Jvm.Cond.methodLink "PegBands$Band" (3 : Nat) ({ cls := "java/lang/Object", name := "<init>", desc := "()V" } : Jvm.MethodName)) ∈ lw_all := lw_g (lw_at lw_m2 44 rfl) rfl
theorem q392 : (Jvm.Cond.fieldLink "PegBands$Band" (9 : Nat) "PegBands$Band" "xs" "[I") ∈ lw_all := lw_g (lw_at lw_m2 45 rfl) rfl
theorem q393 : (Jvm.Cond.fieldLinkNest "PegBands$Board" (39 : Nat) "PegBands$Band" "xs" "[I" "PegBands") ∈ lw_tbl := lw_at lw_m2 46 rfl
theorem q394 : (Jvm.Cond.fieldLinkNest "PegBands" (273 : Nat) "PegBands$Band" "xs" "[I" "PegBands") ∈ lw_tbl := lw_at lw_m2 47 rfl
theorem q395 : (Jvm.Cond.fieldLink "PegBands$Band" (15 : Nat) "PegBands$Band" "ys" "[I") ∈ lw_all := lw_g (lw_at lw_m2 48 rfl) rfl
theorem q396 : (Jvm.Cond.fieldLinkNest "PegBands$Board" (43 : Nat) "PegBands$Band" "ys" "[I" "PegBands") ∈ lw_tbl := lw_at lw_m2 49 rfl
theorem q397 : (Jvm.Cond.fieldLinkNest "PegBands" (270 : Nat) "PegBands$Band" "ys" "[I" "PegBands") ∈ lw_tbl := lw_at lw_m2 50 rfl
theorem q398 : (Jvm.Cond.fieldLinkNest "PegBands$Counts" (49 : Nat) "PegBands$Band" "many" "I" "PegBands") ∈ lw_tbl := lw_at lw_m2 51 rfl
theorem q399 : (Jvm.Cond.fieldLink "PegBands$Band" (28 : Nat) "PegBands$Band" "many" "I") ∈ lw_all := lw_g (lw_at lw_m2 52 rfl) rfl
theorem q400 : (Jvm.Cond.fieldLinkNest "PegBands$Board" (36 : Nat) "PegBands$Band" "many" "I" "PegBands") ∈ lw_tbl := lw_at lw_m2 53 rfl
theorem q401 : (Jvm.Cond.fieldLinkNest "PegBands$BoardReader" (102 : Nat) "PegBands$Band" "many" "I" "PegBands") ∈ lw_tbl := lw_at lw_m2 54 rfl
theorem q402 : (Jvm.Cond.fieldLinkNest "PegBands" (251 : Nat) "PegBands$Band" "many" "I" "PegBands") ∈ lw_tbl := lw_at lw_m2 55 rfl
theorem q403 : (Jvm.Cond.fieldLinkNest "PegBands$Like" (33 : Nat) "PegBands$Band" "name" "J" "PegBands") ∈ lw_tbl := lw_at lw_m2 56 rfl
theorem q404 : (Jvm.Cond.fieldLink "PegBands$Band" (32 : Nat) "PegBands$Band" "name" "J") ∈ lw_all := lw_g (lw_at lw_m2 57 rfl) rfl
theorem q405 : (Jvm.Cond.fieldLinkNest "PegBands$BoardReader" (101 : Nat) "PegBands$Band" "name" "J" "PegBands") ∈ lw_tbl := lw_at lw_m2 58 rfl
theorem q406 : (Jvm.Cond.fieldLinkNest "PegBands$Reader" (117 : Nat) "PegBands$Band" "name" "J" "PegBands") ∈ lw_tbl := lw_at lw_m2 59 rfl
theorem q407 : (Jvm.Cond.laysFinal "PegBands$Band" "PegBands$Band" "xs" "[I") ∈ lw_all := lw_g (lw_at lw_m2 60 rfl) rfl
theorem q408 : (Jvm.Cond.soleField "PegBands$Band" "xs") ∈ lw_all := lw_g (lw_at lw_m2 61 rfl) rfl
theorem q409 : (Jvm.Cond.laysFinal "PegBands$Band" "PegBands$Band" "ys" "[I") ∈ lw_all := lw_g (lw_at lw_m2 62 rfl) rfl
theorem q410 : (Jvm.Cond.soleField "PegBands$Band" "ys") ∈ lw_all := lw_g (lw_at lw_m2 63 rfl) rfl
theorem q411 : (Jvm.Cond.lays "PegBands$Band" "PegBands$Band" "many" "I") ∈ lw_all := lw_g (lw_at lw_m2 64 rfl) rfl
theorem q412 : (Jvm.Cond.soleField "PegBands$Band" "many") ∈ lw_all := lw_g (lw_at lw_m2 65 rfl) rfl
theorem q413 : (Jvm.Cond.lays "PegBands$Band" "PegBands$Band" "name" "J") ∈ lw_all := lw_g (lw_at lw_m2 66 rfl) rfl
theorem q414 : (Jvm.Cond.soleField "PegBands$Band" "name") ∈ lw_all := lw_g (lw_at lw_m2 67 rfl) rfl
theorem q415 : (Jvm.Cond.superclass "PegBands$Band" "java/lang/Object") ∈ lw_all := lw_g (lw_at lw_m2 68 rfl) rfl
theorem q416 : (Jvm.Cond.constant "PegBands" (127 : Nat) (46656 : Int32)) ∈ lw_all := lw_g (lw_at lw_m2 69 rfl) rfl
theorem q417 : (Jvm.Cond.classLink "PegBands" (140 : Nat) "PegBands$SentenceReader") ∈ lw_all := lw_g (lw_at lw_m2 70 rfl) rfl
theorem q418 : (Jvm.Cond.instantiable "PegBands$SentenceReader" (11 : Nat)) ∈ lw_all := lw_g (lw_at lw_m2 71 rfl) rfl
theorem q419 : (Jvm.Cond.methodLink "PegBands" (142 : Nat) ({ cls := "PegBands$SentenceReader", name := "<init>", desc := "(LPegBands;)V" } : Jvm.MethodName)) ∈ lw_all := lw_g (lw_at lw_m2 72 rfl) rfl
theorem q420 : (Jvm.Cond.instanceMethod ({ cls := "PegBands$SentenceReader", name := "<init>", desc := "(LPegBands;)V" } : Jvm.MethodName)) ∈ lw_all := lw_g (lw_at lw_m2 73 rfl) rfl
theorem q421 : (Jvm.Cond.code ({ cls := "PegBands$SentenceReader", name := "<init>", desc := "(LPegBands;)V" } : Jvm.MethodName) prog_16_method_1_code (2 : Nat) (Option.none : Option Jvm.ClassFile.FieldType)) ∈ lw_all := lw_g (lw_at lw_m2 74 rfl) rfl
theorem q422 : (Jvm.Cond.methodLink "PegBands$SentenceReader" (9 : Nat) ({ cls := "PegBands$Reader", name := "<init>", desc := "(LPegBands;I)V" } : Jvm.MethodName)) ∈ lw_all := lw_g (lw_at lw_m2 75 rfl) rfl
theorem q423 : (Jvm.Cond.classLink "PegBands$SentenceReader" (15 : Nat) "java/lang/String") ∈ lw_all := lw_g (lw_at lw_m2 76 rfl) rfl
theorem q424 : (Jvm.Cond.stringRef "PegBands$SentenceReader" (17 : Nat) "area") ∈ lw_tbl := lw_at lw_m2 77 rfl
theorem q425 : (Jvm.Cond.stringRef "PegBands$SentenceReader" (19 : Nat) "on") ∈ lw_tbl := lw_at lw_m2 78 rfl
theorem q426 : (Jvm.Cond.stringRef "PegBands$SentenceReader" (21 : Nat) "within") ∈ lw_tbl := lw_at lw_m2 79 rfl
theorem q427 : (Jvm.Cond.stringRef "PegBands$SentenceReader" (23 : Nat) "corners") ∈ lw_tbl := lw_at lw_m2 80 rfl
theorem q428 : (Jvm.Cond.stringRef "PegBands$SentenceReader" (25 : Nat) "right") ∈ lw_tbl := lw_at lw_m2 81 rfl
theorem q429 : (Jvm.Cond.fieldLink "PegBands$SentenceReader" (27 : Nat) "PegBands$SentenceReader" "counts" "[Ljava/lang/String;") ∈ lw_all := lw_g (lw_at lw_m2 82 rfl) rfl
theorem q430 : (Jvm.Cond.fieldLink "PegBands$SentenceReader" (31 : Nat) "PegBands$SentenceReader" "ones" "I") ∈ lw_all := lw_g (lw_at lw_m2 83 rfl) rfl
theorem q431 : (Jvm.Cond.fieldLinkNest "PegBands" (463 : Nat) "PegBands$SentenceReader" "ones" "I" "PegBands") ∈ lw_tbl := lw_at lw_m2 84 rfl
theorem q432 : (Jvm.Cond.fieldLink "PegBands$SentenceReader" (3 : Nat) "PegBands$SentenceReader" "this$0" "LPegBands;") ∈ lw_all := lw_g (lw_at lw_m2 85 rfl) rfl
theorem q433 : (Jvm.Cond.laysFinal "PegBands$SentenceReader" "PegBands$SentenceReader" "counts" "[Ljava/lang/String;") ∈ lw_all := lw_g (lw_at lw_m2 86 rfl) rfl
theorem q434 : (Jvm.Cond.soleField "PegBands$SentenceReader" "counts") ∈ lw_all := lw_g (lw_at lw_m2 87 rfl) rfl
theorem q435 : (Jvm.Cond.lays "PegBands$SentenceReader" "PegBands$SentenceReader" "ones" "I") ∈ lw_all := lw_g (lw_at lw_m2 88 rfl) rfl
theorem q436 : (Jvm.Cond.soleField "PegBands$SentenceReader" "ones") ∈ lw_all := lw_g (lw_at lw_m2 89 rfl) rfl
theorem q437 : (Jvm.Cond.laysFinal "PegBands$SentenceReader" "PegBands$SentenceReader" "this$0" "LPegBands;") ∈ lw_all := lw_g (lw_at lw_m2 90 rfl) rfl
theorem q438 : (Jvm.Cond.soleField "PegBands$SentenceReader" "this$0") ∈ lw_all := lw_g (lw_at lw_m2 91 rfl) rfl
theorem q439 : (Jvm.Cond.laysFinal "PegBands$SentenceReader" "PegBands$Reader" "most" "I") ∈ lw_all := lw_g (lw_at lw_m2 92 rfl) rfl
theorem q440 : (Jvm.Cond.lays "PegBands$SentenceReader" "PegBands$Reader" "p" "I") ∈ lw_all := lw_g (lw_at lw_m2 93 rfl) rfl
theorem q441 : (Jvm.Cond.lays "PegBands$SentenceReader" "PegBands$Reader" "at" "I") ∈ lw_all := lw_g (lw_at lw_m2 94 rfl) rfl
theorem q442 : (Jvm.Cond.lays "PegBands$SentenceReader" "PegBands$Reader" "token" "I") ∈ lw_all := lw_g (lw_at lw_m2 95 rfl) rfl
theorem q443 : (Jvm.Cond.lays "PegBands$SentenceReader" "PegBands$Reader" "value" "I") ∈ lw_all := lw_g (lw_at lw_m2 96 rfl) rfl
theorem q444 : (Jvm.Cond.lays "PegBands$SentenceReader" "PegBands$Reader" "many" "I") ∈ lw_all := lw_g (lw_at lw_m2 97 rfl) rfl
theorem q445 : (Jvm.Cond.lays "PegBands$SentenceReader" "PegBands$Reader" "name" "J") ∈ lw_all := lw_g (lw_at lw_m2 98 rfl) rfl
theorem q446 : (Jvm.Cond.laysFinal "PegBands$SentenceReader" "PegBands$Reader" "this$0" "LPegBands;") ∈ lw_all := lw_g (lw_at lw_m2 99 rfl) rfl
theorem q447 : (Jvm.Cond.superclass "PegBands$SentenceReader" "PegBands$Reader") ∈ lw_all := lw_g (lw_at lw_m2 100 rfl) rfl
theorem q448 : (Jvm.Cond.classLink "PegBands" (147 : Nat) "PegBands$Kept") ∈ lw_all := lw_g (lw_at lw_m2 101 rfl) rfl
theorem q449 : (Jvm.Cond.arrayOver (Jvm.ClassFile.FieldType.object "PegBands$Kept")) ∈ lw_tbl := lw_at lw_m2 102 rfl
theorem q450 : (Jvm.Cond.fieldLink "PegBands" (9 : Nat) "PegBands" "tape" "[B") ∈ lw_all := lw_g (lw_at lw_m2 103 rfl) rfl
theorem q451 : (Jvm.Cond.fieldLinkNest "PegBands$Reader" (28 : Nat) "PegBands" "tape" "[B" "PegBands") ∈ lw_tbl := lw_at lw_m2 104 rfl
theorem q452 : (Jvm.Cond.fieldLink "PegBands" (153 : Nat) "PegBands" "length" "I") ∈ lw_all := lw_g (lw_at lw_m2 105 rfl) rfl
theorem q453 : (Jvm.Cond.fieldLinkNest "PegBands$Reader" (25 : Nat) "PegBands" "size" "I" "PegBands") ∈ lw_tbl := lw_at lw_m2 106 rfl
theorem q454 : (Jvm.Cond.fieldLink "PegBands" (161 : Nat) "PegBands" "size" "I") ∈ lw_all := lw_g (lw_at lw_m2 107 rfl) rfl
theorem q455 : (Jvm.Cond.fieldLink "PegBands" (16 : Nat) "PegBands" "broken" "LPegBands$Fault;") ∈ lw_all := lw_g (lw_at lw_m2 108 rfl) rfl
theorem q456 : (Jvm.Cond.fieldLinkNest "PegBands$Reader" (88 : Nat) "PegBands" "broken" "LPegBands$Fault;" "PegBands") ∈ lw_tbl := lw_at lw_m2 109 rfl
theorem q457 : (Jvm.Cond.fieldLink "PegBands" (56 : Nat) "PegBands" "words" "[Ljava/lang/String;") ∈ lw_all := lw_g (lw_at lw_m2 110 rfl) rfl
theorem q458 : (Jvm.Cond.fieldLinkNest "PegBands$Reader" (80 : Nat) "PegBands" "words" "[Ljava/lang/String;" "PegBands") ∈ lw_tbl := lw_at lw_m2 111 rfl
theorem q459 : (Jvm.Cond.fieldLink "PegBands" (63 : Nat) "PegBands" "board" "LPegBands$Board;") ∈ lw_all := lw_g (lw_at lw_m2 112 rfl) rfl
theorem q460 : (Jvm.Cond.fieldLinkNest "PegBands$Counts" (19 : Nat) "PegBands" "board" "LPegBands$Board;" "PegBands") ∈ lw_tbl := lw_at lw_m2 113 rfl
theorem q461 : (Jvm.Cond.fieldLinkNest "PegBands$Like" (17 : Nat) "PegBands" "board" "LPegBands$Board;" "PegBands") ∈ lw_tbl := lw_at lw_m2 114 rfl
theorem q462 : (Jvm.Cond.fieldLinkNest "PegBands$CallsReader" (31 : Nat) "PegBands" "board" "LPegBands$Board;" "PegBands") ∈ lw_tbl := lw_at lw_m2 115 rfl
theorem q463 : (Jvm.Cond.fieldLinkNest "PegBands$SentenceReader" (108 : Nat) "PegBands" "board" "LPegBands$Board;" "PegBands") ∈ lw_tbl := lw_at lw_m2 116 rfl
theorem q464 : (Jvm.Cond.fieldLink "PegBands" (69 : Nat) "PegBands" "calls" "LPegBands$Calls;") ∈ lw_all := lw_g (lw_at lw_m2 117 rfl) rfl
theorem q465 : (Jvm.Cond.fieldLink "PegBands" (73 : Nat) "PegBands" "coming" "LPegBands$Calls;") ∈ lw_all := lw_g (lw_at lw_m2 118 rfl) rfl
theorem q466 : (Jvm.Cond.fieldLink "PegBands" (81 : Nat) "PegBands" "boardReader" "LPegBands$BoardReader;") ∈ lw_all := lw_g (lw_at lw_m2 119 rfl) rfl
theorem q467 : (Jvm.Cond.fieldLink "PegBands" (88 : Nat) "PegBands" "callsReader" "LPegBands$CallsReader;") ∈ lw_all := lw_g (lw_at lw_m2 120 rfl) rfl
theorem q468 : (Jvm.Cond.fieldLink "PegBands" (202 : Nat) "PegBands" "fault" "I") ∈ lw_all := lw_g (lw_at lw_m2 121 rfl) rfl
theorem q469 : (Jvm.Cond.fieldLinkNest "PegBands$BoardReader" (114 : Nat) "PegBands" "whyWrong" "I" "PegBands") ∈ lw_tbl := lw_at lw_m2 122 rfl
theorem q470 : (Jvm.Cond.fieldLink "PegBands" (228 : Nat) "PegBands" "whyWrong" "I") ∈ lw_all := lw_g (lw_at lw_m2 123 rfl) rfl
theorem q471 : (Jvm.Cond.fieldLink "PegBands" (92 : Nat) "PegBands" "row" "[I") ∈ lw_all := lw_g (lw_at lw_m2 124 rfl) rfl
theorem q472 : (Jvm.Cond.fieldLink "PegBands" (96 : Nat) "PegBands" "leastRow" "[I") ∈ lw_all := lw_g (lw_at lw_m2 125 rfl) rfl
theorem q473 : (Jvm.Cond.fieldLink "PegBands" (99 : Nat) "PegBands" "other" "[I") ∈ lw_all := lw_g (lw_at lw_m2 126 rfl) rfl
theorem q474 : (Jvm.Cond.fieldLink "PegBands" (102 : Nat) "PegBands" "told" "[I") ∈ lw_all := lw_g (lw_at lw_m2 127 rfl) rfl
theorem q475 : (Jvm.Cond.fieldLink "PegBands" (327 : Nat) "PegBands" "toldMany" "I") ∈ lw_all := lw_g (lw_at lw_m2 128 rfl) rfl
theorem q476 : (Jvm.Cond.fieldLink "PegBands" (107 : Nat) "PegBands" "kept" "[[LPegBands$Band;") ∈ lw_all := lw_g (lw_at lw_m2 129 rfl) rfl
theorem q477 : (Jvm.Cond.fieldLink "PegBands" (215 : Nat) "PegBands" "undoMany" "I") ∈ lw_all := lw_g (lw_at lw_m2 130 rfl) rfl
theorem q478 : (Jvm.Cond.fieldLink "PegBands" (111 : Nat) "PegBands" "text" "[B") ∈ lw_all := lw_g (lw_at lw_m2 131 rfl) rfl
theorem q479 : (Jvm.Cond.fieldLink "PegBands" (367 : Nat) "PegBands" "textMany" "I") ∈ lw_all := lw_g (lw_at lw_m2 132 rfl) rfl
theorem q480 : (Jvm.Cond.fieldLink "PegBands" (117 : Nat) "PegBands" "three" "LPegBands$Band;") ∈ lw_all := lw_g (lw_at lw_m2 133 rfl) rfl
theorem q481 : (Jvm.Cond.fieldLink "PegBands" (389 : Nat) "PegBands" "found" "I") ∈ lw_all := lw_g (lw_at lw_m2 134 rfl) rfl
theorem q482 : (Jvm.Cond.fieldLink "PegBands" (386 : Nat) "PegBands" "foundArea" "I") ∈ lw_all := lw_g (lw_at lw_m2 135 rfl) rfl
theorem q483 : (Jvm.Cond.fieldLink "PegBands" (121 : Nat) "PegBands" "alongX" "[I") ∈ lw_all := lw_g (lw_at lw_m2 136 rfl) rfl
theorem q484 : (Jvm.Cond.fieldLink "PegBands" (124 : Nat) "PegBands" "alongY" "[I") ∈ lw_all := lw_g (lw_at lw_m2 137 rfl) rfl
theorem q485 : (Jvm.Cond.fieldLink "PegBands" (410 : Nat) "PegBands" "alongMany" "I") ∈ lw_all := lw_g (lw_at lw_m2 138 rfl) rfl
theorem q486 : (Jvm.Cond.fieldLink "PegBands" (128 : Nat) "PegBands" "steps" "[I") ∈ lw_all := lw_g (lw_at lw_m2 139 rfl) rfl
theorem q487 : (Jvm.Cond.fieldLink "PegBands" (131 : Nat) "PegBands" "queue" "[I") ∈ lw_all := lw_g (lw_at lw_m2 140 rfl) rfl
theorem q488 : (Jvm.Cond.fieldLink "PegBands" (427 : Nat) "PegBands" "reached" "I") ∈ lw_all := lw_g (lw_at lw_m2 141 rfl) rfl
theorem q489 : (Jvm.Cond.fieldLink "PegBands" (134 : Nat) "PegBands" "lineA" "[I") ∈ lw_all := lw_g (lw_at lw_m2 142 rfl) rfl
theorem q490 : (Jvm.Cond.fieldLink "PegBands" (137 : Nat) "PegBands" "lineB" "[I") ∈ lw_all := lw_g (lw_at lw_m2 143 rfl) rfl
theorem q491 : (Jvm.Cond.fieldLink "PegBands" (212 : Nat) "PegBands" "lineMany" "I") ∈ lw_all := lw_g (lw_at lw_m2 144 rfl) rfl
theorem q492 : (Jvm.Cond.fieldLink "PegBands" (143 : Nat) "PegBands" "sentenceReader" "LPegBands$SentenceReader;") ∈ lw_all := lw_g (lw_at lw_m2 145 rfl) rfl
theorem q493 : (Jvm.Cond.fieldLink "PegBands" (218 : Nat) "PegBands" "sentence" "LPegBands$Cond;") ∈ lw_all := lw_g (lw_at lw_m2 146 rfl) rfl
theorem q494 : (Jvm.Cond.fieldLink "PegBands" (149 : Nat) "PegBands" "images" "[LPegBands$Kept;") ∈ lw_all := lw_g (lw_at lw_m2 147 rfl) rfl
theorem q495 : (Jvm.Cond.laysFinal "PegBands" "PegBands" "tape" "[B") ∈ lw_all := lw_g (lw_at lw_m2 148 rfl) rfl
theorem q496 : (Jvm.Cond.soleField "PegBands" "tape") ∈ lw_all := lw_g (lw_at lw_m2 149 rfl) rfl
theorem q497 : (Jvm.Cond.lays "PegBands" "PegBands" "length" "I") ∈ lw_all := lw_g (lw_at lw_m2 150 rfl) rfl
theorem q498 : (Jvm.Cond.soleField "PegBands" "length") ∈ lw_all := lw_g (lw_at lw_m2 151 rfl) rfl
theorem q499 : (Jvm.Cond.lays "PegBands" "PegBands" "size" "I") ∈ lw_all := lw_g (lw_at lw_m2 152 rfl) rfl
theorem q500 : (Jvm.Cond.soleField "PegBands" "size") ∈ lw_all := lw_g (lw_at lw_m2 153 rfl) rfl
theorem q501 : (Jvm.Cond.lays "PegBands" "PegBands" "today" "I") ∈ lw_all := lw_g (lw_at lw_m2 154 rfl) rfl
theorem q502 : (Jvm.Cond.soleField "PegBands" "today") ∈ lw_all := lw_g (lw_at lw_m2 155 rfl) rfl
theorem q503 : (Jvm.Cond.laysFinal "PegBands" "PegBands" "broken" "LPegBands$Fault;") ∈ lw_all := lw_g (lw_at lw_m2 156 rfl) rfl
theorem q504 : (Jvm.Cond.soleField "PegBands" "broken") ∈ lw_all := lw_g (lw_at lw_m2 157 rfl) rfl
theorem q505 : (Jvm.Cond.laysFinal "PegBands" "PegBands" "words" "[Ljava/lang/String;") ∈ lw_all := lw_g (lw_at lw_m2 158 rfl) rfl
theorem q506 : (Jvm.Cond.soleField "PegBands" "words") ∈ lw_all := lw_g (lw_at lw_m2 159 rfl) rfl
theorem q507 : (Jvm.Cond.lays "PegBands" "PegBands" "board" "LPegBands$Board;") ∈ lw_all := lw_g (lw_at lw_m2 160 rfl) rfl
theorem q508 : (Jvm.Cond.soleField "PegBands" "board") ∈ lw_all := lw_g (lw_at lw_m2 161 rfl) rfl
theorem q509 : (Jvm.Cond.laysFinal "PegBands" "PegBands" "calls" "LPegBands$Calls;") ∈ lw_all := lw_g (lw_at lw_m2 162 rfl) rfl
theorem q510 : (Jvm.Cond.soleField "PegBands" "calls") ∈ lw_all := lw_g (lw_at lw_m2 163 rfl) rfl
theorem q511 : (Jvm.Cond.laysFinal "PegBands" "PegBands" "coming" "LPegBands$Calls;") ∈ lw_all := lw_g (lw_at lw_m2 164 rfl) rfl
theorem q512 : (Jvm.Cond.soleField "PegBands" "coming") ∈ lw_all := lw_g (lw_at lw_m2 165 rfl) rfl
theorem q513 : (Jvm.Cond.laysFinal "PegBands" "PegBands" "boardReader" "LPegBands$BoardReader;") ∈ lw_all := lw_g (lw_at lw_m2 166 rfl) rfl
theorem q514 : (Jvm.Cond.soleField "PegBands" "boardReader") ∈ lw_all := lw_g (lw_at lw_m2 167 rfl) rfl
theorem q515 : (Jvm.Cond.laysFinal "PegBands" "PegBands" "callsReader" "LPegBands$CallsReader;") ∈ lw_all := lw_g (lw_at lw_m2 168 rfl) rfl
theorem q516 : (Jvm.Cond.soleField "PegBands" "callsReader") ∈ lw_all := lw_g (lw_at lw_m2 169 rfl) rfl
theorem q517 : (Jvm.Cond.lays "PegBands" "PegBands" "fault" "I") ∈ lw_all := lw_g (lw_at lw_m2 170 rfl) rfl
theorem q518 : (Jvm.Cond.soleField "PegBands" "fault") ∈ lw_all := lw_g (lw_at lw_m2 171 rfl) rfl
theorem q519 : (Jvm.Cond.lays "PegBands" "PegBands" "whyWrong" "I") ∈ lw_all := lw_g (lw_at lw_m2 172 rfl) rfl
theorem q520 : (Jvm.Cond.soleField "PegBands" "whyWrong") ∈ lw_all := lw_g (lw_at lw_m2 173 rfl) rfl
theorem q521 : (Jvm.Cond.laysFinal "PegBands" "PegBands" "row" "[I") ∈ lw_all := lw_g (lw_at lw_m2 174 rfl) rfl
theorem q522 : (Jvm.Cond.soleField "PegBands" "row") ∈ lw_all := lw_g (lw_at lw_m2 175 rfl) rfl
theorem q523 : (Jvm.Cond.laysFinal "PegBands" "PegBands" "leastRow" "[I") ∈ lw_all := lw_g (lw_at lw_m2 176 rfl) rfl
theorem q524 : (Jvm.Cond.soleField "PegBands" "leastRow") ∈ lw_all := lw_g (lw_at lw_m2 177 rfl) rfl
theorem q525 : (Jvm.Cond.laysFinal "PegBands" "PegBands" "other" "[I") ∈ lw_all := lw_g (lw_at lw_m2 178 rfl) rfl
theorem q526 : (Jvm.Cond.soleField "PegBands" "other") ∈ lw_all := lw_g (lw_at lw_m2 179 rfl) rfl
theorem q527 : (Jvm.Cond.laysFinal "PegBands" "PegBands" "told" "[I") ∈ lw_all := lw_g (lw_at lw_m2 180 rfl) rfl
theorem q528 : (Jvm.Cond.soleField "PegBands" "told") ∈ lw_all := lw_g (lw_at lw_m2 181 rfl) rfl
theorem q529 : (Jvm.Cond.lays "PegBands" "PegBands" "toldMany" "I") ∈ lw_all := lw_g (lw_at lw_m2 182 rfl) rfl
theorem q530 : (Jvm.Cond.soleField "PegBands" "toldMany") ∈ lw_all := lw_g (lw_at lw_m2 183 rfl) rfl
theorem q531 : (Jvm.Cond.laysFinal "PegBands" "PegBands" "kept" "[[LPegBands$Band;") ∈ lw_all := lw_g (lw_at lw_m2 184 rfl) rfl
theorem q532 : (Jvm.Cond.soleField "PegBands" "kept") ∈ lw_all := lw_g (lw_at lw_m2 185 rfl) rfl
theorem q533 : (Jvm.Cond.lays "PegBands" "PegBands" "undoMany" "I") ∈ lw_all := lw_g (lw_at lw_m2 186 rfl) rfl
theorem q534 : (Jvm.Cond.soleField "PegBands" "undoMany") ∈ lw_all := lw_g (lw_at lw_m2 187 rfl) rfl
theorem q535 : (Jvm.Cond.laysFinal "PegBands" "PegBands" "text" "[B") ∈ lw_all := lw_g (lw_at lw_m2 188 rfl) rfl
theorem q536 : (Jvm.Cond.soleField "PegBands" "text") ∈ lw_all := lw_g (lw_at lw_m2 189 rfl) rfl
theorem q537 : (Jvm.Cond.lays "PegBands" "PegBands" "textMany" "I") ∈ lw_all := lw_g (lw_at lw_m2 190 rfl) rfl
theorem q538 : (Jvm.Cond.soleField "PegBands" "textMany") ∈ lw_all := lw_g (lw_at lw_m2 191 rfl) rfl
theorem q539 : (Jvm.Cond.laysFinal "PegBands" "PegBands" "three" "LPegBands$Band;") ∈ lw_all := lw_g (lw_at lw_m2 192 rfl) rfl
theorem q540 : (Jvm.Cond.soleField "PegBands" "three") ∈ lw_all := lw_g (lw_at lw_m2 193 rfl) rfl
theorem q541 : (Jvm.Cond.lays "PegBands" "PegBands" "found" "I") ∈ lw_all := lw_g (lw_at lw_m2 194 rfl) rfl
theorem q542 : (Jvm.Cond.soleField "PegBands" "found") ∈ lw_all := lw_g (lw_at lw_m2 195 rfl) rfl
theorem q543 : (Jvm.Cond.lays "PegBands" "PegBands" "foundArea" "I") ∈ lw_all := lw_g (lw_at lw_m2 196 rfl) rfl
theorem q544 : (Jvm.Cond.soleField "PegBands" "foundArea") ∈ lw_all := lw_g (lw_at lw_m2 197 rfl) rfl
theorem q545 : (Jvm.Cond.laysFinal "PegBands" "PegBands" "alongX" "[I") ∈ lw_all := lw_g (lw_at lw_m2 198 rfl) rfl
theorem q546 : (Jvm.Cond.soleField "PegBands" "alongX") ∈ lw_all := lw_g (lw_at lw_m2 199 rfl) rfl
theorem q547 : (Jvm.Cond.laysFinal "PegBands" "PegBands" "alongY" "[I") ∈ lw_all := lw_g (lw_at lw_m2 200 rfl) rfl
theorem q548 : (Jvm.Cond.soleField "PegBands" "alongY") ∈ lw_all := lw_g (lw_at lw_m2 201 rfl) rfl
theorem q549 : (Jvm.Cond.lays "PegBands" "PegBands" "alongMany" "I") ∈ lw_all := lw_g (lw_at lw_m2 202 rfl) rfl
theorem q550 : (Jvm.Cond.soleField "PegBands" "alongMany") ∈ lw_all := lw_g (lw_at lw_m2 203 rfl) rfl
theorem q551 : (Jvm.Cond.laysFinal "PegBands" "PegBands" "steps" "[I") ∈ lw_all := lw_g (lw_at lw_m2 204 rfl) rfl
theorem q552 : (Jvm.Cond.soleField "PegBands" "steps") ∈ lw_all := lw_g (lw_at lw_m2 205 rfl) rfl
theorem q553 : (Jvm.Cond.laysFinal "PegBands" "PegBands" "queue" "[I") ∈ lw_all := lw_g (lw_at lw_m2 206 rfl) rfl
theorem q554 : (Jvm.Cond.soleField "PegBands" "queue") ∈ lw_all := lw_g (lw_at lw_m2 207 rfl) rfl
theorem q555 : (Jvm.Cond.lays "PegBands" "PegBands" "reached" "I") ∈ lw_all := lw_g (lw_at lw_m2 208 rfl) rfl
theorem q556 : (Jvm.Cond.soleField "PegBands" "reached") ∈ lw_all := lw_g (lw_at lw_m2 209 rfl) rfl
theorem q557 : (Jvm.Cond.laysFinal "PegBands" "PegBands" "lineA" "[I") ∈ lw_all := lw_g (lw_at lw_m2 210 rfl) rfl
theorem q558 : (Jvm.Cond.soleField "PegBands" "lineA") ∈ lw_all := lw_g (lw_at lw_m2 211 rfl) rfl
theorem q559 : (Jvm.Cond.laysFinal "PegBands" "PegBands" "lineB" "[I") ∈ lw_all := lw_g (lw_at lw_m2 212 rfl) rfl
theorem q560 : (Jvm.Cond.soleField "PegBands" "lineB") ∈ lw_all := lw_g (lw_at lw_m2 213 rfl) rfl
theorem q561 : (Jvm.Cond.lays "PegBands" "PegBands" "lineMany" "I") ∈ lw_all := lw_g (lw_at lw_m2 214 rfl) rfl
theorem q562 : (Jvm.Cond.soleField "PegBands" "lineMany") ∈ lw_all := lw_g (lw_at lw_m2 215 rfl) rfl
theorem q563 : (Jvm.Cond.laysFinal "PegBands" "PegBands" "sentenceReader" "LPegBands$SentenceReader;") ∈ lw_all := lw_g (lw_at lw_m2 216 rfl) rfl
theorem q564 : (Jvm.Cond.soleField "PegBands" "sentenceReader") ∈ lw_all := lw_g (lw_at lw_m2 217 rfl) rfl
theorem q565 : (Jvm.Cond.lays "PegBands" "PegBands" "sentence" "LPegBands$Cond;") ∈ lw_all := lw_g (lw_at lw_m2 218 rfl) rfl
theorem q566 : (Jvm.Cond.soleField "PegBands" "sentence") ∈ lw_all := lw_g (lw_at lw_m2 219 rfl) rfl
theorem q567 : (Jvm.Cond.laysFinal "PegBands" "PegBands" "images" "[LPegBands$Kept;") ∈ lw_all := lw_g (lw_at lw_m2 220 rfl) rfl
theorem q568 : (Jvm.Cond.soleField "PegBands" "images") ∈ lw_all := lw_g (lw_at lw_m2 221 rfl) rfl
theorem q569 : (Jvm.Cond.superclass "PegBands" "java/lang/Object") ∈ lw_all := lw_g (lw_at lw_m2 222 rfl) rfl
theorem q570 : (Jvm.Cond.methodLink "PegBandsLaw" (19 : Nat) ({ cls := "PegBands", name := "feed", desc := "(IIIII)I" } : Jvm.MethodName)) ∈ lw_all := lw_g (lw_at lw_m2 223 rfl) rfl
theorem q571 : (Jvm.Cond.instanceMethod ({ cls := "PegBands", name := "feed", desc := "(IIIII)I" } : Jvm.MethodName)) ∈ lw_all := lw_g (lw_at lw_m2 224 rfl) rfl
theorem q572 : (Jvm.Cond.selects "PegBands" ({ cls := "PegBands", name := "feed", desc := "(IIIII)I" } : Jvm.MethodName) ({ cls := "PegBands", name := "feed", desc := "(IIIII)I" } : Jvm.MethodName)) ∈ lw_all := lw_g (lw_at lw_m2 225 rfl) rfl
theorem q573 : (Jvm.Cond.code ({ cls := "PegBands", name := "feed", desc := "(IIIII)I" } : Jvm.MethodName) prog_1_method_2_code (6 : Nat) (Option.some Jvm.ClassFile.FieldType.int)) ∈ lw_all := lw_g (lw_at lw_m2 226 rfl) rfl
theorem q574 : (Jvm.Cond.methodLink "PegBands" (157 : Nat) ({ cls := "PegBands", name := "four", desc := "(I)V" } : Jvm.MethodName)) ∈ lw_all := lw_g (lw_at lw_m2 227 rfl) rfl
theorem q575 : (Jvm.Cond.privateMethod ({ cls := "PegBands", name := "four", desc := "(I)V" } : Jvm.MethodName)) ∈ lw_tbl := lw_at lw_m2 228 rfl
theorem q576 : (Jvm.Cond.instanceMethod ({ cls := "PegBands", name := "four", desc := "(I)V" } : Jvm.MethodName)) ∈ lw_all := lw_g (lw_at lw_m2 229 rfl) rfl
theorem q577 : (Jvm.Cond.code ({ cls := "PegBands", name := "four", desc := "(I)V" } : Jvm.MethodName) prog_1_method_3_code (3 : Nat) (Option.none : Option Jvm.ClassFile.FieldType)) ∈ lw_all := lw_g (lw_at lw_m2 230 rfl) rfl
theorem q578 : (Jvm.Cond.methodLink "PegBandsLaw" (24 : Nat) ({ cls := "PegBands", name := "end", desc := "(I)Z" } : Jvm.MethodName)) ∈ lw_all := lw_g (lw_at lw_m2 231 rfl) rfl
theorem q579 : (Jvm.Cond.instanceMethod ({ cls := "PegBands", name := "end", desc := "(I)Z" } : Jvm.MethodName)) ∈ lw_all := lw_g (lw_at lw_m2 232 rfl) rfl
theorem q580 : (Jvm.Cond.selects "PegBands" ({ cls := "PegBands", name := "end", desc := "(I)Z" } : Jvm.MethodName) ({ cls := "PegBands", name := "end", desc := "(I)Z" } : Jvm.MethodName)) ∈ lw_all := lw_g (lw_at lw_m2 233 rfl) rfl
theorem q581 : (Jvm.Cond.code ({ cls := "PegBands", name := "end", desc := "(I)Z" } : Jvm.MethodName) prog_1_method_4_code (2 : Nat) (Option.some Jvm.ClassFile.FieldType.boolean)) ∈ lw_all := lw_g (lw_at lw_m2 234 rfl) rfl
theorem q582 : (Jvm.Cond.methodLink "PegBandsLaw" (29 : Nat) ({ cls := "PegBands", name := "board", desc := "()I" } : Jvm.MethodName)) ∈ lw_all := lw_g (lw_at lw_m2 235 rfl) rfl
theorem q583 : (Jvm.Cond.instanceMethod ({ cls := "PegBands", name := "board", desc := "()I" } : Jvm.MethodName)) ∈ lw_all := lw_g (lw_at lw_m2 236 rfl) rfl
theorem q584 : (Jvm.Cond.selects "PegBands" ({ cls := "PegBands", name := "board", desc := "()I" } : Jvm.MethodName) ({ cls := "PegBands", name := "board", desc := "()I" } : Jvm.MethodName)) ∈ lw_all := lw_g (lw_at lw_m2 237 rfl) rfl
theorem q585 : (Jvm.Cond.codeWith ({ cls := "PegBands", name := "board", desc := "()I" } : Jvm.MethodName) prog_1_method_13_code (3 : Nat) (Option.some Jvm.ClassFile.FieldType.int) [((17 : Nat), (55 : Nat), (56 : Nat), (13 : Nat))]) ∈ lw_all := lw_g (lw_at lw_m2 238 rfl) rfl
theorem q586 : (Jvm.Cond.methodLink "PegBands" (199 : Nat) ({ cls := "PegBands", name := "taken", desc := "()V" } : Jvm.MethodName)) ∈ lw_all := lw_g (lw_at lw_m2 239 rfl) rfl
theorem q587 : (Jvm.Cond.privateMethod ({ cls := "PegBands", name := "taken", desc := "()V" } : Jvm.MethodName)) ∈ lw_tbl := lw_at lw_m3 0 rfl
theorem q588 : (Jvm.Cond.instanceMethod ({ cls := "PegBands", name := "taken", desc := "()V" } : Jvm.MethodName)) ∈ lw_all := lw_g (lw_at lw_m3 1 rfl) rfl
theorem q589 : (Jvm.Cond.code ({ cls := "PegBands", name := "taken", desc := "()V" } : Jvm.MethodName) prog_1_method_5_code (1 : Nat) (Option.none : Option Jvm.ClassFile.FieldType)) ∈ lw_all := lw_g (lw_at lw_m3 2 rfl) rfl
theorem q590 : (Jvm.Cond.methodLink "PegBands" (205 : Nat) ({ cls := "PegBands$BoardReader", name := "read", desc := "(LPegBands$Board;)I" } : Jvm.MethodName)) ∈ lw_all := lw_g (lw_at lw_m3 3 rfl) rfl
theorem q591 : (Jvm.Cond.instanceMethod ({ cls := "PegBands$BoardReader", name := "read", desc := "(LPegBands$Board;)I" } : Jvm.MethodName)) ∈ lw_all := lw_g (lw_at lw_m3 4 rfl) rfl
theorem q592 : (Jvm.Cond.selects "PegBands$BoardReader" ({ cls := "PegBands$BoardReader", name := "read", desc := "(LPegBands$Board;)I" } : Jvm.MethodName) ({ cls := "PegBands$BoardReader", name := "read", desc := "(LPegBands$Board;)I" } : Jvm.MethodName)) ∈ lw_all := lw_g (lw_at lw_m3 5 rfl) rfl
theorem q593 : (Jvm.Cond.code ({ cls := "PegBands$BoardReader", name := "read", desc := "(LPegBands$Board;)I" } : Jvm.MethodName) prog_5_method_2_code (6 : Nat) (Option.some Jvm.ClassFile.FieldType.int)) ∈ lw_all := lw_g (lw_at lw_m3 6 rfl) rfl
theorem q594 : (Jvm.Cond.methodLink "PegBands$BoardReader" (19 : Nat) ({ cls := "PegBands$BoardReader", name := "begin", desc := "()V" } : Jvm.MethodName)) ∈ lw_all := lw_g (lw_at lw_m3 7 rfl) rfl
theorem q595 : (Jvm.Cond.sameMethod "PegBands$BoardReader" "PegBands$Reader" "begin" "()V") ∈ lw_all := lw_g (lw_at lw_m3 8 rfl) rfl
theorem q596 : (Jvm.Cond.declares ({ cls := "PegBands$Reader", name := "begin", desc := "()V" } : Jvm.MethodName)) ∈ lw_tbl := lw_at lw_m3 9 rfl
theorem q597 : (Jvm.Cond.selects "PegBands$BoardReader" ({ cls := "PegBands$BoardReader", name := "begin", desc := "()V" } : Jvm.MethodName) ({ cls := "PegBands$Reader", name := "begin", desc := "()V" } : Jvm.MethodName)) ∈ lw_all := lw_g (lw_at lw_m3 10 rfl) rfl
theorem q598 : (Jvm.Cond.instanceMethod ({ cls := "PegBands$Reader", name := "begin", desc := "()V" } : Jvm.MethodName)) ∈ lw_all := lw_g (lw_at lw_m3 11 rfl) rfl
theorem q599 : (Jvm.Cond.code ({ cls := "PegBands$Reader", name := "begin", desc := "()V" } : Jvm.MethodName) prog_15_method_2_code (1 : Nat) (Option.none : Option Jvm.ClassFile.FieldType)) ∈ lw_all := lw_g (lw_at lw_m3 12 rfl) rfl
theorem q600 : (Jvm.Cond.methodLink "PegBands$Reader" (22 : Nat) ({ cls := "PegBands$Reader", name := "next", desc := "()V" } : Jvm.MethodName)) ∈ lw_all := lw_g (lw_at lw_m3 13 rfl) rfl
theorem q601 : (Jvm.Cond.instanceMethod ({ cls := "PegBands$Reader", name := "next", desc := "()V" } : Jvm.MethodName)) ∈ lw_all := lw_g (lw_at lw_m3 14 rfl) rfl
theorem q602 : (Jvm.Cond.sameMethod "PegBands$Reader" "PegBands$Reader" "next" "()V") ∈ lw_all := lw_g (lw_at lw_m3 15 rfl) rfl
theorem q603 : (Jvm.Cond.selects "PegBands$BoardReader" ({ cls := "PegBands$Reader", name := "next", desc := "()V" } : Jvm.MethodName) ({ cls := "PegBands$Reader", name := "next", desc := "()V" } : Jvm.MethodName)) ∈ lw_all := lw_g (lw_at lw_m3 16 rfl) rfl
theorem q604 : (Jvm.Cond.selects "PegBands$CallsReader" ({ cls := "PegBands$Reader", name := "next", desc := "()V" } : Jvm.MethodName) ({ cls := "PegBands$Reader", name := "next", desc := "()V" } : Jvm.MethodName)) ∈ lw_all := lw_g (lw_at lw_m3 17 rfl) rfl
theorem q605 : (Jvm.Cond.selects "PegBands$SentenceReader" ({ cls := "PegBands$Reader", name := "next", desc := "()V" } : Jvm.MethodName) ({ cls := "PegBands$Reader", name := "next", desc := "()V" } : Jvm.MethodName)) ∈ lw_all := lw_g (lw_at lw_m3 18 rfl) rfl
theorem q606 : (Jvm.Cond.code ({ cls := "PegBands$Reader", name := "next", desc := "()V" } : Jvm.MethodName) prog_15_method_6_code (2 : Nat) (Option.none : Option Jvm.ClassFile.FieldType)) ∈ lw_all := lw_g (lw_at lw_m3 19 rfl) rfl
theorem q607 : (Jvm.Cond.methodLink "PegBands$Reader" (36 : Nat) ({ cls := "PegBands$Reader", name := "peek", desc := "()I" } : Jvm.MethodName)) ∈ lw_all := lw_g (lw_at lw_m3 20 rfl) rfl
theorem q608 : (Jvm.Cond.privateMethod ({ cls := "PegBands$Reader", name := "peek", desc := "()I" } : Jvm.MethodName)) ∈ lw_tbl := lw_at lw_m3 21 rfl
theorem q609 : (Jvm.Cond.instanceMethod ({ cls := "PegBands$Reader", name := "peek", desc := "()I" } : Jvm.MethodName)) ∈ lw_all := lw_g (lw_at lw_m3 22 rfl) rfl
theorem q610 : (Jvm.Cond.code ({ cls := "PegBands$Reader", name := "peek", desc := "()I" } : Jvm.MethodName) prog_15_method_3_code (1 : Nat) (Option.some Jvm.ClassFile.FieldType.int)) ∈ lw_all := lw_g (lw_at lw_m3 23 rfl) rfl
theorem q611 : (Jvm.Cond.methodLink "PegBands$Reader" (46 : Nat) ({ cls := "PegBands$Reader", name := "isLetter", desc := "(I)Z" } : Jvm.MethodName)) ∈ lw_all := lw_g (lw_at lw_m3 24 rfl) rfl
theorem q612 : (Jvm.Cond.privateMethod ({ cls := "PegBands$Reader", name := "isLetter", desc := "(I)Z" } : Jvm.MethodName)) ∈ lw_tbl := lw_at lw_m3 25 rfl
theorem q613 : (Jvm.Cond.instanceMethod ({ cls := "PegBands$Reader", name := "isLetter", desc := "(I)Z" } : Jvm.MethodName)) ∈ lw_all := lw_g (lw_at lw_m3 26 rfl) rfl
theorem q614 : (Jvm.Cond.code ({ cls := "PegBands$Reader", name := "isLetter", desc := "(I)Z" } : Jvm.MethodName) prog_15_method_4_code (2 : Nat) (Option.some Jvm.ClassFile.FieldType.boolean)) ∈ lw_all := lw_g (lw_at lw_m3 27 rfl) rfl
theorem q615 : (Jvm.Cond.methodLinkNest "PegBands$Reader" (32 : Nat) ({ cls := "PegBands", name := "isIn", desc := "(III)Z" } : Jvm.MethodName) "PegBands") ∈ lw_tbl := lw_at lw_m3 28 rfl
theorem q616 : (Jvm.Cond.static ({ cls := "PegBands", name := "isIn", desc := "(III)Z" } : Jvm.MethodName)) ∈ lw_all := lw_g (lw_at lw_m3 29 rfl) rfl
theorem q617 : (Jvm.Cond.code ({ cls := "PegBands", name := "isIn", desc := "(III)Z" } : Jvm.MethodName) prog_1_method_6_code (3 : Nat) (Option.some Jvm.ClassFile.FieldType.boolean)) ∈ lw_all := lw_g (lw_at lw_m3 30 rfl) rfl
theorem q618 : (Jvm.Cond.methodLink "PegBands$Reader" (50 : Nat) ({ cls := "PegBands$Reader", name := "isDigit", desc := "(I)Z" } : Jvm.MethodName)) ∈ lw_all := lw_g (lw_at lw_m3 31 rfl) rfl
theorem q619 : (Jvm.Cond.privateMethod ({ cls := "PegBands$Reader", name := "isDigit", desc := "(I)Z" } : Jvm.MethodName)) ∈ lw_tbl := lw_at lw_m3 32 rfl
theorem q620 : (Jvm.Cond.instanceMethod ({ cls := "PegBands$Reader", name := "isDigit", desc := "(I)Z" } : Jvm.MethodName)) ∈ lw_all := lw_g (lw_at lw_m3 33 rfl) rfl
theorem q621 : (Jvm.Cond.code ({ cls := "PegBands$Reader", name := "isDigit", desc := "(I)Z" } : Jvm.MethodName) prog_15_method_5_code (2 : Nat) (Option.some Jvm.ClassFile.FieldType.boolean)) ∈ lw_all := lw_g (lw_at lw_m3 34 rfl) rfl
theorem q622 : (Jvm.Cond.methodLink "PegBands$Reader" (53 : Nat) ({ cls := "PegBands$Reader", name := "run", desc := "(Z)V" } : Jvm.MethodName)) ∈ lw_all := lw_g (lw_at lw_m3 35 rfl) rfl
theorem q623 : (Jvm.Cond.privateMethod ({ cls := "PegBands$Reader", name := "run", desc := "(Z)V" } : Jvm.MethodName)) ∈ lw_tbl := lw_at lw_m3 36 rfl
theorem q624 : (Jvm.Cond.instanceMethod ({ cls := "PegBands$Reader", name := "run", desc := "(Z)V" } : Jvm.MethodName)) ∈ lw_all := lw_g (lw_at lw_m3 37 rfl) rfl
theorem q625 : (Jvm.Cond.code ({ cls := "PegBands$Reader", name := "run", desc := "(Z)V" } : Jvm.MethodName) prog_15_method_7_code (3 : Nat) (Option.none : Option Jvm.ClassFile.FieldType)) ∈ lw_all := lw_g (lw_at lw_m3 38 rfl) rfl
theorem q626 : (Jvm.Cond.stringRef "PegBands$BoardReader" (23 : Nat) "board") ∈ lw_tbl := lw_at lw_m3 39 rfl
theorem q627 : (Jvm.Cond.methodLink "PegBands$BoardReader" (25 : Nat) ({ cls := "PegBands$BoardReader", name := "word", desc := "(Ljava/lang/String;)V" } : Jvm.MethodName)) ∈ lw_all := lw_g (lw_at lw_m3 40 rfl) rfl
theorem q628 : (Jvm.Cond.sameMethod "PegBands$BoardReader" "PegBands$Reader" "word" "(Ljava/lang/String;)V") ∈ lw_all := lw_g (lw_at lw_m3 41 rfl) rfl
theorem q629 : (Jvm.Cond.declares ({ cls := "PegBands$Reader", name := "word", desc := "(Ljava/lang/String;)V" } : Jvm.MethodName)) ∈ lw_tbl := lw_at lw_m3 42 rfl
theorem q630 : (Jvm.Cond.selects "PegBands$BoardReader" ({ cls := "PegBands$BoardReader", name := "word", desc := "(Ljava/lang/String;)V" } : Jvm.MethodName) ({ cls := "PegBands$Reader", name := "word", desc := "(Ljava/lang/String;)V" } : Jvm.MethodName)) ∈ lw_all := lw_g (lw_at lw_m3 43 rfl) rfl
theorem q631 : (Jvm.Cond.instanceMethod ({ cls := "PegBands$Reader", name := "word", desc := "(Ljava/lang/String;)V" } : Jvm.MethodName)) ∈ lw_all := lw_g (lw_at lw_m3 44 rfl) rfl
theorem q632 : (Jvm.Cond.code ({ cls := "PegBands$Reader", name := "word", desc := "(Ljava/lang/String;)V" } : Jvm.MethodName) prog_15_method_16_code (2 : Nat) (Option.none : Option Jvm.ClassFile.FieldType)) ∈ lw_all := lw_g (lw_at lw_m3 45 rfl) rfl
theorem q633 : (Jvm.Cond.methodLink "PegBands$Reader" (76 : Nat) ({ cls := "PegBands$Reader", name := "is", desc := "(Ljava/lang/String;)Z" } : Jvm.MethodName)) ∈ lw_all := lw_g (lw_at lw_m3 46 rfl) rfl
theorem q634 : (Jvm.Cond.instanceMethod ({ cls := "PegBands$Reader", name := "is", desc := "(Ljava/lang/String;)Z" } : Jvm.MethodName)) ∈ lw_all := lw_g (lw_at lw_m3 47 rfl) rfl
theorem q635 : (Jvm.Cond.sameMethod "PegBands$Reader" "PegBands$Reader" "is" "(Ljava/lang/String;)Z") ∈ lw_all := lw_g (lw_at lw_m3 48 rfl) rfl
theorem q636 : (Jvm.Cond.selects "PegBands$BoardReader" ({ cls := "PegBands$Reader", name := "is", desc := "(Ljava/lang/String;)Z" } : Jvm.MethodName) ({ cls := "PegBands$Reader", name := "is", desc := "(Ljava/lang/String;)Z" } : Jvm.MethodName)) ∈ lw_all := lw_g (lw_at lw_m3 49 rfl) rfl
theorem q637 : (Jvm.Cond.selects "PegBands$CallsReader" ({ cls := "PegBands$Reader", name := "is", desc := "(Ljava/lang/String;)Z" } : Jvm.MethodName) ({ cls := "PegBands$Reader", name := "is", desc := "(Ljava/lang/String;)Z" } : Jvm.MethodName)) ∈ lw_all := lw_g (lw_at lw_m3 50 rfl) rfl
theorem q638 : (Jvm.Cond.selects "PegBands$SentenceReader" ({ cls := "PegBands$Reader", name := "is", desc := "(Ljava/lang/String;)Z" } : Jvm.MethodName) ({ cls := "PegBands$Reader", name := "is", desc := "(Ljava/lang/String;)Z" } : Jvm.MethodName)) ∈ lw_all := lw_g (lw_at lw_m3 51 rfl) rfl
theorem q639 : (Jvm.Cond.code ({ cls := "PegBands$Reader", name := "is", desc := "(Ljava/lang/String;)Z" } : Jvm.MethodName) prog_15_method_8_code (3 : Nat) (Option.some Jvm.ClassFile.FieldType.boolean)) ∈ lw_all := lw_g (lw_at lw_m3 52 rfl) rfl
theorem q640 : (Jvm.Cond.methodLink "PegBands$Reader" (67 : Nat) ({ cls := "java/lang/String", name := "length", desc := "()I" } : Jvm.MethodName)) ∈ lw_all := lw_g (lw_at lw_m3 53 rfl) rfl
theorem q641 : (Jvm.Cond.instanceMethod ({ cls := "java/lang/String", name := "length", desc := "()I" } : Jvm.MethodName)) ∈ lw_all := lw_g (lw_at lw_m3 54 rfl) rfl
theorem q642 : (Jvm.Cond.selects "java/lang/String" ({ cls := "java/lang/String", name := "length", desc := "()I" } : Jvm.MethodName) ({ cls := "java/lang/String", name := "length", desc := "()I" } : Jvm.MethodName)) ∈ lw_all := lw_g (lw_at lw_m3 55 rfl) rfl
theorem q643 : (Jvm.Cond.code ({ cls := "java/lang/String", name := "length", desc := "()I" } : Jvm.MethodName) prog_25_method_54_code (1 : Nat) (Option.some Jvm.ClassFile.FieldType.int)) ∈ lw_all := lw_g (lw_at lw_m3 56 rfl) rfl
theorem q644 : (Jvm.Cond.methodLink "java/lang/String" (335 : Nat) ({ cls := "java/lang/String", name := "coder", desc := "()B" } : Jvm.MethodName)) ∈ lw_all := lw_g (lw_at lw_m3 57 rfl) rfl
theorem q645 : (Jvm.Cond.instanceMethod ({ cls := "java/lang/String", name := "coder", desc := "()B" } : Jvm.MethodName)) ∈ lw_all := lw_g (lw_at lw_m3 58 rfl) rfl
theorem q646 : (Jvm.Cond.selects "java/lang/String" ({ cls := "java/lang/String", name := "coder", desc := "()B" } : Jvm.MethodName) ({ cls := "java/lang/String", name := "coder", desc := "()B" } : Jvm.MethodName)) ∈ lw_all := lw_g (lw_at lw_m3 59 rfl) rfl
theorem q647 : (Jvm.Cond.code ({ cls := "java/lang/String", name := "coder", desc := "()B" } : Jvm.MethodName) prog_25_method_152_code (1 : Nat) (Option.some Jvm.ClassFile.FieldType.byte)) ∈ lw_all := lw_g (lw_at lw_m3 60 rfl) rfl
theorem q648 : (Jvm.Cond.fieldLink "java/lang/String" (38 : Nat) "java/lang/String" "COMPACT_STRINGS" "Z") ∈ lw_all := lw_g (lw_at lw_m3 61 rfl) rfl
theorem q649 : (Jvm.Cond.laysStatic "java/lang/String" "COMPACT_STRINGS" "Z") ∈ lw_tbl := lw_at lw_m3 62 rfl
theorem q650 : (Jvm.Cond.methodLink "PegBands$Reader" (72 : Nat) ({ cls := "java/lang/String", name := "charAt", desc := "(I)C" } : Jvm.MethodName)) ∈ lw_all := lw_g (lw_at lw_m3 63 rfl) rfl
theorem q651 : (Jvm.Cond.instanceMethod ({ cls := "java/lang/String", name := "charAt", desc := "(I)C" } : Jvm.MethodName)) ∈ lw_all := lw_g (lw_at lw_m3 64 rfl) rfl
theorem q652 : (Jvm.Cond.selects "java/lang/String" ({ cls := "java/lang/String", name := "charAt", desc := "(I)C" } : Jvm.MethodName) ({ cls := "java/lang/String", name := "charAt", desc := "(I)C" } : Jvm.MethodName)) ∈ lw_all := lw_g (lw_at lw_m3 65 rfl) rfl
theorem q653 : (Jvm.Cond.code ({ cls := "java/lang/String", name := "charAt", desc := "(I)C" } : Jvm.MethodName) prog_25_method_56_code (2 : Nat) (Option.some Jvm.ClassFile.FieldType.char)) ∈ lw_all := lw_g (lw_at lw_m3 66 rfl) rfl
theorem q654 : (Jvm.Cond.methodLink "java/lang/String" (492 : Nat) ({ cls := "java/lang/String", name := "isLatin1", desc := "()Z" } : Jvm.MethodName)) ∈ lw_all := lw_g (lw_at lw_m3 67 rfl) rfl
theorem q655 : (Jvm.Cond.instanceMethod ({ cls := "java/lang/String", name := "isLatin1", desc := "()Z" } : Jvm.MethodName)) ∈ lw_all := lw_g (lw_at lw_m3 68 rfl) rfl
theorem q656 : (Jvm.Cond.selects "java/lang/String" ({ cls := "java/lang/String", name := "isLatin1", desc := "()Z" } : Jvm.MethodName) ({ cls := "java/lang/String", name := "isLatin1", desc := "()Z" } : Jvm.MethodName)) ∈ lw_all := lw_g (lw_at lw_m3 69 rfl) rfl
theorem q657 : (Jvm.Cond.code ({ cls := "java/lang/String", name := "isLatin1", desc := "()Z" } : Jvm.MethodName) prog_25_method_154_code (1 : Nat) (Option.some Jvm.ClassFile.FieldType.boolean)) ∈ lw_all := lw_g (lw_at lw_m3 70 rfl) rfl
theorem q658 : (Jvm.Cond.methodLink "java/lang/String" (495 : Nat) ({ cls := "java/lang/StringLatin1", name := "charAt", desc := "([BI)C" } : Jvm.MethodName)) ∈ lw_all := lw_g (lw_at lw_m3 71 rfl) rfl
theorem q659 : (Jvm.Cond.static ({ cls := "java/lang/StringLatin1", name := "charAt", desc := "([BI)C" } : Jvm.MethodName)) ∈ lw_all := lw_g (lw_at lw_m3 72 rfl) rfl
theorem q660 : (Jvm.Cond.code ({ cls := "java/lang/StringLatin1", name := "charAt", desc := "([BI)C" } : Jvm.MethodName) prog_26_method_2_code (2 : Nat) (Option.some Jvm.ClassFile.FieldType.char)) ∈ lw_all := lw_g (lw_at lw_m3 73 rfl) rfl
theorem q661 : (Jvm.Cond.methodLink "java/lang/StringLatin1" (9 : Nat) ({ cls := "java/lang/String", name := "checkIndex", desc := "(II)V" } : Jvm.MethodName)) ∈ lw_all := lw_g (lw_at lw_m3 74 rfl) rfl
theorem q662 : (Jvm.Cond.static ({ cls := "java/lang/String", name := "checkIndex", desc := "(II)V" } : Jvm.MethodName)) ∈ lw_all := lw_g (lw_at lw_m3 75 rfl) rfl
theorem q663 : (Jvm.Cond.code ({ cls := "java/lang/String", name := "checkIndex", desc := "(II)V" } : Jvm.MethodName) prog_25_method_155_code (2 : Nat) (Option.none : Option Jvm.ClassFile.FieldType)) ∈ lw_all := lw_g (lw_at lw_m3 76 rfl) rfl
theorem q664 : (Jvm.Cond.fieldLink "java/lang/String" (1053 : Nat) "jdk/internal/util/Preconditions" "SIOOBE_FORMATTER" "Ljava/util/function/BiFunction;") ∈ lw_all := lw_g (lw_at lw_m3 77 rfl) rfl
theorem q665 : (Jvm.Cond.laysStatic "jdk/internal/util/Preconditions" "SIOOBE_FORMATTER" "Ljava/util/function/BiFunction;") ∈ lw_tbl := lw_at lw_m3 78 rfl
theorem q666 : (Jvm.Cond.methodLink "java/lang/String" (1059 : Nat) ({ cls := "jdk/internal/util/Preconditions", name := "checkIndex", desc := "(IILjava/util/function/BiFunction;)I" } : Jvm.MethodName)) ∈ lw_all := lw_g (lw_at lw_m3 79 rfl) rfl
theorem q667 : (Jvm.Cond.static ({ cls := "jdk/internal/util/Preconditions", name := "checkIndex", desc := "(IILjava/util/function/BiFunction;)I" } : Jvm.MethodName)) ∈ lw_all := lw_g (lw_at lw_m3 80 rfl) rfl
theorem q668 : (Jvm.Cond.code ({ cls := "jdk/internal/util/Preconditions", name := "checkIndex", desc := "(IILjava/util/function/BiFunction;)I" } : Jvm.MethodName) prog_33_method_11_code (3 : Nat) (Option.some Jvm.ClassFile.FieldType.int)) ∈ lw_all := lw_g (lw_at lw_m3 81 rfl) rfl
theorem q669 : (Jvm.Cond.methodLink "java/lang/String" (498 : Nat) ({ cls := "java/lang/StringUTF16", name := "charAt", desc := "([BI)C" } : Jvm.MethodName)) ∈ lw_all := lw_g (lw_at lw_m3 82 rfl) rfl
theorem q670 : (Jvm.Cond.static ({ cls := "java/lang/StringUTF16", name := "charAt", desc := "([BI)C" } : Jvm.MethodName)) ∈ lw_all := lw_g (lw_at lw_m3 83 rfl) rfl
theorem q671 : (Jvm.Cond.code ({ cls := "java/lang/StringUTF16", name := "charAt", desc := "([BI)C" } : Jvm.MethodName) prog_27_method_83_code (2 : Nat) (Option.some Jvm.ClassFile.FieldType.char)) ∈ lw_all := lw_g (lw_at lw_m3 84 rfl) rfl
theorem q672 : (Jvm.Cond.methodLink "java/lang/StringUTF16" (67 : Nat) ({ cls := "java/lang/StringUTF16", name := "checkIndex", desc := "(I[B)V" } : Jvm.MethodName)) ∈ lw_all := lw_g (lw_at lw_m3 85 rfl) rfl
theorem q673 : (Jvm.Cond.static ({ cls := "java/lang/StringUTF16", name := "checkIndex", desc := "(I[B)V" } : Jvm.MethodName)) ∈ lw_all := lw_g (lw_at lw_m3 86 rfl) rfl
theorem q674 : (Jvm.Cond.code ({ cls := "java/lang/StringUTF16", name := "checkIndex", desc := "(I[B)V" } : Jvm.MethodName) prog_27_method_91_code (2 : Nat) (Option.none : Option Jvm.ClassFile.FieldType)) ∈ lw_all := lw_g (lw_at lw_m3 87 rfl) rfl
theorem q675 : (Jvm.Cond.methodLink "java/lang/StringUTF16" (48 : Nat) ({ cls := "java/lang/StringUTF16", name := "length", desc := "([B)I" } : Jvm.MethodName)) ∈ lw_all := lw_g (lw_at lw_m3 88 rfl) rfl
theorem q676 : (Jvm.Cond.static ({ cls := "java/lang/StringUTF16", name := "length", desc := "([B)I" } : Jvm.MethodName)) ∈ lw_all := lw_g (lw_at lw_m3 89 rfl) rfl
theorem q677 : (Jvm.Cond.code ({ cls := "java/lang/StringUTF16", name := "length", desc := "([B)I" } : Jvm.MethodName) prog_27_method_6_code (1 : Nat) (Option.some Jvm.ClassFile.FieldType.int)) ∈ lw_all := lw_g (lw_at lw_m3 90 rfl) rfl
theorem q678 : (Jvm.Cond.methodLink "java/lang/StringUTF16" (414 : Nat) ({ cls := "java/lang/String", name := "checkIndex", desc := "(II)V" } : Jvm.MethodName)) ∈ lw_all := lw_g (lw_at lw_m3 91 rfl) rfl
theorem q679 : (Jvm.Cond.methodLink "java/lang/StringUTF16" (71 : Nat) ({ cls := "java/lang/StringUTF16", name := "getChar", desc := "([BI)C" } : Jvm.MethodName)) ∈ lw_all := lw_g (lw_at lw_m3 92 rfl) rfl
theorem q680 : (Jvm.Cond.static ({ cls := "java/lang/StringUTF16", name := "getChar", desc := "([BI)C" } : Jvm.MethodName)) ∈ lw_all := lw_g (lw_at lw_m3 93 rfl) rfl
theorem q681 : (Jvm.Cond.code ({ cls := "java/lang/StringUTF16", name := "getChar", desc := "([BI)C" } : Jvm.MethodName) prog_27_method_5_code (2 : Nat) (Option.some Jvm.ClassFile.FieldType.char)) ∈ lw_all := lw_g (lw_at lw_m3 94 rfl) rfl
theorem q682 : (Jvm.Cond.fieldLink "java/lang/StringUTF16" (44 : Nat) "java/lang/StringUTF16" "$assertionsDisabled" "Z") ∈ lw_all := lw_g (lw_at lw_m3 95 rfl) rfl
theorem q683 : (Jvm.Cond.laysStatic "java/lang/StringUTF16" "$assertionsDisabled" "Z") ∈ lw_tbl := lw_at lw_m3 96 rfl
theorem q684 : (Jvm.Cond.fieldLink "java/lang/StringUTF16" (59 : Nat) "java/lang/StringUTF16" "HI_BYTE_SHIFT" "I") ∈ lw_all := lw_g (lw_at lw_m3 97 rfl) rfl
theorem q685 : (Jvm.Cond.laysStatic "java/lang/StringUTF16" "HI_BYTE_SHIFT" "I") ∈ lw_tbl := lw_at lw_m3 98 rfl
theorem q686 : (Jvm.Cond.fieldLink "java/lang/StringUTF16" (63 : Nat) "java/lang/StringUTF16" "LO_BYTE_SHIFT" "I") ∈ lw_all := lw_g (lw_at lw_m3 99 rfl) rfl
theorem q687 : (Jvm.Cond.laysStatic "java/lang/StringUTF16" "LO_BYTE_SHIFT" "I") ∈ lw_tbl := lw_at lw_m3 100 rfl
theorem q688 : (Jvm.Cond.methodLink "PegBands$Reader" (106 : Nat) ({ cls := "PegBands$Reader", name := "must", desc := "(ZI)V" } : Jvm.MethodName)) ∈ lw_all := lw_g (lw_at lw_m3 101 rfl) rfl
theorem q689 : (Jvm.Cond.instanceMethod ({ cls := "PegBands$Reader", name := "must", desc := "(ZI)V" } : Jvm.MethodName)) ∈ lw_all := lw_g (lw_at lw_m3 102 rfl) rfl
theorem q690 : (Jvm.Cond.sameMethod "PegBands$Reader" "PegBands$Reader" "must" "(ZI)V") ∈ lw_all := lw_g (lw_at lw_m3 103 rfl) rfl
theorem q691 : (Jvm.Cond.selects "PegBands$BoardReader" ({ cls := "PegBands$Reader", name := "must", desc := "(ZI)V" } : Jvm.MethodName) ({ cls := "PegBands$Reader", name := "must", desc := "(ZI)V" } : Jvm.MethodName)) ∈ lw_all := lw_g (lw_at lw_m3 104 rfl) rfl
theorem q692 : (Jvm.Cond.selects "PegBands$CallsReader" ({ cls := "PegBands$Reader", name := "must", desc := "(ZI)V" } : Jvm.MethodName) ({ cls := "PegBands$Reader", name := "must", desc := "(ZI)V" } : Jvm.MethodName)) ∈ lw_all := lw_g (lw_at lw_m3 105 rfl) rfl
theorem q693 : (Jvm.Cond.selects "PegBands$SentenceReader" ({ cls := "PegBands$Reader", name := "must", desc := "(ZI)V" } : Jvm.MethodName) ({ cls := "PegBands$Reader", name := "must", desc := "(ZI)V" } : Jvm.MethodName)) ∈ lw_all := lw_g (lw_at lw_m3 106 rfl) rfl
theorem q694 : (Jvm.Cond.code ({ cls := "PegBands$Reader", name := "must", desc := "(ZI)V" } : Jvm.MethodName) prog_15_method_13_code (3 : Nat) (Option.none : Option Jvm.ClassFile.FieldType)) ∈ lw_all := lw_g (lw_at lw_m3 107 rfl) rfl
theorem q695 : (Jvm.Cond.methodLink "PegBands$Reader" (100 : Nat) ({ cls := "PegBands$Reader", name := "wrong", desc := "(I)LPegBands$Fault;" } : Jvm.MethodName)) ∈ lw_all := lw_g (lw_at lw_m3 108 rfl) rfl
theorem q696 : (Jvm.Cond.instanceMethod ({ cls := "PegBands$Reader", name := "wrong", desc := "(I)LPegBands$Fault;" } : Jvm.MethodName)) ∈ lw_all := lw_g (lw_at lw_m3 109 rfl) rfl
theorem q697 : (Jvm.Cond.sameMethod "PegBands$Reader" "PegBands$Reader" "wrong" "(I)LPegBands$Fault;") ∈ lw_all := lw_g (lw_at lw_m3 110 rfl) rfl
theorem q698 : (Jvm.Cond.selects "PegBands$BoardReader" ({ cls := "PegBands$Reader", name := "wrong", desc := "(I)LPegBands$Fault;" } : Jvm.MethodName) ({ cls := "PegBands$Reader", name := "wrong", desc := "(I)LPegBands$Fault;" } : Jvm.MethodName)) ∈ lw_all := lw_g (lw_at lw_m3 111 rfl) rfl
theorem q699 : (Jvm.Cond.selects "PegBands$CallsReader" ({ cls := "PegBands$Reader", name := "wrong", desc := "(I)LPegBands$Fault;" } : Jvm.MethodName) ({ cls := "PegBands$Reader", name := "wrong", desc := "(I)LPegBands$Fault;" } : Jvm.MethodName)) ∈ lw_all := lw_g (lw_at lw_m3 112 rfl) rfl
theorem q700 : (Jvm.Cond.selects "PegBands$SentenceReader" ({ cls := "PegBands$Reader", name := "wrong", desc := "(I)LPegBands$Fault;" } : Jvm.MethodName) ({ cls := "PegBands$Reader", name := "wrong", desc := "(I)LPegBands$Fault;" } : Jvm.MethodName)) ∈ lw_all := lw_g (lw_at lw_m3 113 rfl) rfl
theorem q701 : (Jvm.Cond.code ({ cls := "PegBands$Reader", name := "wrong", desc := "(I)LPegBands$Fault;" } : Jvm.MethodName) prog_15_method_12_code (2 : Nat) (Option.some (Jvm.ClassFile.FieldType.object "PegBands$Fault"))) ∈ lw_all := lw_g (lw_at lw_m3 114 rfl) rfl
theorem q702 : (Jvm.Cond.methodLink "PegBands$BoardReader" (29 : Nat) ({ cls := "PegBands$BoardReader", name := "number", desc := "(II)I" } : Jvm.MethodName)) ∈ lw_all := lw_g (lw_at lw_m3 115 rfl) rfl
theorem q703 : (Jvm.Cond.sameMethod "PegBands$BoardReader" "PegBands$Reader" "number" "(II)I") ∈ lw_all := lw_g (lw_at lw_m3 116 rfl) rfl
theorem q704 : (Jvm.Cond.declares ({ cls := "PegBands$Reader", name := "number", desc := "(II)I" } : Jvm.MethodName)) ∈ lw_tbl := lw_at lw_m3 117 rfl
theorem q705 : (Jvm.Cond.selects "PegBands$BoardReader" ({ cls := "PegBands$BoardReader", name := "number", desc := "(II)I" } : Jvm.MethodName) ({ cls := "PegBands$Reader", name := "number", desc := "(II)I" } : Jvm.MethodName)) ∈ lw_all := lw_g (lw_at lw_m3 118 rfl) rfl
theorem q706 : (Jvm.Cond.instanceMethod ({ cls := "PegBands$Reader", name := "number", desc := "(II)I" } : Jvm.MethodName)) ∈ lw_all := lw_g (lw_at lw_m3 119 rfl) rfl
theorem q707 : (Jvm.Cond.code ({ cls := "PegBands$Reader", name := "number", desc := "(II)I" } : Jvm.MethodName) prog_15_method_15_code (4 : Nat) (Option.some Jvm.ClassFile.FieldType.int)) ∈ lw_all := lw_g (lw_at lw_m3 120 rfl) rfl
theorem q708 : (Jvm.Cond.methodLink "PegBands$BoardReader" (42 : Nat) ({ cls := "PegBands$BoardReader", name := "sign", desc := "(I)V" } : Jvm.MethodName)) ∈ lw_all := lw_g (lw_at lw_m3 121 rfl) rfl
theorem q709 : (Jvm.Cond.sameMethod "PegBands$BoardReader" "PegBands$Reader" "sign" "(I)V") ∈ lw_all := lw_g (lw_at lw_m3 122 rfl) rfl
theorem q710 : (Jvm.Cond.declares ({ cls := "PegBands$Reader", name := "sign", desc := "(I)V" } : Jvm.MethodName)) ∈ lw_tbl := lw_at lw_m3 123 rfl
theorem q711 : (Jvm.Cond.selects "PegBands$BoardReader" ({ cls := "PegBands$BoardReader", name := "sign", desc := "(I)V" } : Jvm.MethodName) ({ cls := "PegBands$Reader", name := "sign", desc := "(I)V" } : Jvm.MethodName)) ∈ lw_all := lw_g (lw_at lw_m3 124 rfl) rfl
theorem q712 : (Jvm.Cond.instanceMethod ({ cls := "PegBands$Reader", name := "sign", desc := "(I)V" } : Jvm.MethodName)) ∈ lw_all := lw_g (lw_at lw_m3 125 rfl) rfl
theorem q713 : (Jvm.Cond.code ({ cls := "PegBands$Reader", name := "sign", desc := "(I)V" } : Jvm.MethodName) prog_15_method_14_code (2 : Nat) (Option.none : Option Jvm.ClassFile.FieldType)) ∈ lw_all := lw_g (lw_at lw_m3 126 rfl) rfl
theorem q714 : (Jvm.Cond.methodLink "PegBands$Reader" (104 : Nat) ({ cls := "PegBands$Reader", name := "is", desc := "(I)Z" } : Jvm.MethodName)) ∈ lw_all := lw_g (lw_at lw_m3 127 rfl) rfl
theorem q715 : (Jvm.Cond.instanceMethod ({ cls := "PegBands$Reader", name := "is", desc := "(I)Z" } : Jvm.MethodName)) ∈ lw_all := lw_g (lw_at lw_m3 128 rfl) rfl
theorem q716 : (Jvm.Cond.sameMethod "PegBands$Reader" "PegBands$Reader" "is" "(I)Z") ∈ lw_all := lw_g (lw_at lw_m3 129 rfl) rfl
theorem q717 : (Jvm.Cond.selects "PegBands$BoardReader" ({ cls := "PegBands$Reader", name := "is", desc := "(I)Z" } : Jvm.MethodName) ({ cls := "PegBands$Reader", name := "is", desc := "(I)Z" } : Jvm.MethodName)) ∈ lw_all := lw_g (lw_at lw_m3 130 rfl) rfl
theorem q718 : (Jvm.Cond.selects "PegBands$CallsReader" ({ cls := "PegBands$Reader", name := "is", desc := "(I)Z" } : Jvm.MethodName) ({ cls := "PegBands$Reader", name := "is", desc := "(I)Z" } : Jvm.MethodName)) ∈ lw_all := lw_g (lw_at lw_m3 131 rfl) rfl
theorem q719 : (Jvm.Cond.selects "PegBands$SentenceReader" ({ cls := "PegBands$Reader", name := "is", desc := "(I)Z" } : Jvm.MethodName) ({ cls := "PegBands$Reader", name := "is", desc := "(I)Z" } : Jvm.MethodName)) ∈ lw_all := lw_g (lw_at lw_m3 132 rfl) rfl
theorem q720 : (Jvm.Cond.code ({ cls := "PegBands$Reader", name := "is", desc := "(I)Z" } : Jvm.MethodName) prog_15_method_9_code (2 : Nat) (Option.some Jvm.ClassFile.FieldType.boolean)) ∈ lw_all := lw_g (lw_at lw_m3 133 rfl) rfl
theorem q721 : (Jvm.Cond.stringRef "PegBands$BoardReader" (49 : Nat) "band") ∈ lw_tbl := lw_at lw_m3 134 rfl
theorem q722 : (Jvm.Cond.methodLink "PegBands$BoardReader" (51 : Nat) ({ cls := "PegBands$BoardReader", name := "is", desc := "(Ljava/lang/String;)Z" } : Jvm.MethodName)) ∈ lw_all := lw_g (lw_at lw_m3 135 rfl) rfl
theorem q723 : (Jvm.Cond.sameMethod "PegBands$BoardReader" "PegBands$Reader" "is" "(Ljava/lang/String;)Z") ∈ lw_all := lw_g (lw_at lw_m3 136 rfl) rfl
theorem q724 : (Jvm.Cond.declares ({ cls := "PegBands$Reader", name := "is", desc := "(Ljava/lang/String;)Z" } : Jvm.MethodName)) ∈ lw_tbl := lw_at lw_m3 137 rfl
theorem q725 : (Jvm.Cond.selects "PegBands$BoardReader" ({ cls := "PegBands$BoardReader", name := "is", desc := "(Ljava/lang/String;)Z" } : Jvm.MethodName) ({ cls := "PegBands$Reader", name := "is", desc := "(Ljava/lang/String;)Z" } : Jvm.MethodName)) ∈ lw_all := lw_g (lw_at lw_m3 138 rfl) rfl
theorem q726 : (Jvm.Cond.stringRef "PegBands$BoardReader" (55 : Nat) "out") ∈ lw_tbl := lw_at lw_m3 139 rfl
theorem q727 : (Jvm.Cond.stringRef "PegBands$BoardReader" (57 : Nat) "bell") ∈ lw_tbl := lw_at lw_m3 140 rfl
theorem q728 : (Jvm.Cond.methodLink "PegBands$BoardReader" (59 : Nat) ({ cls := "PegBands$BoardReader", name := "must", desc := "(ZI)V" } : Jvm.MethodName)) ∈ lw_all := lw_g (lw_at lw_m3 141 rfl) rfl
theorem q729 : (Jvm.Cond.sameMethod "PegBands$BoardReader" "PegBands$Reader" "must" "(ZI)V") ∈ lw_all := lw_g (lw_at lw_m3 142 rfl) rfl
theorem q730 : (Jvm.Cond.declares ({ cls := "PegBands$Reader", name := "must", desc := "(ZI)V" } : Jvm.MethodName)) ∈ lw_tbl := lw_at lw_m3 143 rfl
theorem q731 : (Jvm.Cond.selects "PegBands$BoardReader" ({ cls := "PegBands$BoardReader", name := "must", desc := "(ZI)V" } : Jvm.MethodName) ({ cls := "PegBands$Reader", name := "must", desc := "(ZI)V" } : Jvm.MethodName)) ∈ lw_all := lw_g (lw_at lw_m3 144 rfl) rfl
theorem q732 : (Jvm.Cond.methodLink "PegBands$BoardReader" (72 : Nat) ({ cls := "PegBands$BoardReader", name := "next", desc := "()V" } : Jvm.MethodName)) ∈ lw_all := lw_g (lw_at lw_m3 145 rfl) rfl
theorem q733 : (Jvm.Cond.sameMethod "PegBands$BoardReader" "PegBands$Reader" "next" "()V") ∈ lw_all := lw_g (lw_at lw_m3 146 rfl) rfl
theorem q734 : (Jvm.Cond.declares ({ cls := "PegBands$Reader", name := "next", desc := "()V" } : Jvm.MethodName)) ∈ lw_tbl := lw_at lw_m3 147 rfl
theorem q735 : (Jvm.Cond.selects "PegBands$BoardReader" ({ cls := "PegBands$BoardReader", name := "next", desc := "()V" } : Jvm.MethodName) ({ cls := "PegBands$Reader", name := "next", desc := "()V" } : Jvm.MethodName)) ∈ lw_all := lw_g (lw_at lw_m3 148 rfl) rfl
theorem q736 : (Jvm.Cond.methodLink "PegBands$BoardReader" (75 : Nat) ({ cls := "PegBands$BoardReader", name := "out", desc := "()V" } : Jvm.MethodName)) ∈ lw_all := lw_g (lw_at lw_m3 149 rfl) rfl
theorem q737 : (Jvm.Cond.privateMethod ({ cls := "PegBands$BoardReader", name := "out", desc := "()V" } : Jvm.MethodName)) ∈ lw_tbl := lw_at lw_m3 150 rfl
theorem q738 : (Jvm.Cond.instanceMethod ({ cls := "PegBands$BoardReader", name := "out", desc := "()V" } : Jvm.MethodName)) ∈ lw_all := lw_g (lw_at lw_m3 151 rfl) rfl
theorem q739 : (Jvm.Cond.code ({ cls := "PegBands$BoardReader", name := "out", desc := "()V" } : Jvm.MethodName) prog_5_method_3_code (2 : Nat) (Option.none : Option Jvm.ClassFile.FieldType)) ∈ lw_all := lw_g (lw_at lw_m3 152 rfl) rfl
theorem q740 : (Jvm.Cond.methodLink "PegBands$BoardReader" (77 : Nat) ({ cls := "PegBands$BoardReader", name := "band", desc := "()V" } : Jvm.MethodName)) ∈ lw_all := lw_g (lw_at lw_m3 153 rfl) rfl
theorem q741 : (Jvm.Cond.privateMethod ({ cls := "PegBands$BoardReader", name := "band", desc := "()V" } : Jvm.MethodName)) ∈ lw_tbl := lw_at lw_m3 154 rfl
theorem q742 : (Jvm.Cond.instanceMethod ({ cls := "PegBands$BoardReader", name := "band", desc := "()V" } : Jvm.MethodName)) ∈ lw_all := lw_g (lw_at lw_m3 155 rfl) rfl
theorem q743 : (Jvm.Cond.code ({ cls := "PegBands$BoardReader", name := "band", desc := "()V" } : Jvm.MethodName) prog_5_method_4_code (3 : Nat) (Option.none : Option Jvm.ClassFile.FieldType)) ∈ lw_all := lw_g (lw_at lw_m3 156 rfl) rfl
theorem q744 : (Jvm.Cond.methodLink "PegBands$BoardReader" (85 : Nat) ({ cls := "PegBands$BoardReader", name := "isName", desc := "()Z" } : Jvm.MethodName)) ∈ lw_all := lw_g (lw_at lw_m3 157 rfl) rfl
theorem q745 : (Jvm.Cond.sameMethod "PegBands$BoardReader" "PegBands$Reader" "isName" "()Z") ∈ lw_all := lw_g (lw_at lw_m3 158 rfl) rfl
theorem q746 : (Jvm.Cond.declares ({ cls := "PegBands$Reader", name := "isName", desc := "()Z" } : Jvm.MethodName)) ∈ lw_tbl := lw_at lw_m3 159 rfl
theorem q747 : (Jvm.Cond.selects "PegBands$BoardReader" ({ cls := "PegBands$BoardReader", name := "isName", desc := "()Z" } : Jvm.MethodName) ({ cls := "PegBands$Reader", name := "isName", desc := "()Z" } : Jvm.MethodName)) ∈ lw_all := lw_g (lw_at lw_m3 160 rfl) rfl
theorem q748 : (Jvm.Cond.instanceMethod ({ cls := "PegBands$Reader", name := "isName", desc := "()Z" } : Jvm.MethodName)) ∈ lw_all := lw_g (lw_at lw_m3 161 rfl) rfl
theorem q749 : (Jvm.Cond.code ({ cls := "PegBands$Reader", name := "isName", desc := "()Z" } : Jvm.MethodName) prog_15_method_11_code (1 : Nat) (Option.some Jvm.ClassFile.FieldType.boolean)) ∈ lw_all := lw_g (lw_at lw_m3 162 rfl) rfl
theorem q750 : (Jvm.Cond.methodLink "PegBands$Reader" (84 : Nat) ({ cls := "PegBands$Reader", name := "find", desc := "([Ljava/lang/String;)I" } : Jvm.MethodName)) ∈ lw_all := lw_g (lw_at lw_m3 163 rfl) rfl
theorem q751 : (Jvm.Cond.instanceMethod ({ cls := "PegBands$Reader", name := "find", desc := "([Ljava/lang/String;)I" } : Jvm.MethodName)) ∈ lw_all := lw_g (lw_at lw_m3 164 rfl) rfl
theorem q752 : (Jvm.Cond.sameMethod "PegBands$Reader" "PegBands$Reader" "find" "([Ljava/lang/String;)I") ∈ lw_all := lw_g (lw_at lw_m3 165 rfl) rfl
theorem q753 : (Jvm.Cond.selects "PegBands$BoardReader" ({ cls := "PegBands$Reader", name := "find", desc := "([Ljava/lang/String;)I" } : Jvm.MethodName) ({ cls := "PegBands$Reader", name := "find", desc := "([Ljava/lang/String;)I" } : Jvm.MethodName)) ∈ lw_all := lw_g (lw_at lw_m3 166 rfl) rfl
theorem q754 : (Jvm.Cond.selects "PegBands$CallsReader" ({ cls := "PegBands$Reader", name := "find", desc := "([Ljava/lang/String;)I" } : Jvm.MethodName) ({ cls := "PegBands$Reader", name := "find", desc := "([Ljava/lang/String;)I" } : Jvm.MethodName)) ∈ lw_all := lw_g (lw_at lw_m3 167 rfl) rfl
theorem q755 : (Jvm.Cond.selects "PegBands$SentenceReader" ({ cls := "PegBands$Reader", name := "find", desc := "([Ljava/lang/String;)I" } : Jvm.MethodName) ({ cls := "PegBands$Reader", name := "find", desc := "([Ljava/lang/String;)I" } : Jvm.MethodName)) ∈ lw_all := lw_g (lw_at lw_m3 168 rfl) rfl
theorem q756 : (Jvm.Cond.code ({ cls := "PegBands$Reader", name := "find", desc := "([Ljava/lang/String;)I" } : Jvm.MethodName) prog_15_method_10_code (3 : Nat) (Option.some Jvm.ClassFile.FieldType.int)) ∈ lw_all := lw_g (lw_at lw_m3 169 rfl) rfl
theorem q757 : (Jvm.Cond.methodLink "PegBands$BoardReader" (89 : Nat) ({ cls := "PegBands$BoardReader", name := "of", desc := "(LPegBands$Board;)I" } : Jvm.MethodName)) ∈ lw_all := lw_g (lw_at lw_m3 170 rfl) rfl
theorem q758 : (Jvm.Cond.sameMethod "PegBands$BoardReader" "PegBands$Reader" "of" "(LPegBands$Board;)I") ∈ lw_all := lw_g (lw_at lw_m3 171 rfl) rfl
theorem q759 : (Jvm.Cond.declares ({ cls := "PegBands$Reader", name := "of", desc := "(LPegBands$Board;)I" } : Jvm.MethodName)) ∈ lw_tbl := lw_at lw_m3 172 rfl
theorem q760 : (Jvm.Cond.selects "PegBands$BoardReader" ({ cls := "PegBands$BoardReader", name := "of", desc := "(LPegBands$Board;)I" } : Jvm.MethodName) ({ cls := "PegBands$Reader", name := "of", desc := "(LPegBands$Board;)I" } : Jvm.MethodName)) ∈ lw_all := lw_g (lw_at lw_m3 173 rfl) rfl
theorem q761 : (Jvm.Cond.instanceMethod ({ cls := "PegBands$Reader", name := "of", desc := "(LPegBands$Board;)I" } : Jvm.MethodName)) ∈ lw_all := lw_g (lw_at lw_m3 174 rfl) rfl
theorem q762 : (Jvm.Cond.code ({ cls := "PegBands$Reader", name := "of", desc := "(LPegBands$Board;)I" } : Jvm.MethodName) prog_15_method_17_code (3 : Nat) (Option.some Jvm.ClassFile.FieldType.int)) ∈ lw_all := lw_g (lw_at lw_m3 175 rfl) rfl
theorem q763 : (Jvm.Cond.classLink "PegBands$BoardReader" (93 : Nat) "PegBands$Band") ∈ lw_all := lw_g (lw_at lw_m3 176 rfl) rfl
theorem q764 : (Jvm.Cond.methodLink "PegBands$BoardReader" (95 : Nat) ({ cls := "PegBands$Band", name := "<init>", desc := "()V" } : Jvm.MethodName)) ∈ lw_all := lw_g (lw_at lw_m3 177 rfl) rfl
theorem q765 : (Jvm.Cond.methodLink "PegBands$BoardReader" (103 : Nat) ({ cls := "PegBands$BoardReader", name := "is", desc := "(I)Z" } : Jvm.MethodName)) ∈ lw_all := lw_g (lw_at lw_m3 178 rfl) rfl
theorem q766 : (Jvm.Cond.sameMethod "PegBands$BoardReader" "PegBands$Reader" "is" "(I)Z") ∈ lw_all := lw_g (lw_at lw_m3 179 rfl) rfl
theorem q767 : (Jvm.Cond.declares ({ cls := "PegBands$Reader", name := "is", desc := "(I)Z" } : Jvm.MethodName)) ∈ lw_tbl := lw_at lw_m3 180 rfl
theorem q768 : (Jvm.Cond.selects "PegBands$BoardReader" ({ cls := "PegBands$BoardReader", name := "is", desc := "(I)Z" } : Jvm.MethodName) ({ cls := "PegBands$Reader", name := "is", desc := "(I)Z" } : Jvm.MethodName)) ∈ lw_all := lw_g (lw_at lw_m3 181 rfl) rfl
theorem q769 : (Jvm.Cond.methodLink "PegBands$BoardReader" (106 : Nat) ({ cls := "PegBands$Band", name := "add", desc := "(II)V" } : Jvm.MethodName)) ∈ lw_all := lw_g (lw_at lw_m3 182 rfl) rfl
theorem q770 : (Jvm.Cond.instanceMethod ({ cls := "PegBands$Band", name := "add", desc := "(II)V" } : Jvm.MethodName)) ∈ lw_all := lw_g (lw_at lw_m3 183 rfl) rfl
theorem q771 : (Jvm.Cond.selects "PegBands$Band" ({ cls := "PegBands$Band", name := "add", desc := "(II)V" } : Jvm.MethodName) ({ cls := "PegBands$Band", name := "add", desc := "(II)V" } : Jvm.MethodName)) ∈ lw_all := lw_g (lw_at lw_m3 184 rfl) rfl
theorem q772 : (Jvm.Cond.code ({ cls := "PegBands$Band", name := "add", desc := "(II)V" } : Jvm.MethodName) prog_3_method_4_code (3 : Nat) (Option.none : Option Jvm.ClassFile.FieldType)) ∈ lw_all := lw_g (lw_at lw_m3 185 rfl) rfl
theorem q773 : (Jvm.Cond.methodLink "PegBands$BoardReader" (110 : Nat) ({ cls := "PegBands$Board", name := "why", desc := "(LPegBands$Band;I)I" } : Jvm.MethodName)) ∈ lw_all := lw_g (lw_at lw_m3 186 rfl) rfl
theorem q774 : (Jvm.Cond.instanceMethod ({ cls := "PegBands$Board", name := "why", desc := "(LPegBands$Band;I)I" } : Jvm.MethodName)) ∈ lw_all := lw_g (lw_at lw_m3 187 rfl) rfl
theorem q775 : (Jvm.Cond.selects "PegBands$Board" ({ cls := "PegBands$Board", name := "why", desc := "(LPegBands$Band;I)I" } : Jvm.MethodName) ({ cls := "PegBands$Board", name := "why", desc := "(LPegBands$Band;I)I" } : Jvm.MethodName)) ∈ lw_all := lw_g (lw_at lw_m3 188 rfl) rfl
theorem q776 : (Jvm.Cond.code ({ cls := "PegBands$Board", name := "why", desc := "(LPegBands$Band;I)I" } : Jvm.MethodName) prog_4_method_4_code (5 : Nat) (Option.some Jvm.ClassFile.FieldType.int)) ∈ lw_all := lw_g (lw_at lw_m3 189 rfl) rfl
theorem q777 : (Jvm.Cond.methodLink "PegBands$Board" (46 : Nat) ({ cls := "PegBands$Board", name := "isPeg", desc := "(II)Z" } : Jvm.MethodName)) ∈ lw_all := lw_g (lw_at lw_m3 190 rfl) rfl
theorem q778 : (Jvm.Cond.instanceMethod ({ cls := "PegBands$Board", name := "isPeg", desc := "(II)Z" } : Jvm.MethodName)) ∈ lw_all := lw_g (lw_at lw_m3 191 rfl) rfl
theorem q779 : (Jvm.Cond.selects "PegBands$Board" ({ cls := "PegBands$Board", name := "isPeg", desc := "(II)Z" } : Jvm.MethodName) ({ cls := "PegBands$Board", name := "isPeg", desc := "(II)Z" } : Jvm.MethodName)) ∈ lw_all := lw_g (lw_at lw_m3 192 rfl) rfl
theorem q780 : (Jvm.Cond.code ({ cls := "PegBands$Board", name := "isPeg", desc := "(II)Z" } : Jvm.MethodName) prog_4_method_3_code (3 : Nat) (Option.some Jvm.ClassFile.FieldType.boolean)) ∈ lw_all := lw_g (lw_at lw_m3 193 rfl) rfl
theorem q781 : (Jvm.Cond.methodLink "PegBands$Board" (32 : Nat) ({ cls := "PegBands$Board", name := "isPlace", desc := "(II)Z" } : Jvm.MethodName)) ∈ lw_all := lw_g (lw_at lw_m3 194 rfl) rfl
theorem q782 : (Jvm.Cond.instanceMethod ({ cls := "PegBands$Board", name := "isPlace", desc := "(II)Z" } : Jvm.MethodName)) ∈ lw_all := lw_g (lw_at lw_m3 195 rfl) rfl
theorem q783 : (Jvm.Cond.selects "PegBands$Board" ({ cls := "PegBands$Board", name := "isPlace", desc := "(II)Z" } : Jvm.MethodName) ({ cls := "PegBands$Board", name := "isPlace", desc := "(II)Z" } : Jvm.MethodName)) ∈ lw_all := lw_g (lw_at lw_m3 196 rfl) rfl
theorem q784 : (Jvm.Cond.code ({ cls := "PegBands$Board", name := "isPlace", desc := "(II)Z" } : Jvm.MethodName) prog_4_method_2_code (3 : Nat) (Option.some Jvm.ClassFile.FieldType.boolean)) ∈ lw_all := lw_g (lw_at lw_m3 197 rfl) rfl
theorem q785 : (Jvm.Cond.methodLinkNest "PegBands$Board" (25 : Nat) ({ cls := "PegBands", name := "isIn", desc := "(III)Z" } : Jvm.MethodName) "PegBands") ∈ lw_tbl := lw_at lw_m3 198 rfl
theorem q786 : (Jvm.Cond.methodLink "PegBands$Board" (49 : Nat) ({ cls := "PegBands$Band", name := "why", desc := "()I" } : Jvm.MethodName)) ∈ lw_all := lw_g (lw_at lw_m3 199 rfl) rfl
theorem q787 : (Jvm.Cond.instanceMethod ({ cls := "PegBands$Band", name := "why", desc := "()I" } : Jvm.MethodName)) ∈ lw_all := lw_g (lw_at lw_m3 200 rfl) rfl
theorem q788 : (Jvm.Cond.selects "PegBands$Band" ({ cls := "PegBands$Band", name := "why", desc := "()I" } : Jvm.MethodName) ({ cls := "PegBands$Band", name := "why", desc := "()I" } : Jvm.MethodName)) ∈ lw_all := lw_g (lw_at lw_m3 201 rfl) rfl
theorem q789 : (Jvm.Cond.code ({ cls := "PegBands$Band", name := "why", desc := "()I" } : Jvm.MethodName) prog_3_method_19_code (3 : Nat) (Option.some Jvm.ClassFile.FieldType.int)) ∈ lw_all := lw_g (lw_at lw_m3 202 rfl) rfl
theorem q790 : (Jvm.Cond.methodLink "PegBands$Band" (63 : Nat) ({ cls := "PegBands$Band", name := "turnAt", desc := "(I)I" } : Jvm.MethodName)) ∈ lw_all := lw_g (lw_at lw_m3 203 rfl) rfl
theorem q791 : (Jvm.Cond.instanceMethod ({ cls := "PegBands$Band", name := "turnAt", desc := "(I)I" } : Jvm.MethodName)) ∈ lw_all := lw_g (lw_at lw_m3 204 rfl) rfl
theorem q792 : (Jvm.Cond.selects "PegBands$Band" ({ cls := "PegBands$Band", name := "turnAt", desc := "(I)I" } : Jvm.MethodName) ({ cls := "PegBands$Band", name := "turnAt", desc := "(I)I" } : Jvm.MethodName)) ∈ lw_all := lw_g (lw_at lw_m3 205 rfl) rfl
theorem q793 : (Jvm.Cond.code ({ cls := "PegBands$Band", name := "turnAt", desc := "(I)I" } : Jvm.MethodName) prog_3_method_7_code (2 : Nat) (Option.some Jvm.ClassFile.FieldType.int)) ∈ lw_all := lw_g (lw_at lw_m3 206 rfl) rfl
theorem q794 : (Jvm.Cond.methodLink "PegBands$Band" (36 : Nat) ({ cls := "PegBands$Band", name := "last", desc := "(I)I" } : Jvm.MethodName)) ∈ lw_all := lw_g (lw_at lw_m3 207 rfl) rfl
theorem q795 : (Jvm.Cond.instanceMethod ({ cls := "PegBands$Band", name := "last", desc := "(I)I" } : Jvm.MethodName)) ∈ lw_all := lw_g (lw_at lw_m3 208 rfl) rfl
theorem q796 : (Jvm.Cond.selects "PegBands$Band" ({ cls := "PegBands$Band", name := "last", desc := "(I)I" } : Jvm.MethodName) ({ cls := "PegBands$Band", name := "last", desc := "(I)I" } : Jvm.MethodName)) ∈ lw_all := lw_g (lw_at lw_m3 209 rfl) rfl
theorem q797 : (Jvm.Cond.code ({ cls := "PegBands$Band", name := "last", desc := "(I)I" } : Jvm.MethodName) prog_3_method_6_code (2 : Nat) (Option.some Jvm.ClassFile.FieldType.int)) ∈ lw_all := lw_g (lw_at lw_m3 210 rfl) rfl
theorem q798 : (Jvm.Cond.methodLink "PegBands$Band" (40 : Nat) ({ cls := "PegBands$Band", name := "next", desc := "(I)I" } : Jvm.MethodName)) ∈ lw_all := lw_g (lw_at lw_m3 211 rfl) rfl
theorem q799 : (Jvm.Cond.instanceMethod ({ cls := "PegBands$Band", name := "next", desc := "(I)I" } : Jvm.MethodName)) ∈ lw_all := lw_g (lw_at lw_m3 212 rfl) rfl
theorem q800 : (Jvm.Cond.selects "PegBands$Band" ({ cls := "PegBands$Band", name := "next", desc := "(I)I" } : Jvm.MethodName) ({ cls := "PegBands$Band", name := "next", desc := "(I)I" } : Jvm.MethodName)) ∈ lw_all := lw_g (lw_at lw_m3 213 rfl) rfl
theorem q801 : (Jvm.Cond.code ({ cls := "PegBands$Band", name := "next", desc := "(I)I" } : Jvm.MethodName) prog_3_method_5_code (2 : Nat) (Option.some Jvm.ClassFile.FieldType.int)) ∈ lw_all := lw_g (lw_at lw_m3 214 rfl) rfl
theorem q802 : (Jvm.Cond.methodLinkNest "PegBands$Band" (43 : Nat) ({ cls := "PegBands", name := "turn", desc := "(IIIIII)I" } : Jvm.MethodName) "PegBands") ∈ lw_tbl := lw_at lw_m3 215 rfl
theorem q803 : (Jvm.Cond.static ({ cls := "PegBands", name := "turn", desc := "(IIIIII)I" } : Jvm.MethodName)) ∈ lw_all := lw_g (lw_at lw_m3 216 rfl) rfl
theorem q804 : (Jvm.Cond.code ({ cls := "PegBands", name := "turn", desc := "(IIIIII)I" } : Jvm.MethodName) prog_1_method_9_code (6 : Nat) (Option.some Jvm.ClassFile.FieldType.int)) ∈ lw_all := lw_g (lw_at lw_m3 217 rfl) rfl
theorem q805 : (Jvm.Cond.methodLink "PegBands$Band" (78 : Nat) ({ cls := "PegBands$Band", name := "meeting", desc := "(ILPegBands$Band;I)I" } : Jvm.MethodName)) ∈ lw_all := lw_g (lw_at lw_m3 218 rfl) rfl
theorem q806 : (Jvm.Cond.instanceMethod ({ cls := "PegBands$Band", name := "meeting", desc := "(ILPegBands$Band;I)I" } : Jvm.MethodName)) ∈ lw_all := lw_g (lw_at lw_m3 219 rfl) rfl
theorem q807 : (Jvm.Cond.selects "PegBands$Band" ({ cls := "PegBands$Band", name := "meeting", desc := "(ILPegBands$Band;I)I" } : Jvm.MethodName) ({ cls := "PegBands$Band", name := "meeting", desc := "(ILPegBands$Band;I)I" } : Jvm.MethodName)) ∈ lw_all := lw_g (lw_at lw_m3 220 rfl) rfl
theorem q808 : (Jvm.Cond.code ({ cls := "PegBands$Band", name := "meeting", desc := "(ILPegBands$Band;I)I" } : Jvm.MethodName) prog_3_method_15_code (4 : Nat) (Option.some Jvm.ClassFile.FieldType.int)) ∈ lw_all := lw_g (lw_at lw_m3 221 rfl) rfl
theorem q809 : (Jvm.Cond.methodLinkNest "PegBands$Band" (74 : Nat) ({ cls := "PegBands", name := "meets", desc := "(IIIIIIII)I" } : Jvm.MethodName) "PegBands") ∈ lw_tbl := lw_at lw_m3 222 rfl
theorem q810 : (Jvm.Cond.static ({ cls := "PegBands", name := "meets", desc := "(IIIIIIII)I" } : Jvm.MethodName)) ∈ lw_all := lw_g (lw_at lw_m3 223 rfl) rfl
theorem q811 : (Jvm.Cond.code ({ cls := "PegBands", name := "meets", desc := "(IIIIIIII)I" } : Jvm.MethodName) prog_1_method_12_code (8 : Nat) (Option.some Jvm.ClassFile.FieldType.int)) ∈ lw_all := lw_g (lw_at lw_m3 224 rfl) rfl
theorem q812 : (Jvm.Cond.methodLink "PegBands" (177 : Nat) ({ cls := "PegBands", name := "turn", desc := "(IIIIII)I" } : Jvm.MethodName)) ∈ lw_all := lw_g (lw_at lw_m3 225 rfl) rfl
theorem q813 : (Jvm.Cond.methodLink "PegBands" (191 : Nat) ({ cls := "PegBands", name := "areUnlike", desc := "(II)Z" } : Jvm.MethodName)) ∈ lw_all := lw_g (lw_at lw_m3 226 rfl) rfl
theorem q814 : (Jvm.Cond.static ({ cls := "PegBands", name := "areUnlike", desc := "(II)Z" } : Jvm.MethodName)) ∈ lw_all := lw_g (lw_at lw_m3 227 rfl) rfl
theorem q815 : (Jvm.Cond.code ({ cls := "PegBands", name := "areUnlike", desc := "(II)Z" } : Jvm.MethodName) prog_1_method_11_code (2 : Nat) (Option.some Jvm.ClassFile.FieldType.boolean)) ∈ lw_all := lw_g (lw_at lw_m3 228 rfl) rfl
theorem q816 : (Jvm.Cond.methodLink "PegBands" (195 : Nat) ({ cls := "PegBands", name := "isOn", desc := "(IIIIII)Z" } : Jvm.MethodName)) ∈ lw_all := lw_g (lw_at lw_m3 229 rfl) rfl
theorem q817 : (Jvm.Cond.static ({ cls := "PegBands", name := "isOn", desc := "(IIIIII)Z" } : Jvm.MethodName)) ∈ lw_all := lw_g (lw_at lw_m3 230 rfl) rfl
theorem q818 : (Jvm.Cond.code ({ cls := "PegBands", name := "isOn", desc := "(IIIIII)Z" } : Jvm.MethodName) prog_1_method_10_code (6 : Nat) (Option.some Jvm.ClassFile.FieldType.boolean)) ∈ lw_all := lw_g (lw_at lw_m3 231 rfl) rfl
theorem q819 : (Jvm.Cond.methodLink "PegBands" (181 : Nat) ({ cls := "java/lang/Math", name := "min", desc := "(II)I" } : Jvm.MethodName)) ∈ lw_all := lw_g (lw_at lw_m3 232 rfl) rfl
theorem q820 : (Jvm.Cond.static ({ cls := "java/lang/Math", name := "min", desc := "(II)I" } : Jvm.MethodName)) ∈ lw_all := lw_g (lw_at lw_m3 233 rfl) rfl
theorem q821 : (Jvm.Cond.code ({ cls := "java/lang/Math", name := "min", desc := "(II)I" } : Jvm.MethodName) prog_23_method_69_code (2 : Nat) (Option.some Jvm.ClassFile.FieldType.int)) ∈ lw_all := lw_g (lw_at lw_m3 234 rfl) rfl
theorem q822 : (Jvm.Cond.methodLink "PegBands" (184 : Nat) ({ cls := "java/lang/Math", name := "max", desc := "(II)I" } : Jvm.MethodName)) ∈ lw_all := lw_g (lw_at lw_m3 235 rfl) rfl
theorem q823 : (Jvm.Cond.static ({ cls := "java/lang/Math", name := "max", desc := "(II)I" } : Jvm.MethodName)) ∈ lw_all := lw_g (lw_at lw_m3 236 rfl) rfl
theorem q824 : (Jvm.Cond.code ({ cls := "java/lang/Math", name := "max", desc := "(II)I" } : Jvm.MethodName) prog_23_method_65_code (2 : Nat) (Option.some Jvm.ClassFile.FieldType.int)) ∈ lw_all := lw_g (lw_at lw_m3 237 rfl) rfl
theorem q825 : (Jvm.Cond.methodLink "PegBands" (187 : Nat) ({ cls := "PegBands", name := "isIn", desc := "(III)Z" } : Jvm.MethodName)) ∈ lw_all := lw_g (lw_at lw_m3 238 rfl) rfl
theorem q826 : (Jvm.Cond.methodLink "PegBands$Board" (58 : Nat) ({ cls := "PegBands$Band", name := "isClear", desc := "(LPegBands$Band;)Z" } : Jvm.MethodName)) ∈ lw_all := lw_g (lw_at lw_m3 239 rfl) rfl
theorem q827 : (Jvm.Cond.instanceMethod ({ cls := "PegBands$Band", name := "isClear", desc := "(LPegBands$Band;)Z" } : Jvm.MethodName)) ∈ lw_all := lw_g (lw_at lw_m4 0 rfl) rfl
theorem q828 : (Jvm.Cond.selects "PegBands$Band" ({ cls := "PegBands$Band", name := "isClear", desc := "(LPegBands$Band;)Z" } : Jvm.MethodName) ({ cls := "PegBands$Band", name := "isClear", desc := "(LPegBands$Band;)Z" } : Jvm.MethodName)) ∈ lw_all := lw_g (lw_at lw_m4 1 rfl) rfl
theorem q829 : (Jvm.Cond.code ({ cls := "PegBands$Band", name := "isClear", desc := "(LPegBands$Band;)Z" } : Jvm.MethodName) prog_3_method_17_code (2 : Nat) (Option.some Jvm.ClassFile.FieldType.boolean)) ∈ lw_all := lw_g (lw_at lw_m4 2 rfl) rfl
theorem q830 : (Jvm.Cond.methodLink "PegBands$Band" (82 : Nat) ({ cls := "PegBands$Band", name := "meetings", desc := "(LPegBands$Band;I)I" } : Jvm.MethodName)) ∈ lw_all := lw_g (lw_at lw_m4 3 rfl) rfl
theorem q831 : (Jvm.Cond.instanceMethod ({ cls := "PegBands$Band", name := "meetings", desc := "(LPegBands$Band;I)I" } : Jvm.MethodName)) ∈ lw_all := lw_g (lw_at lw_m4 4 rfl) rfl
theorem q832 : (Jvm.Cond.selects "PegBands$Band" ({ cls := "PegBands$Band", name := "meetings", desc := "(LPegBands$Band;I)I" } : Jvm.MethodName) ({ cls := "PegBands$Band", name := "meetings", desc := "(LPegBands$Band;I)I" } : Jvm.MethodName)) ∈ lw_all := lw_g (lw_at lw_m4 5 rfl) rfl
theorem q833 : (Jvm.Cond.code ({ cls := "PegBands$Band", name := "meetings", desc := "(LPegBands$Band;I)I" } : Jvm.MethodName) prog_3_method_16_code (6 : Nat) (Option.some Jvm.ClassFile.FieldType.int)) ∈ lw_all := lw_g (lw_at lw_m4 6 rfl) rfl
theorem q834 : (Jvm.Cond.methodLink "PegBandsLaw" (34 : Nat) ({ cls := "PegBands", name := "fault", desc := "()I" } : Jvm.MethodName)) ∈ lw_all := lw_g (lw_at lw_m4 7 rfl) rfl
theorem q835 : (Jvm.Cond.instanceMethod ({ cls := "PegBands", name := "fault", desc := "()I" } : Jvm.MethodName)) ∈ lw_all := lw_g (lw_at lw_m4 8 rfl) rfl
theorem q836 : (Jvm.Cond.selects "PegBands" ({ cls := "PegBands", name := "fault", desc := "()I" } : Jvm.MethodName) ({ cls := "PegBands", name := "fault", desc := "()I" } : Jvm.MethodName)) ∈ lw_all := lw_g (lw_at lw_m4 9 rfl) rfl
theorem q837 : (Jvm.Cond.code ({ cls := "PegBands", name := "fault", desc := "()I" } : Jvm.MethodName) prog_1_method_14_code (1 : Nat) (Option.some Jvm.ClassFile.FieldType.int)) ∈ lw_all := lw_g (lw_at lw_m4 10 rfl) rfl
theorem q838 : (Jvm.Cond.methodLink "PegBandsLaw" (38 : Nat) ({ cls := "PegBands", name := "why", desc := "()I" } : Jvm.MethodName)) ∈ lw_all := lw_g (lw_at lw_m4 11 rfl) rfl
theorem q839 : (Jvm.Cond.instanceMethod ({ cls := "PegBands", name := "why", desc := "()I" } : Jvm.MethodName)) ∈ lw_all := lw_g (lw_at lw_m4 12 rfl) rfl
theorem q840 : (Jvm.Cond.selects "PegBands" ({ cls := "PegBands", name := "why", desc := "()I" } : Jvm.MethodName) ({ cls := "PegBands", name := "why", desc := "()I" } : Jvm.MethodName)) ∈ lw_all := lw_g (lw_at lw_m4 13 rfl) rfl
theorem q841 : (Jvm.Cond.code ({ cls := "PegBands", name := "why", desc := "()I" } : Jvm.MethodName) prog_1_method_15_code (1 : Nat) (Option.some Jvm.ClassFile.FieldType.int)) ∈ lw_all := lw_g (lw_at lw_m4 14 rfl) rfl
theorem q842 : (Jvm.Cond.methodLink "PegBandsLaw" (42 : Nat) ({ cls := "PegBands", name := "peg", desc := "(I)I" } : Jvm.MethodName)) ∈ lw_all := lw_g (lw_at lw_m4 15 rfl) rfl
theorem q843 : (Jvm.Cond.instanceMethod ({ cls := "PegBands", name := "peg", desc := "(I)I" } : Jvm.MethodName)) ∈ lw_all := lw_g (lw_at lw_m4 16 rfl) rfl
theorem q844 : (Jvm.Cond.selects "PegBands" ({ cls := "PegBands", name := "peg", desc := "(I)I" } : Jvm.MethodName) ({ cls := "PegBands", name := "peg", desc := "(I)I" } : Jvm.MethodName)) ∈ lw_all := lw_g (lw_at lw_m4 17 rfl) rfl
theorem q845 : (Jvm.Cond.code ({ cls := "PegBands", name := "peg", desc := "(I)I" } : Jvm.MethodName) prog_1_method_18_code (2 : Nat) (Option.some Jvm.ClassFile.FieldType.int)) ∈ lw_all := lw_g (lw_at lw_m4 18 rfl) rfl
theorem q846 : (Jvm.Cond.methodLink "PegBands" (235 : Nat) ({ cls := "PegBands", name := "isPlace", desc := "(I)Z" } : Jvm.MethodName)) ∈ lw_all := lw_g (lw_at lw_m4 19 rfl) rfl
theorem q847 : (Jvm.Cond.privateMethod ({ cls := "PegBands", name := "isPlace", desc := "(I)Z" } : Jvm.MethodName)) ∈ lw_tbl := lw_at lw_m4 20 rfl
theorem q848 : (Jvm.Cond.instanceMethod ({ cls := "PegBands", name := "isPlace", desc := "(I)Z" } : Jvm.MethodName)) ∈ lw_all := lw_g (lw_at lw_m4 21 rfl) rfl
theorem q849 : (Jvm.Cond.code ({ cls := "PegBands", name := "isPlace", desc := "(I)Z" } : Jvm.MethodName) prog_1_method_16_code (2 : Nat) (Option.some Jvm.ClassFile.FieldType.boolean)) ∈ lw_all := lw_g (lw_at lw_m4 22 rfl) rfl
theorem q850 : (Jvm.Cond.methodLink "PegBands" (231 : Nat) ({ cls := "PegBands$Board", name := "isPlace", desc := "(II)Z" } : Jvm.MethodName)) ∈ lw_all := lw_g (lw_at lw_m4 23 rfl) rfl
theorem q851 : (Jvm.Cond.methodLink "PegBandsLaw" (56 : Nat) ({ cls := "PegBands", name := "corner", desc := "(II)I" } : Jvm.MethodName)) ∈ lw_all := lw_g (lw_at lw_m4 24 rfl) rfl
theorem q852 : (Jvm.Cond.instanceMethod ({ cls := "PegBands", name := "corner", desc := "(II)I" } : Jvm.MethodName)) ∈ lw_all := lw_g (lw_at lw_m4 25 rfl) rfl
theorem q853 : (Jvm.Cond.selects "PegBands" ({ cls := "PegBands", name := "corner", desc := "(II)I" } : Jvm.MethodName) ({ cls := "PegBands", name := "corner", desc := "(II)I" } : Jvm.MethodName)) ∈ lw_all := lw_g (lw_at lw_m4 26 rfl) rfl
theorem q854 : (Jvm.Cond.code ({ cls := "PegBands", name := "corner", desc := "(II)I" } : Jvm.MethodName) prog_1_method_21_code (3 : Nat) (Option.some Jvm.ClassFile.FieldType.int)) ∈ lw_all := lw_g (lw_at lw_m4 27 rfl) rfl
theorem q855 : (Jvm.Cond.methodLink "PegBands" (267 : Nat) ({ cls := "PegBands", name := "isCorner", desc := "(II)Z" } : Jvm.MethodName)) ∈ lw_all := lw_g (lw_at lw_m4 28 rfl) rfl
theorem q856 : (Jvm.Cond.privateMethod ({ cls := "PegBands", name := "isCorner", desc := "(II)Z" } : Jvm.MethodName)) ∈ lw_tbl := lw_at lw_m4 29 rfl
theorem q857 : (Jvm.Cond.instanceMethod ({ cls := "PegBands", name := "isCorner", desc := "(II)Z" } : Jvm.MethodName)) ∈ lw_all := lw_g (lw_at lw_m4 30 rfl) rfl
theorem q858 : (Jvm.Cond.code ({ cls := "PegBands", name := "isCorner", desc := "(II)Z" } : Jvm.MethodName) prog_1_method_20_code (3 : Nat) (Option.some Jvm.ClassFile.FieldType.boolean)) ∈ lw_all := lw_g (lw_at lw_m4 31 rfl) rfl
theorem q859 : (Jvm.Cond.methodLink "PegBands" (241 : Nat) ({ cls := "PegBands", name := "isBand", desc := "(I)Z" } : Jvm.MethodName)) ∈ lw_all := lw_g (lw_at lw_m4 32 rfl) rfl
theorem q860 : (Jvm.Cond.privateMethod ({ cls := "PegBands", name := "isBand", desc := "(I)Z" } : Jvm.MethodName)) ∈ lw_tbl := lw_at lw_m4 33 rfl
theorem q861 : (Jvm.Cond.instanceMethod ({ cls := "PegBands", name := "isBand", desc := "(I)Z" } : Jvm.MethodName)) ∈ lw_all := lw_g (lw_at lw_m4 34 rfl) rfl
theorem q862 : (Jvm.Cond.code ({ cls := "PegBands", name := "isBand", desc := "(I)Z" } : Jvm.MethodName) prog_1_method_17_code (2 : Nat) (Option.some Jvm.ClassFile.FieldType.boolean)) ∈ lw_all := lw_g (lw_at lw_m4 35 rfl) rfl
theorem q863 : (Jvm.Cond.methodLink "PegBandsLaw" (60 : Nat) ({ cls := "PegBands", name := "side", desc := "(II)I" } : Jvm.MethodName)) ∈ lw_all := lw_g (lw_at lw_m4 36 rfl) rfl
theorem q864 : (Jvm.Cond.instanceMethod ({ cls := "PegBands", name := "side", desc := "(II)I" } : Jvm.MethodName)) ∈ lw_all := lw_g (lw_at lw_m4 37 rfl) rfl
theorem q865 : (Jvm.Cond.selects "PegBands" ({ cls := "PegBands", name := "side", desc := "(II)I" } : Jvm.MethodName) ({ cls := "PegBands", name := "side", desc := "(II)I" } : Jvm.MethodName)) ∈ lw_all := lw_g (lw_at lw_m4 38 rfl) rfl
theorem q866 : (Jvm.Cond.code ({ cls := "PegBands", name := "side", desc := "(II)I" } : Jvm.MethodName) prog_1_method_22_code (3 : Nat) (Option.some Jvm.ClassFile.FieldType.int)) ∈ lw_all := lw_g (lw_at lw_m4 39 rfl) rfl
theorem q867 : (Jvm.Cond.methodLink "PegBands" (276 : Nat) ({ cls := "PegBands$Band", name := "square", desc := "(I)I" } : Jvm.MethodName)) ∈ lw_all := lw_g (lw_at lw_m4 40 rfl) rfl
theorem q868 : (Jvm.Cond.instanceMethod ({ cls := "PegBands$Band", name := "square", desc := "(I)I" } : Jvm.MethodName)) ∈ lw_all := lw_g (lw_at lw_m4 41 rfl) rfl
theorem q869 : (Jvm.Cond.selects "PegBands$Band" ({ cls := "PegBands$Band", name := "square", desc := "(I)I" } : Jvm.MethodName) ({ cls := "PegBands$Band", name := "square", desc := "(I)I" } : Jvm.MethodName)) ∈ lw_all := lw_g (lw_at lw_m4 42 rfl) rfl
theorem q870 : (Jvm.Cond.code ({ cls := "PegBands$Band", name := "square", desc := "(I)I" } : Jvm.MethodName) prog_3_method_11_code (4 : Nat) (Option.some Jvm.ClassFile.FieldType.int)) ∈ lw_all := lw_g (lw_at lw_m4 43 rfl) rfl
theorem q871 : (Jvm.Cond.methodLink "PegBandsLaw" (64 : Nat) ({ cls := "PegBands", name := "over", desc := "(II)I" } : Jvm.MethodName)) ∈ lw_all := lw_g (lw_at lw_m4 44 rfl) rfl
theorem q872 : (Jvm.Cond.instanceMethod ({ cls := "PegBands", name := "over", desc := "(II)I" } : Jvm.MethodName)) ∈ lw_all := lw_g (lw_at lw_m4 45 rfl) rfl
theorem q873 : (Jvm.Cond.selects "PegBands" ({ cls := "PegBands", name := "over", desc := "(II)I" } : Jvm.MethodName) ({ cls := "PegBands", name := "over", desc := "(II)I" } : Jvm.MethodName)) ∈ lw_all := lw_g (lw_at lw_m4 46 rfl) rfl
theorem q874 : (Jvm.Cond.code ({ cls := "PegBands", name := "over", desc := "(II)I" } : Jvm.MethodName) prog_1_method_23_code (5 : Nat) (Option.some Jvm.ClassFile.FieldType.int)) ∈ lw_all := lw_g (lw_at lw_m4 47 rfl) rfl
theorem q875 : (Jvm.Cond.methodLink "PegBands" (279 : Nat) ({ cls := "PegBands$Band", name := "place", desc := "(II)I" } : Jvm.MethodName)) ∈ lw_all := lw_g (lw_at lw_m4 48 rfl) rfl
theorem q876 : (Jvm.Cond.instanceMethod ({ cls := "PegBands$Band", name := "place", desc := "(II)I" } : Jvm.MethodName)) ∈ lw_all := lw_g (lw_at lw_m4 49 rfl) rfl
theorem q877 : (Jvm.Cond.selects "PegBands$Band" ({ cls := "PegBands$Band", name := "place", desc := "(II)I" } : Jvm.MethodName) ({ cls := "PegBands$Band", name := "place", desc := "(II)I" } : Jvm.MethodName)) ∈ lw_all := lw_g (lw_at lw_m4 50 rfl) rfl
theorem q878 : (Jvm.Cond.code ({ cls := "PegBands$Band", name := "place", desc := "(II)I" } : Jvm.MethodName) prog_3_method_14_code (10 : Nat) (Option.some Jvm.ClassFile.FieldType.int)) ∈ lw_all := lw_g (lw_at lw_m4 51 rfl) rfl
theorem q879 : (Jvm.Cond.methodLinkNest "PegBands$Band" (70 : Nat) ({ cls := "PegBands", name := "isOn", desc := "(IIIIII)Z" } : Jvm.MethodName) "PegBands") ∈ lw_tbl := lw_at lw_m4 52 rfl
theorem q880 : (Jvm.Cond.methodLink "PegBandsLaw" (68 : Nat) ({ cls := "PegBands", name := "cross", desc := "(III)I" } : Jvm.MethodName)) ∈ lw_all := lw_g (lw_at lw_m4 53 rfl) rfl
theorem q881 : (Jvm.Cond.instanceMethod ({ cls := "PegBands", name := "cross", desc := "(III)I" } : Jvm.MethodName)) ∈ lw_all := lw_g (lw_at lw_m4 54 rfl) rfl
theorem q882 : (Jvm.Cond.selects "PegBands" ({ cls := "PegBands", name := "cross", desc := "(III)I" } : Jvm.MethodName) ({ cls := "PegBands", name := "cross", desc := "(III)I" } : Jvm.MethodName)) ∈ lw_all := lw_g (lw_at lw_m4 55 rfl) rfl
theorem q883 : (Jvm.Cond.code ({ cls := "PegBands", name := "cross", desc := "(III)I" } : Jvm.MethodName) prog_1_method_24_code (4 : Nat) (Option.some Jvm.ClassFile.FieldType.int)) ∈ lw_all := lw_g (lw_at lw_m4 56 rfl) rfl
theorem q884 : (Jvm.Cond.methodLink "PegBands" (263 : Nat) ({ cls := "PegBands$Band", name := "meetings", desc := "(LPegBands$Band;I)I" } : Jvm.MethodName)) ∈ lw_all := lw_g (lw_at lw_m4 57 rfl) rfl
theorem q885 : (Jvm.Cond.methodLink "PegBandsLaw" (73 : Nat) ({ cls := "PegBands", name := "in", desc := "(II)I" } : Jvm.MethodName)) ∈ lw_all := lw_g (lw_at lw_m4 58 rfl) rfl
theorem q886 : (Jvm.Cond.instanceMethod ({ cls := "PegBands", name := "in", desc := "(II)I" } : Jvm.MethodName)) ∈ lw_all := lw_g (lw_at lw_m4 59 rfl) rfl
theorem q887 : (Jvm.Cond.selects "PegBands" ({ cls := "PegBands", name := "in", desc := "(II)I" } : Jvm.MethodName) ({ cls := "PegBands", name := "in", desc := "(II)I" } : Jvm.MethodName)) ∈ lw_all := lw_g (lw_at lw_m4 60 rfl) rfl
theorem q888 : (Jvm.Cond.code ({ cls := "PegBands", name := "in", desc := "(II)I" } : Jvm.MethodName) prog_1_method_25_code (3 : Nat) (Option.some Jvm.ClassFile.FieldType.int)) ∈ lw_all := lw_g (lw_at lw_m4 61 rfl) rfl
theorem q889 : (Jvm.Cond.methodLink "PegBands" (281 : Nat) ({ cls := "PegBands$Band", name := "isInside", desc := "(LPegBands$Band;)Z" } : Jvm.MethodName)) ∈ lw_all := lw_g (lw_at lw_m4 62 rfl) rfl
theorem q890 : (Jvm.Cond.instanceMethod ({ cls := "PegBands$Band", name := "isInside", desc := "(LPegBands$Band;)Z" } : Jvm.MethodName)) ∈ lw_all := lw_g (lw_at lw_m4 63 rfl) rfl
theorem q891 : (Jvm.Cond.selects "PegBands$Band" ({ cls := "PegBands$Band", name := "isInside", desc := "(LPegBands$Band;)Z" } : Jvm.MethodName) ({ cls := "PegBands$Band", name := "isInside", desc := "(LPegBands$Band;)Z" } : Jvm.MethodName)) ∈ lw_all := lw_g (lw_at lw_m4 64 rfl) rfl
theorem q892 : (Jvm.Cond.code ({ cls := "PegBands$Band", name := "isInside", desc := "(LPegBands$Band;)Z" } : Jvm.MethodName) prog_3_method_18_code (2 : Nat) (Option.some Jvm.ClassFile.FieldType.boolean)) ∈ lw_all := lw_g (lw_at lw_m4 65 rfl) rfl
theorem q893 : (Jvm.Cond.methodLink "PegBands$Band" (86 : Nat) ({ cls := "PegBands$Band", name := "isClear", desc := "(LPegBands$Band;)Z" } : Jvm.MethodName)) ∈ lw_all := lw_g (lw_at lw_m4 66 rfl) rfl
theorem q894 : (Jvm.Cond.methodLink "PegBands$Band" (90 : Nat) ({ cls := "PegBands$Band", name := "place", desc := "(II)I" } : Jvm.MethodName)) ∈ lw_all := lw_g (lw_at lw_m4 67 rfl) rfl
theorem q895 : (Jvm.Cond.methodLink "PegBandsLaw" (77 : Nat) ({ cls := "PegBands", name := "alike", desc := "(III)I" } : Jvm.MethodName)) ∈ lw_all := lw_g (lw_at lw_m4 68 rfl) rfl
theorem q896 : (Jvm.Cond.instanceMethod ({ cls := "PegBands", name := "alike", desc := "(III)I" } : Jvm.MethodName)) ∈ lw_all := lw_g (lw_at lw_m4 69 rfl) rfl
theorem q897 : (Jvm.Cond.selects "PegBands" ({ cls := "PegBands", name := "alike", desc := "(III)I" } : Jvm.MethodName) ({ cls := "PegBands", name := "alike", desc := "(III)I" } : Jvm.MethodName)) ∈ lw_all := lw_g (lw_at lw_m4 70 rfl) rfl
theorem q898 : (Jvm.Cond.code ({ cls := "PegBands", name := "alike", desc := "(III)I" } : Jvm.MethodName) prog_1_method_31_code (4 : Nat) (Option.some Jvm.ClassFile.FieldType.int)) ∈ lw_all := lw_g (lw_at lw_m4 71 rfl) rfl
theorem q899 : (Jvm.Cond.methodLink "PegBands" (307 : Nat) ({ cls := "PegBands", name := "areAlike", desc := "(LPegBands$Band;LPegBands$Band;I)Z" } : Jvm.MethodName)) ∈ lw_all := lw_g (lw_at lw_m4 72 rfl) rfl
theorem q900 : (Jvm.Cond.privateMethod ({ cls := "PegBands", name := "areAlike", desc := "(LPegBands$Band;LPegBands$Band;I)Z" } : Jvm.MethodName)) ∈ lw_tbl := lw_at lw_m4 73 rfl
theorem q901 : (Jvm.Cond.instanceMethod ({ cls := "PegBands", name := "areAlike", desc := "(LPegBands$Band;LPegBands$Band;I)Z" } : Jvm.MethodName)) ∈ lw_all := lw_g (lw_at lw_m4 74 rfl) rfl
theorem q902 : (Jvm.Cond.code ({ cls := "PegBands", name := "areAlike", desc := "(LPegBands$Band;LPegBands$Band;I)Z" } : Jvm.MethodName) prog_1_method_30_code (5 : Nat) (Option.some Jvm.ClassFile.FieldType.boolean)) ∈ lw_all := lw_g (lw_at lw_m4 75 rfl) rfl
theorem q903 : (Jvm.Cond.methodLink "PegBands" (303 : Nat) ({ cls := "PegBands", name := "settle", desc := "(LPegBands$Band;I)V" } : Jvm.MethodName)) ∈ lw_all := lw_g (lw_at lw_m4 76 rfl) rfl
theorem q904 : (Jvm.Cond.privateMethod ({ cls := "PegBands", name := "settle", desc := "(LPegBands$Band;I)V" } : Jvm.MethodName)) ∈ lw_tbl := lw_at lw_m4 77 rfl
theorem q905 : (Jvm.Cond.instanceMethod ({ cls := "PegBands", name := "settle", desc := "(LPegBands$Band;I)V" } : Jvm.MethodName)) ∈ lw_all := lw_g (lw_at lw_m4 78 rfl) rfl
theorem q906 : (Jvm.Cond.code ({ cls := "PegBands", name := "settle", desc := "(LPegBands$Band;I)V" } : Jvm.MethodName) prog_1_method_29_code (11 : Nat) (Option.none : Option Jvm.ClassFile.FieldType)) ∈ lw_all := lw_g (lw_at lw_m4 79 rfl) rfl
theorem q907 : (Jvm.Cond.constant "PegBands" (285 : Nat) (1000000000 : Int32)) ∈ lw_all := lw_g (lw_at lw_m4 80 rfl) rfl
theorem q908 : (Jvm.Cond.methodLink "PegBands" (286 : Nat) ({ cls := "PegBands", name := "turnedX", desc := "(III)I" } : Jvm.MethodName)) ∈ lw_all := lw_g (lw_at lw_m4 81 rfl) rfl
theorem q909 : (Jvm.Cond.static ({ cls := "PegBands", name := "turnedX", desc := "(III)I" } : Jvm.MethodName)) ∈ lw_all := lw_g (lw_at lw_m4 82 rfl) rfl
theorem q910 : (Jvm.Cond.code ({ cls := "PegBands", name := "turnedX", desc := "(III)I" } : Jvm.MethodName) prog_1_method_26_code (4 : Nat) (Option.some Jvm.ClassFile.FieldType.int)) ∈ lw_all := lw_g (lw_at lw_m4 83 rfl) rfl
theorem q911 : (Jvm.Cond.methodLink "PegBands" (290 : Nat) ({ cls := "PegBands", name := "turnedY", desc := "(III)I" } : Jvm.MethodName)) ∈ lw_all := lw_g (lw_at lw_m4 84 rfl) rfl
theorem q912 : (Jvm.Cond.static ({ cls := "PegBands", name := "turnedY", desc := "(III)I" } : Jvm.MethodName)) ∈ lw_all := lw_g (lw_at lw_m4 85 rfl) rfl
theorem q913 : (Jvm.Cond.code ({ cls := "PegBands", name := "turnedY", desc := "(III)I" } : Jvm.MethodName) prog_1_method_27_code (3 : Nat) (Option.some Jvm.ClassFile.FieldType.int)) ∈ lw_all := lw_g (lw_at lw_m4 86 rfl) rfl
theorem q914 : (Jvm.Cond.methodLink "PegBands" (293 : Nat) ({ cls := "PegBands", name := "isLess", desc := "([I[II)Z" } : Jvm.MethodName)) ∈ lw_all := lw_g (lw_at lw_m4 87 rfl) rfl
theorem q915 : (Jvm.Cond.static ({ cls := "PegBands", name := "isLess", desc := "([I[II)Z" } : Jvm.MethodName)) ∈ lw_all := lw_g (lw_at lw_m4 88 rfl) rfl
theorem q916 : (Jvm.Cond.code ({ cls := "PegBands", name := "isLess", desc := "([I[II)Z" } : Jvm.MethodName) prog_1_method_28_code (4 : Nat) (Option.some Jvm.ClassFile.FieldType.boolean)) ∈ lw_all := lw_g (lw_at lw_m4 89 rfl) rfl
theorem q917 : (Jvm.Cond.methodLink "PegBands" (297 : Nat) ({ cls := "java/lang/System", name := "arraycopy", desc := "(Ljava/lang/Object;ILjava/lang/Object;II)V" } : Jvm.MethodName)) ∈ lw_all := lw_g (lw_at lw_m4 90 rfl) rfl
theorem q918 : (Jvm.Cond.static ({ cls := "java/lang/System", name := "arraycopy", desc := "(Ljava/lang/Object;ILjava/lang/Object;II)V" } : Jvm.MethodName)) ∈ lw_all := lw_g (lw_at lw_m4 91 rfl) rfl
theorem q919 : (Jvm.Cond.native ({ cls := "java/lang/System", name := "arraycopy", desc := "(Ljava/lang/Object;ILjava/lang/Object;II)V" } : Jvm.MethodName)) ∈ lw_all := lw_g (lw_at lw_m4 92 rfl) rfl
theorem q920 : (Jvm.Cond.methodLink "PegBandsLaw" (113 : Nat) ({ cls := "PegBands", name := "even", desc := "(II)I" } : Jvm.MethodName)) ∈ lw_all := lw_g (lw_at lw_m4 93 rfl) rfl
theorem q921 : (Jvm.Cond.instanceMethod ({ cls := "PegBands", name := "even", desc := "(II)I" } : Jvm.MethodName)) ∈ lw_all := lw_g (lw_at lw_m4 94 rfl) rfl
theorem q922 : (Jvm.Cond.selects "PegBands" ({ cls := "PegBands", name := "even", desc := "(II)I" } : Jvm.MethodName) ({ cls := "PegBands", name := "even", desc := "(II)I" } : Jvm.MethodName)) ∈ lw_all := lw_g (lw_at lw_m4 95 rfl) rfl
theorem q923 : (Jvm.Cond.code ({ cls := "PegBands", name := "even", desc := "(II)I" } : Jvm.MethodName) prog_1_method_33_code (5 : Nat) (Option.some Jvm.ClassFile.FieldType.int)) ∈ lw_all := lw_g (lw_at lw_m4 96 rfl) rfl
theorem q924 : (Jvm.Cond.methodLink "PegBands" (315 : Nat) ({ cls := "PegBands", name := "turned", desc := "(LPegBands$Band;I)LPegBands$Band;" } : Jvm.MethodName)) ∈ lw_all := lw_g (lw_at lw_m4 97 rfl) rfl
theorem q925 : (Jvm.Cond.static ({ cls := "PegBands", name := "turned", desc := "(LPegBands$Band;I)LPegBands$Band;" } : Jvm.MethodName)) ∈ lw_all := lw_g (lw_at lw_m4 98 rfl) rfl
theorem q926 : (Jvm.Cond.code ({ cls := "PegBands", name := "turned", desc := "(LPegBands$Band;I)LPegBands$Band;" } : Jvm.MethodName) prog_1_method_32_code (4 : Nat) (Option.some (Jvm.ClassFile.FieldType.object "PegBands$Band"))) ∈ lw_all := lw_g (lw_at lw_m4 99 rfl) rfl
theorem q927 : (Jvm.Cond.methodLink "PegBands" (311 : Nat) ({ cls := "PegBands$Band", name := "add", desc := "(II)V" } : Jvm.MethodName)) ∈ lw_all := lw_g (lw_at lw_m4 100 rfl) rfl
theorem q928 : (Jvm.Cond.methodLink "PegBandsLaw" (117 : Nat) ({ cls := "PegBands", name := "wide", desc := "(I)I" } : Jvm.MethodName)) ∈ lw_all := lw_g (lw_at lw_m4 101 rfl) rfl
theorem q929 : (Jvm.Cond.instanceMethod ({ cls := "PegBands", name := "wide", desc := "(I)I" } : Jvm.MethodName)) ∈ lw_all := lw_g (lw_at lw_m4 102 rfl) rfl
theorem q930 : (Jvm.Cond.selects "PegBands" ({ cls := "PegBands", name := "wide", desc := "(I)I" } : Jvm.MethodName) ({ cls := "PegBands", name := "wide", desc := "(I)I" } : Jvm.MethodName)) ∈ lw_all := lw_g (lw_at lw_m4 103 rfl) rfl
theorem q931 : (Jvm.Cond.code ({ cls := "PegBands", name := "wide", desc := "(I)I" } : Jvm.MethodName) prog_1_method_34_code (8 : Nat) (Option.some Jvm.ClassFile.FieldType.int)) ∈ lw_all := lw_g (lw_at lw_m4 104 rfl) rfl
theorem q932 : (Jvm.Cond.methodLink "PegBandsLaw" (109 : Nat) ({ cls := "PegBands", name := "rim", desc := "(II)I" } : Jvm.MethodName)) ∈ lw_all := lw_g (lw_at lw_m4 105 rfl) rfl
theorem q933 : (Jvm.Cond.instanceMethod ({ cls := "PegBands", name := "rim", desc := "(II)I" } : Jvm.MethodName)) ∈ lw_all := lw_g (lw_at lw_m4 106 rfl) rfl
theorem q934 : (Jvm.Cond.selects "PegBands" ({ cls := "PegBands", name := "rim", desc := "(II)I" } : Jvm.MethodName) ({ cls := "PegBands", name := "rim", desc := "(II)I" } : Jvm.MethodName)) ∈ lw_all := lw_g (lw_at lw_m4 107 rfl) rfl
theorem q935 : (Jvm.Cond.code ({ cls := "PegBands", name := "rim", desc := "(II)I" } : Jvm.MethodName) prog_1_method_37_code (5 : Nat) (Option.some Jvm.ClassFile.FieldType.int)) ∈ lw_all := lw_g (lw_at lw_m4 108 rfl) rfl
theorem q936 : (Jvm.Cond.methodLink "PegBands" (320 : Nat) ({ cls := "PegBands", name := "least", desc := "([II)I" } : Jvm.MethodName)) ∈ lw_all := lw_g (lw_at lw_m4 109 rfl) rfl
theorem q937 : (Jvm.Cond.static ({ cls := "PegBands", name := "least", desc := "([II)I" } : Jvm.MethodName)) ∈ lw_all := lw_g (lw_at lw_m4 110 rfl) rfl
theorem q938 : (Jvm.Cond.code ({ cls := "PegBands", name := "least", desc := "([II)I" } : Jvm.MethodName) prog_1_method_35_code (4 : Nat) (Option.some Jvm.ClassFile.FieldType.int)) ∈ lw_all := lw_g (lw_at lw_m4 111 rfl) rfl
theorem q939 : (Jvm.Cond.methodLink "PegBands" (324 : Nat) ({ cls := "PegBands", name := "most", desc := "([II)I" } : Jvm.MethodName)) ∈ lw_all := lw_g (lw_at lw_m4 112 rfl) rfl
theorem q940 : (Jvm.Cond.static ({ cls := "PegBands", name := "most", desc := "([II)I" } : Jvm.MethodName)) ∈ lw_all := lw_g (lw_at lw_m4 113 rfl) rfl
theorem q941 : (Jvm.Cond.code ({ cls := "PegBands", name := "most", desc := "([II)I" } : Jvm.MethodName) prog_1_method_36_code (4 : Nat) (Option.some Jvm.ClassFile.FieldType.int)) ∈ lw_all := lw_g (lw_at lw_m4 114 rfl) rfl
theorem q942 : (Jvm.Cond.constant "PegBands" (319 : Nat) (-1000000000 : Int32)) ∈ lw_all := lw_g (lw_at lw_m4 115 rfl) rfl
theorem q943 : (Jvm.Cond.methodLink "PegBandsLaw" (81 : Nat) ({ cls := "PegBands", name := "form", desc := "(II)I" } : Jvm.MethodName)) ∈ lw_all := lw_g (lw_at lw_m4 116 rfl) rfl
theorem q944 : (Jvm.Cond.instanceMethod ({ cls := "PegBands", name := "form", desc := "(II)I" } : Jvm.MethodName)) ∈ lw_all := lw_g (lw_at lw_m4 117 rfl) rfl
theorem q945 : (Jvm.Cond.selects "PegBands" ({ cls := "PegBands", name := "form", desc := "(II)I" } : Jvm.MethodName) ({ cls := "PegBands", name := "form", desc := "(II)I" } : Jvm.MethodName)) ∈ lw_all := lw_g (lw_at lw_m4 118 rfl) rfl
theorem q946 : (Jvm.Cond.code ({ cls := "PegBands", name := "form", desc := "(II)I" } : Jvm.MethodName) prog_1_method_38_code (3 : Nat) (Option.some Jvm.ClassFile.FieldType.int)) ∈ lw_all := lw_g (lw_at lw_m4 119 rfl) rfl
theorem q947 : (Jvm.Cond.methodLink "PegBandsLaw" (85 : Nat) ({ cls := "PegBands", name := "formAt", desc := "(I)I" } : Jvm.MethodName)) ∈ lw_all := lw_g (lw_at lw_m4 120 rfl) rfl
theorem q948 : (Jvm.Cond.instanceMethod ({ cls := "PegBands", name := "formAt", desc := "(I)I" } : Jvm.MethodName)) ∈ lw_all := lw_g (lw_at lw_m4 121 rfl) rfl
theorem q949 : (Jvm.Cond.selects "PegBands" ({ cls := "PegBands", name := "formAt", desc := "(I)I" } : Jvm.MethodName) ({ cls := "PegBands", name := "formAt", desc := "(I)I" } : Jvm.MethodName)) ∈ lw_all := lw_g (lw_at lw_m4 122 rfl) rfl
theorem q950 : (Jvm.Cond.code ({ cls := "PegBands", name := "formAt", desc := "(I)I" } : Jvm.MethodName) prog_1_method_39_code (2 : Nat) (Option.some Jvm.ClassFile.FieldType.int)) ∈ lw_all := lw_g (lw_at lw_m4 123 rfl) rfl
theorem q951 : (Jvm.Cond.methodLink "PegBandsLaw" (101 : Nat) ({ cls := "PegBands", name := "undo", desc := "()I" } : Jvm.MethodName)) ∈ lw_all := lw_g (lw_at lw_m4 124 rfl) rfl
theorem q952 : (Jvm.Cond.instanceMethod ({ cls := "PegBands", name := "undo", desc := "()I" } : Jvm.MethodName)) ∈ lw_all := lw_g (lw_at lw_m4 125 rfl) rfl
theorem q953 : (Jvm.Cond.selects "PegBands" ({ cls := "PegBands", name := "undo", desc := "()I" } : Jvm.MethodName) ({ cls := "PegBands", name := "undo", desc := "()I" } : Jvm.MethodName)) ∈ lw_all := lw_g (lw_at lw_m4 126 rfl) rfl
theorem q954 : (Jvm.Cond.code ({ cls := "PegBands", name := "undo", desc := "()I" } : Jvm.MethodName) prog_1_method_41_code (2 : Nat) (Option.some Jvm.ClassFile.FieldType.int)) ∈ lw_all := lw_g (lw_at lw_m4 127 rfl) rfl
theorem q955 : (Jvm.Cond.methodLink "PegBandsLaw" (89 : Nat) ({ cls := "PegBands", name := "move", desc := "(III)I" } : Jvm.MethodName)) ∈ lw_all := lw_g (lw_at lw_m4 128 rfl) rfl
theorem q956 : (Jvm.Cond.instanceMethod ({ cls := "PegBands", name := "move", desc := "(III)I" } : Jvm.MethodName)) ∈ lw_all := lw_g (lw_at lw_m4 129 rfl) rfl
theorem q957 : (Jvm.Cond.selects "PegBands" ({ cls := "PegBands", name := "move", desc := "(III)I" } : Jvm.MethodName) ({ cls := "PegBands", name := "move", desc := "(III)I" } : Jvm.MethodName)) ∈ lw_all := lw_g (lw_at lw_m4 130 rfl) rfl
theorem q958 : (Jvm.Cond.code ({ cls := "PegBands", name := "move", desc := "(III)I" } : Jvm.MethodName) prog_1_method_43_code (5 : Nat) (Option.some Jvm.ClassFile.FieldType.int)) ∈ lw_all := lw_g (lw_at lw_m4 131 rfl) rfl
theorem q959 : (Jvm.Cond.methodLink "PegBands" (336 : Nat) ({ cls := "PegBands$Band", name := "<init>", desc := "(LPegBands$Band;)V" } : Jvm.MethodName)) ∈ lw_all := lw_g (lw_at lw_m4 132 rfl) rfl
theorem q960 : (Jvm.Cond.instanceMethod ({ cls := "PegBands$Band", name := "<init>", desc := "(LPegBands$Band;)V" } : Jvm.MethodName)) ∈ lw_all := lw_g (lw_at lw_m4 133 rfl) rfl
theorem q961 : (Jvm.Cond.code ({ cls := "PegBands$Band", name := "<init>", desc := "(LPegBands$Band;)V" } : Jvm.MethodName) prog_3_method_2_code (2 : Nat) (Option.none : Option Jvm.ClassFile.FieldType)) ∈ lw_all := lw_g (lw_at lw_m4 134 rfl) rfl
theorem q962 : (Jvm.Cond.methodLink "PegBands$Band" (18 : Nat) ({ cls := "PegBands$Band", name := "be", desc := "(LPegBands$Band;)V" } : Jvm.MethodName)) ∈ lw_all := lw_g (lw_at lw_m4 135 rfl) rfl
theorem q963 : (Jvm.Cond.instanceMethod ({ cls := "PegBands$Band", name := "be", desc := "(LPegBands$Band;)V" } : Jvm.MethodName)) ∈ lw_all := lw_g (lw_at lw_m4 136 rfl) rfl
theorem q964 : (Jvm.Cond.selects "PegBands$Band" ({ cls := "PegBands$Band", name := "be", desc := "(LPegBands$Band;)V" } : Jvm.MethodName) ({ cls := "PegBands$Band", name := "be", desc := "(LPegBands$Band;)V" } : Jvm.MethodName)) ∈ lw_all := lw_g (lw_at lw_m4 137 rfl) rfl
theorem q965 : (Jvm.Cond.code ({ cls := "PegBands$Band", name := "be", desc := "(LPegBands$Band;)V" } : Jvm.MethodName) prog_3_method_3_code (2 : Nat) (Option.none : Option Jvm.ClassFile.FieldType)) ∈ lw_all := lw_g (lw_at lw_m4 138 rfl) rfl
theorem q966 : (Jvm.Cond.methodLink "PegBands$Band" (22 : Nat) ({ cls := "java/lang/System", name := "arraycopy", desc := "(Ljava/lang/Object;ILjava/lang/Object;II)V" } : Jvm.MethodName)) ∈ lw_all := lw_g (lw_at lw_m4 139 rfl) rfl
theorem q967 : (Jvm.Cond.methodLink "PegBands" (339 : Nat) ({ cls := "PegBands", name := "changes", desc := "(ILPegBands$Band;)I" } : Jvm.MethodName)) ∈ lw_all := lw_g (lw_at lw_m4 140 rfl) rfl
theorem q968 : (Jvm.Cond.privateMethod ({ cls := "PegBands", name := "changes", desc := "(ILPegBands$Band;)I" } : Jvm.MethodName)) ∈ lw_tbl := lw_at lw_m4 141 rfl
theorem q969 : (Jvm.Cond.instanceMethod ({ cls := "PegBands", name := "changes", desc := "(ILPegBands$Band;)I" } : Jvm.MethodName)) ∈ lw_all := lw_g (lw_at lw_m4 142 rfl) rfl
theorem q970 : (Jvm.Cond.code ({ cls := "PegBands", name := "changes", desc := "(ILPegBands$Band;)I" } : Jvm.MethodName) prog_1_method_42_code (4 : Nat) (Option.some Jvm.ClassFile.FieldType.int)) ∈ lw_all := lw_g (lw_at lw_m4 143 rfl) rfl
theorem q971 : (Jvm.Cond.methodLink "PegBands" (330 : Nat) ({ cls := "PegBands$Board", name := "why", desc := "(LPegBands$Band;I)I" } : Jvm.MethodName)) ∈ lw_all := lw_g (lw_at lw_m4 144 rfl) rfl
theorem q972 : (Jvm.Cond.methodLink "PegBands" (333 : Nat) ({ cls := "PegBands", name := "keep", desc := "()V" } : Jvm.MethodName)) ∈ lw_all := lw_g (lw_at lw_m4 145 rfl) rfl
theorem q973 : (Jvm.Cond.privateMethod ({ cls := "PegBands", name := "keep", desc := "()V" } : Jvm.MethodName)) ∈ lw_tbl := lw_at lw_m4 146 rfl
theorem q974 : (Jvm.Cond.instanceMethod ({ cls := "PegBands", name := "keep", desc := "()V" } : Jvm.MethodName)) ∈ lw_all := lw_g (lw_at lw_m4 147 rfl) rfl
theorem q975 : (Jvm.Cond.code ({ cls := "PegBands", name := "keep", desc := "()V" } : Jvm.MethodName) prog_1_method_40_code (2 : Nat) (Option.none : Option Jvm.ClassFile.FieldType)) ∈ lw_all := lw_g (lw_at lw_m4 148 rfl) rfl
theorem q976 : (Jvm.Cond.methodLink "PegBandsLaw" (93 : Nat) ({ cls := "PegBands", name := "slide", desc := "(III)I" } : Jvm.MethodName)) ∈ lw_all := lw_g (lw_at lw_m4 149 rfl) rfl
theorem q977 : (Jvm.Cond.instanceMethod ({ cls := "PegBands", name := "slide", desc := "(III)I" } : Jvm.MethodName)) ∈ lw_all := lw_g (lw_at lw_m4 150 rfl) rfl
theorem q978 : (Jvm.Cond.selects "PegBands" ({ cls := "PegBands", name := "slide", desc := "(III)I" } : Jvm.MethodName) ({ cls := "PegBands", name := "slide", desc := "(III)I" } : Jvm.MethodName)) ∈ lw_all := lw_g (lw_at lw_m4 151 rfl) rfl
theorem q979 : (Jvm.Cond.code ({ cls := "PegBands", name := "slide", desc := "(III)I" } : Jvm.MethodName) prog_1_method_44_code (6 : Nat) (Option.some Jvm.ClassFile.FieldType.int)) ∈ lw_all := lw_g (lw_at lw_m4 152 rfl) rfl
theorem q980 : (Jvm.Cond.methodLink "PegBandsLaw" (97 : Nat) ({ cls := "PegBands", name := "snap", desc := "(I)I" } : Jvm.MethodName)) ∈ lw_all := lw_g (lw_at lw_m4 153 rfl) rfl
theorem q981 : (Jvm.Cond.instanceMethod ({ cls := "PegBands", name := "snap", desc := "(I)I" } : Jvm.MethodName)) ∈ lw_all := lw_g (lw_at lw_m4 154 rfl) rfl
theorem q982 : (Jvm.Cond.selects "PegBands" ({ cls := "PegBands", name := "snap", desc := "(I)I" } : Jvm.MethodName) ({ cls := "PegBands", name := "snap", desc := "(I)I" } : Jvm.MethodName)) ∈ lw_all := lw_g (lw_at lw_m4 155 rfl) rfl
theorem q983 : (Jvm.Cond.code ({ cls := "PegBands", name := "snap", desc := "(I)I" } : Jvm.MethodName) prog_1_method_45_code (4 : Nat) (Option.some Jvm.ClassFile.FieldType.int)) ∈ lw_all := lw_g (lw_at lw_m4 156 rfl) rfl
theorem q984 : (Jvm.Cond.methodLink "PegBands" (343 : Nat) ({ cls := "PegBands$Board", name := "free", desc := "()I" } : Jvm.MethodName)) ∈ lw_all := lw_g (lw_at lw_m4 157 rfl) rfl
theorem q985 : (Jvm.Cond.instanceMethod ({ cls := "PegBands$Board", name := "free", desc := "()I" } : Jvm.MethodName)) ∈ lw_all := lw_g (lw_at lw_m4 158 rfl) rfl
theorem q986 : (Jvm.Cond.selects "PegBands$Board" ({ cls := "PegBands$Board", name := "free", desc := "()I" } : Jvm.MethodName) ({ cls := "PegBands$Board", name := "free", desc := "()I" } : Jvm.MethodName)) ∈ lw_all := lw_g (lw_at lw_m4 159 rfl) rfl
theorem q987 : (Jvm.Cond.code ({ cls := "PegBands$Board", name := "free", desc := "()I" } : Jvm.MethodName) prog_4_method_6_code (4 : Nat) (Option.some Jvm.ClassFile.FieldType.int)) ∈ lw_all := lw_g (lw_at lw_m4 160 rfl) rfl
theorem q988 : (Jvm.Cond.methodLink "PegBands$Board" (66 : Nat) ({ cls := "PegBands$Board", name := "over", desc := "(II)I" } : Jvm.MethodName)) ∈ lw_all := lw_g (lw_at lw_m4 161 rfl) rfl
theorem q989 : (Jvm.Cond.instanceMethod ({ cls := "PegBands$Board", name := "over", desc := "(II)I" } : Jvm.MethodName)) ∈ lw_all := lw_g (lw_at lw_m4 162 rfl) rfl
theorem q990 : (Jvm.Cond.selects "PegBands$Board" ({ cls := "PegBands$Board", name := "over", desc := "(II)I" } : Jvm.MethodName) ({ cls := "PegBands$Board", name := "over", desc := "(II)I" } : Jvm.MethodName)) ∈ lw_all := lw_g (lw_at lw_m4 163 rfl) rfl
theorem q991 : (Jvm.Cond.code ({ cls := "PegBands$Board", name := "over", desc := "(II)I" } : Jvm.MethodName) prog_4_method_5_code (5 : Nat) (Option.some Jvm.ClassFile.FieldType.int)) ∈ lw_all := lw_g (lw_at lw_m4 164 rfl) rfl
theorem q992 : (Jvm.Cond.methodLink "PegBands$Board" (62 : Nat) ({ cls := "PegBands$Band", name := "place", desc := "(II)I" } : Jvm.MethodName)) ∈ lw_all := lw_g (lw_at lw_m4 165 rfl) rfl
theorem q993 : (Jvm.Cond.methodLink "PegBandsLaw" (105 : Nat) ({ cls := "PegBands", name := "free", desc := "()I" } : Jvm.MethodName)) ∈ lw_all := lw_g (lw_at lw_m4 166 rfl) rfl
theorem q994 : (Jvm.Cond.instanceMethod ({ cls := "PegBands", name := "free", desc := "()I" } : Jvm.MethodName)) ∈ lw_all := lw_g (lw_at lw_m4 167 rfl) rfl
theorem q995 : (Jvm.Cond.selects "PegBands" ({ cls := "PegBands", name := "free", desc := "()I" } : Jvm.MethodName) ({ cls := "PegBands", name := "free", desc := "()I" } : Jvm.MethodName)) ∈ lw_all := lw_g (lw_at lw_m4 168 rfl) rfl
theorem q996 : (Jvm.Cond.code ({ cls := "PegBands", name := "free", desc := "()I" } : Jvm.MethodName) prog_1_method_46_code (1 : Nat) (Option.some Jvm.ClassFile.FieldType.int)) ∈ lw_all := lw_g (lw_at lw_m4 169 rfl) rfl
theorem q997 : (Jvm.Cond.methodLink "PegBandsLaw" (121 : Nat) ({ cls := "PegBands", name := "calls", desc := "()I" } : Jvm.MethodName)) ∈ lw_all := lw_g (lw_at lw_m4 170 rfl) rfl
theorem q998 : (Jvm.Cond.instanceMethod ({ cls := "PegBands", name := "calls", desc := "()I" } : Jvm.MethodName)) ∈ lw_all := lw_g (lw_at lw_m4 171 rfl) rfl
theorem q999 : (Jvm.Cond.selects "PegBands" ({ cls := "PegBands", name := "calls", desc := "()I" } : Jvm.MethodName) ({ cls := "PegBands", name := "calls", desc := "()I" } : Jvm.MethodName)) ∈ lw_all := lw_g (lw_at lw_m4 172 rfl) rfl
theorem q1000 : (Jvm.Cond.codeWith ({ cls := "PegBands", name := "calls", desc := "()I" } : Jvm.MethodName) prog_1_method_47_code (2 : Nat) (Option.some Jvm.ClassFile.FieldType.int) [((9 : Nat), (38 : Nat), (39 : Nat), (13 : Nat))]) ∈ lw_all := lw_g (lw_at lw_m4 173 rfl) rfl
theorem q1001 : (Jvm.Cond.methodLink "PegBands" (346 : Nat) ({ cls := "PegBands$CallsReader", name := "read", desc := "(LPegBands$Calls;)V" } : Jvm.MethodName)) ∈ lw_all := lw_g (lw_at lw_m4 174 rfl) rfl
theorem q1002 : (Jvm.Cond.instanceMethod ({ cls := "PegBands$CallsReader", name := "read", desc := "(LPegBands$Calls;)V" } : Jvm.MethodName)) ∈ lw_all := lw_g (lw_at lw_m4 175 rfl) rfl
theorem q1003 : (Jvm.Cond.selects "PegBands$CallsReader" ({ cls := "PegBands$CallsReader", name := "read", desc := "(LPegBands$Calls;)V" } : Jvm.MethodName) ({ cls := "PegBands$CallsReader", name := "read", desc := "(LPegBands$Calls;)V" } : Jvm.MethodName)) ∈ lw_all := lw_g (lw_at lw_m4 176 rfl) rfl
theorem q1004 : (Jvm.Cond.code ({ cls := "PegBands$CallsReader", name := "read", desc := "(LPegBands$Calls;)V" } : Jvm.MethodName) prog_8_method_2_code (2 : Nat) (Option.none : Option Jvm.ClassFile.FieldType)) ∈ lw_all := lw_g (lw_at lw_m4 177 rfl) rfl
theorem q1005 : (Jvm.Cond.methodLink "PegBands$CallsReader" (15 : Nat) ({ cls := "PegBands$CallsReader", name := "begin", desc := "()V" } : Jvm.MethodName)) ∈ lw_all := lw_g (lw_at lw_m4 178 rfl) rfl
theorem q1006 : (Jvm.Cond.sameMethod "PegBands$CallsReader" "PegBands$Reader" "begin" "()V") ∈ lw_all := lw_g (lw_at lw_m4 179 rfl) rfl
theorem q1007 : (Jvm.Cond.selects "PegBands$CallsReader" ({ cls := "PegBands$CallsReader", name := "begin", desc := "()V" } : Jvm.MethodName) ({ cls := "PegBands$Reader", name := "begin", desc := "()V" } : Jvm.MethodName)) ∈ lw_all := lw_g (lw_at lw_m4 180 rfl) rfl
theorem q1008 : (Jvm.Cond.stringRef "PegBands$CallsReader" (19 : Nat) "at") ∈ lw_tbl := lw_at lw_m4 181 rfl
theorem q1009 : (Jvm.Cond.methodLink "PegBands$CallsReader" (21 : Nat) ({ cls := "PegBands$CallsReader", name := "word", desc := "(Ljava/lang/String;)V" } : Jvm.MethodName)) ∈ lw_all := lw_g (lw_at lw_m4 182 rfl) rfl
theorem q1010 : (Jvm.Cond.sameMethod "PegBands$CallsReader" "PegBands$Reader" "word" "(Ljava/lang/String;)V") ∈ lw_all := lw_g (lw_at lw_m4 183 rfl) rfl
theorem q1011 : (Jvm.Cond.selects "PegBands$CallsReader" ({ cls := "PegBands$CallsReader", name := "word", desc := "(Ljava/lang/String;)V" } : Jvm.MethodName) ({ cls := "PegBands$Reader", name := "word", desc := "(Ljava/lang/String;)V" } : Jvm.MethodName)) ∈ lw_all := lw_g (lw_at lw_m4 184 rfl) rfl
theorem q1012 : (Jvm.Cond.methodLink "PegBands$CallsReader" (40 : Nat) ({ cls := "PegBands$CallsReader", name := "number", desc := "(II)I" } : Jvm.MethodName)) ∈ lw_all := lw_g (lw_at lw_m4 185 rfl) rfl
theorem q1013 : (Jvm.Cond.sameMethod "PegBands$CallsReader" "PegBands$Reader" "number" "(II)I") ∈ lw_all := lw_g (lw_at lw_m4 186 rfl) rfl
theorem q1014 : (Jvm.Cond.selects "PegBands$CallsReader" ({ cls := "PegBands$CallsReader", name := "number", desc := "(II)I" } : Jvm.MethodName) ({ cls := "PegBands$Reader", name := "number", desc := "(II)I" } : Jvm.MethodName)) ∈ lw_all := lw_g (lw_at lw_m4 187 rfl) rfl
theorem q1015 : (Jvm.Cond.methodLink "PegBands$CallsReader" (53 : Nat) ({ cls := "PegBands$CallsReader", name := "sign", desc := "(I)V" } : Jvm.MethodName)) ∈ lw_all := lw_g (lw_at lw_m4 188 rfl) rfl
theorem q1016 : (Jvm.Cond.sameMethod "PegBands$CallsReader" "PegBands$Reader" "sign" "(I)V") ∈ lw_all := lw_g (lw_at lw_m4 189 rfl) rfl
theorem q1017 : (Jvm.Cond.selects "PegBands$CallsReader" ({ cls := "PegBands$CallsReader", name := "sign", desc := "(I)V" } : Jvm.MethodName) ({ cls := "PegBands$Reader", name := "sign", desc := "(I)V" } : Jvm.MethodName)) ∈ lw_all := lw_g (lw_at lw_m4 190 rfl) rfl
theorem q1018 : (Jvm.Cond.stringRef "PegBands$CallsReader" (60 : Nat) "by") ∈ lw_tbl := lw_at lw_m4 191 rfl
theorem q1019 : (Jvm.Cond.methodLink "PegBands$CallsReader" (62 : Nat) ({ cls := "PegBands$CallsReader", name := "is", desc := "(Ljava/lang/String;)Z" } : Jvm.MethodName)) ∈ lw_all := lw_g (lw_at lw_m4 192 rfl) rfl
theorem q1020 : (Jvm.Cond.sameMethod "PegBands$CallsReader" "PegBands$Reader" "is" "(Ljava/lang/String;)Z") ∈ lw_all := lw_g (lw_at lw_m4 193 rfl) rfl
theorem q1021 : (Jvm.Cond.selects "PegBands$CallsReader" ({ cls := "PegBands$CallsReader", name := "is", desc := "(Ljava/lang/String;)Z" } : Jvm.MethodName) ({ cls := "PegBands$Reader", name := "is", desc := "(Ljava/lang/String;)Z" } : Jvm.MethodName)) ∈ lw_all := lw_g (lw_at lw_m4 194 rfl) rfl
theorem q1022 : (Jvm.Cond.methodLink "PegBands$CallsReader" (66 : Nat) ({ cls := "PegBands$CallsReader", name := "must", desc := "(ZI)V" } : Jvm.MethodName)) ∈ lw_all := lw_g (lw_at lw_m4 195 rfl) rfl
theorem q1023 : (Jvm.Cond.sameMethod "PegBands$CallsReader" "PegBands$Reader" "must" "(ZI)V") ∈ lw_all := lw_g (lw_at lw_m4 196 rfl) rfl
theorem q1024 : (Jvm.Cond.selects "PegBands$CallsReader" ({ cls := "PegBands$CallsReader", name := "must", desc := "(ZI)V" } : Jvm.MethodName) ({ cls := "PegBands$Reader", name := "must", desc := "(ZI)V" } : Jvm.MethodName)) ∈ lw_all := lw_g (lw_at lw_m4 197 rfl) rfl
theorem q1025 : (Jvm.Cond.methodLink "PegBands$CallsReader" (70 : Nat) ({ cls := "PegBands$CallsReader", name := "next", desc := "()V" } : Jvm.MethodName)) ∈ lw_all := lw_g (lw_at lw_m4 198 rfl) rfl
theorem q1026 : (Jvm.Cond.sameMethod "PegBands$CallsReader" "PegBands$Reader" "next" "()V") ∈ lw_all := lw_g (lw_at lw_m4 199 rfl) rfl
theorem q1027 : (Jvm.Cond.selects "PegBands$CallsReader" ({ cls := "PegBands$CallsReader", name := "next", desc := "()V" } : Jvm.MethodName) ({ cls := "PegBands$Reader", name := "next", desc := "()V" } : Jvm.MethodName)) ∈ lw_all := lw_g (lw_at lw_m4 200 rfl) rfl
theorem q1028 : (Jvm.Cond.methodLink "PegBands$CallsReader" (77 : Nat) ({ cls := "PegBands$CallsReader", name := "step", desc := "()I" } : Jvm.MethodName)) ∈ lw_all := lw_g (lw_at lw_m4 201 rfl) rfl
theorem q1029 : (Jvm.Cond.privateMethod ({ cls := "PegBands$CallsReader", name := "step", desc := "()I" } : Jvm.MethodName)) ∈ lw_tbl := lw_at lw_m4 202 rfl
theorem q1030 : (Jvm.Cond.instanceMethod ({ cls := "PegBands$CallsReader", name := "step", desc := "()I" } : Jvm.MethodName)) ∈ lw_all := lw_g (lw_at lw_m4 203 rfl) rfl
theorem q1031 : (Jvm.Cond.code ({ cls := "PegBands$CallsReader", name := "step", desc := "()I" } : Jvm.MethodName) prog_8_method_3_code (3 : Nat) (Option.some Jvm.ClassFile.FieldType.int)) ∈ lw_all := lw_g (lw_at lw_m4 204 rfl) rfl
theorem q1032 : (Jvm.Cond.methodLink "PegBands$CallsReader" (84 : Nat) ({ cls := "PegBands$CallsReader", name := "is", desc := "(I)Z" } : Jvm.MethodName)) ∈ lw_all := lw_g (lw_at lw_m4 205 rfl) rfl
theorem q1033 : (Jvm.Cond.sameMethod "PegBands$CallsReader" "PegBands$Reader" "is" "(I)Z") ∈ lw_all := lw_g (lw_at lw_m4 206 rfl) rfl
theorem q1034 : (Jvm.Cond.selects "PegBands$CallsReader" ({ cls := "PegBands$CallsReader", name := "is", desc := "(I)Z" } : Jvm.MethodName) ({ cls := "PegBands$Reader", name := "is", desc := "(I)Z" } : Jvm.MethodName)) ∈ lw_all := lw_g (lw_at lw_m4 207 rfl) rfl
theorem q1035 : (Jvm.Cond.methodLink "PegBands" (349 : Nat) ({ cls := "PegBands$Calls", name := "be", desc := "(LPegBands$Calls;)V" } : Jvm.MethodName)) ∈ lw_all := lw_g (lw_at lw_m4 208 rfl) rfl
theorem q1036 : (Jvm.Cond.instanceMethod ({ cls := "PegBands$Calls", name := "be", desc := "(LPegBands$Calls;)V" } : Jvm.MethodName)) ∈ lw_all := lw_g (lw_at lw_m4 209 rfl) rfl
theorem q1037 : (Jvm.Cond.selects "PegBands$Calls" ({ cls := "PegBands$Calls", name := "be", desc := "(LPegBands$Calls;)V" } : Jvm.MethodName) ({ cls := "PegBands$Calls", name := "be", desc := "(LPegBands$Calls;)V" } : Jvm.MethodName)) ∈ lw_all := lw_g (lw_at lw_m4 210 rfl) rfl
theorem q1038 : (Jvm.Cond.code ({ cls := "PegBands$Calls", name := "be", desc := "(LPegBands$Calls;)V" } : Jvm.MethodName) prog_7_method_2_code (2 : Nat) (Option.none : Option Jvm.ClassFile.FieldType)) ∈ lw_all := lw_g (lw_at lw_m4 211 rfl) rfl
theorem q1039 : (Jvm.Cond.methodLink "PegBands$Calls" (18 : Nat) ({ cls := "java/lang/System", name := "arraycopy", desc := "(Ljava/lang/Object;ILjava/lang/Object;II)V" } : Jvm.MethodName)) ∈ lw_all := lw_g (lw_at lw_m4 212 rfl) rfl
theorem q1040 : (Jvm.Cond.methodLink "PegBandsLaw" (125 : Nat) ({ cls := "PegBands", name := "closes", desc := "()I" } : Jvm.MethodName)) ∈ lw_all := lw_g (lw_at lw_m4 213 rfl) rfl
theorem q1041 : (Jvm.Cond.instanceMethod ({ cls := "PegBands", name := "closes", desc := "()I" } : Jvm.MethodName)) ∈ lw_all := lw_g (lw_at lw_m4 214 rfl) rfl
theorem q1042 : (Jvm.Cond.selects "PegBands" ({ cls := "PegBands", name := "closes", desc := "()I" } : Jvm.MethodName) ({ cls := "PegBands", name := "closes", desc := "()I" } : Jvm.MethodName)) ∈ lw_all := lw_g (lw_at lw_m4 215 rfl) rfl
theorem q1043 : (Jvm.Cond.code ({ cls := "PegBands", name := "closes", desc := "()I" } : Jvm.MethodName) prog_1_method_48_code (1 : Nat) (Option.some Jvm.ClassFile.FieldType.int)) ∈ lw_all := lw_g (lw_at lw_m4 216 rfl) rfl
theorem q1044 : (Jvm.Cond.methodLink "PegBands" (352 : Nat) ({ cls := "PegBands$Calls", name := "isClosed", desc := "()Z" } : Jvm.MethodName)) ∈ lw_all := lw_g (lw_at lw_m4 217 rfl) rfl
theorem q1045 : (Jvm.Cond.instanceMethod ({ cls := "PegBands$Calls", name := "isClosed", desc := "()Z" } : Jvm.MethodName)) ∈ lw_all := lw_g (lw_at lw_m4 218 rfl) rfl
theorem q1046 : (Jvm.Cond.selects "PegBands$Calls" ({ cls := "PegBands$Calls", name := "isClosed", desc := "()Z" } : Jvm.MethodName) ({ cls := "PegBands$Calls", name := "isClosed", desc := "()Z" } : Jvm.MethodName)) ∈ lw_all := lw_g (lw_at lw_m4 219 rfl) rfl
theorem q1047 : (Jvm.Cond.code ({ cls := "PegBands$Calls", name := "isClosed", desc := "()Z" } : Jvm.MethodName) prog_7_method_4_code (1 : Nat) (Option.some Jvm.ClassFile.FieldType.boolean)) ∈ lw_all := lw_g (lw_at lw_m4 220 rfl) rfl
theorem q1048 : (Jvm.Cond.methodLink "PegBands$Calls" (34 : Nat) ({ cls := "PegBands$Calls", name := "sum", desc := "([I)I" } : Jvm.MethodName)) ∈ lw_all := lw_g (lw_at lw_m4 221 rfl) rfl
theorem q1049 : (Jvm.Cond.instanceMethod ({ cls := "PegBands$Calls", name := "sum", desc := "([I)I" } : Jvm.MethodName)) ∈ lw_all := lw_g (lw_at lw_m4 222 rfl) rfl
theorem q1050 : (Jvm.Cond.selects "PegBands$Calls" ({ cls := "PegBands$Calls", name := "sum", desc := "([I)I" } : Jvm.MethodName) ({ cls := "PegBands$Calls", name := "sum", desc := "([I)I" } : Jvm.MethodName)) ∈ lw_all := lw_g (lw_at lw_m4 223 rfl) rfl
theorem q1051 : (Jvm.Cond.code ({ cls := "PegBands$Calls", name := "sum", desc := "([I)I" } : Jvm.MethodName) prog_7_method_3_code (4 : Nat) (Option.some Jvm.ClassFile.FieldType.int)) ∈ lw_all := lw_g (lw_at lw_m4 224 rfl) rfl
theorem q1052 : (Jvm.Cond.methodLink "PegBandsLaw" (129 : Nat) ({ cls := "PegBands", name := "mended", desc := "(I)I" } : Jvm.MethodName)) ∈ lw_all := lw_g (lw_at lw_m4 225 rfl) rfl
theorem q1053 : (Jvm.Cond.instanceMethod ({ cls := "PegBands", name := "mended", desc := "(I)I" } : Jvm.MethodName)) ∈ lw_all := lw_g (lw_at lw_m4 226 rfl) rfl
theorem q1054 : (Jvm.Cond.selects "PegBands" ({ cls := "PegBands", name := "mended", desc := "(I)I" } : Jvm.MethodName) ({ cls := "PegBands", name := "mended", desc := "(I)I" } : Jvm.MethodName)) ∈ lw_all := lw_g (lw_at lw_m4 227 rfl) rfl
theorem q1055 : (Jvm.Cond.code ({ cls := "PegBands", name := "mended", desc := "(I)I" } : Jvm.MethodName) prog_1_method_50_code (4 : Nat) (Option.some Jvm.ClassFile.FieldType.int)) ∈ lw_all := lw_g (lw_at lw_m4 228 rfl) rfl
theorem q1056 : (Jvm.Cond.methodLink "PegBands" (361 : Nat) ({ cls := "PegBands$Calls", name := "band", desc := "(I)LPegBands$Band;" } : Jvm.MethodName)) ∈ lw_all := lw_g (lw_at lw_m4 229 rfl) rfl
theorem q1057 : (Jvm.Cond.instanceMethod ({ cls := "PegBands$Calls", name := "band", desc := "(I)LPegBands$Band;" } : Jvm.MethodName)) ∈ lw_all := lw_g (lw_at lw_m4 230 rfl) rfl
theorem q1058 : (Jvm.Cond.selects "PegBands$Calls" ({ cls := "PegBands$Calls", name := "band", desc := "(I)LPegBands$Band;" } : Jvm.MethodName) ({ cls := "PegBands$Calls", name := "band", desc := "(I)LPegBands$Band;" } : Jvm.MethodName)) ∈ lw_all := lw_g (lw_at lw_m4 231 rfl) rfl
theorem q1059 : (Jvm.Cond.code ({ cls := "PegBands$Calls", name := "band", desc := "(I)LPegBands$Band;" } : Jvm.MethodName) prog_7_method_5_code (6 : Nat) (Option.some (Jvm.ClassFile.FieldType.object "PegBands$Band"))) ∈ lw_all := lw_g (lw_at lw_m4 232 rfl) rfl
theorem q1060 : (Jvm.Cond.classLink "PegBands$Calls" (38 : Nat) "PegBands$Band") ∈ lw_all := lw_g (lw_at lw_m4 233 rfl) rfl
theorem q1061 : (Jvm.Cond.methodLink "PegBands$Calls" (40 : Nat) ({ cls := "PegBands$Band", name := "<init>", desc := "()V" } : Jvm.MethodName)) ∈ lw_all := lw_g (lw_at lw_m4 234 rfl) rfl
theorem q1062 : (Jvm.Cond.methodLink "PegBands$Calls" (41 : Nat) ({ cls := "PegBands$Band", name := "add", desc := "(II)V" } : Jvm.MethodName)) ∈ lw_all := lw_g (lw_at lw_m4 235 rfl) rfl
theorem q1063 : (Jvm.Cond.methodLink "PegBands" (364 : Nat) ({ cls := "PegBands", name := "isSound", desc := "(LPegBands$Band;)Z" } : Jvm.MethodName)) ∈ lw_all := lw_g (lw_at lw_m4 236 rfl) rfl
theorem q1064 : (Jvm.Cond.privateMethod ({ cls := "PegBands", name := "isSound", desc := "(LPegBands$Band;)Z" } : Jvm.MethodName)) ∈ lw_tbl := lw_at lw_m4 237 rfl
theorem q1065 : (Jvm.Cond.instanceMethod ({ cls := "PegBands", name := "isSound", desc := "(LPegBands$Band;)Z" } : Jvm.MethodName)) ∈ lw_all := lw_g (lw_at lw_m4 238 rfl) rfl
theorem q1066 : (Jvm.Cond.code ({ cls := "PegBands", name := "isSound", desc := "(LPegBands$Band;)Z" } : Jvm.MethodName) prog_1_method_49_code (3 : Nat) (Option.some Jvm.ClassFile.FieldType.boolean)) ∈ lw_all := lw_g (lw_at lw_m4 239 rfl) rfl
theorem q1067 : (Jvm.Cond.methodLink "PegBands" (356 : Nat) ({ cls := "PegBands$Board", name := "isPeg", desc := "(II)Z" } : Jvm.MethodName)) ∈ lw_all := lw_g (lw_at lw_m5 0 rfl) rfl
theorem q1068 : (Jvm.Cond.methodLink "PegBands" (359 : Nat) ({ cls := "PegBands$Band", name := "why", desc := "()I" } : Jvm.MethodName)) ∈ lw_all := lw_g (lw_at lw_m5 1 rfl) rfl
theorem q1069 : (Jvm.Cond.methodLink "PegBandsLaw" (133 : Nat) ({ cls := "PegBands", name := "lay", desc := "()I" } : Jvm.MethodName)) ∈ lw_all := lw_g (lw_at lw_m5 2 rfl) rfl
theorem q1070 : (Jvm.Cond.instanceMethod ({ cls := "PegBands", name := "lay", desc := "()I" } : Jvm.MethodName)) ∈ lw_all := lw_g (lw_at lw_m5 3 rfl) rfl
theorem q1071 : (Jvm.Cond.selects "PegBands" ({ cls := "PegBands", name := "lay", desc := "()I" } : Jvm.MethodName) ({ cls := "PegBands", name := "lay", desc := "()I" } : Jvm.MethodName)) ∈ lw_all := lw_g (lw_at lw_m5 4 rfl) rfl
theorem q1072 : (Jvm.Cond.code ({ cls := "PegBands", name := "lay", desc := "()I" } : Jvm.MethodName) prog_1_method_51_code (3 : Nat) (Option.some Jvm.ClassFile.FieldType.int)) ∈ lw_all := lw_g (lw_at lw_m5 5 rfl) rfl
theorem q1073 : (Jvm.Cond.methodLink "PegBandsLaw" (137 : Nat) ({ cls := "PegBands", name := "write", desc := "(I)I" } : Jvm.MethodName)) ∈ lw_all := lw_g (lw_at lw_m5 6 rfl) rfl
theorem q1074 : (Jvm.Cond.instanceMethod ({ cls := "PegBands", name := "write", desc := "(I)I" } : Jvm.MethodName)) ∈ lw_all := lw_g (lw_at lw_m5 7 rfl) rfl
theorem q1075 : (Jvm.Cond.selects "PegBands" ({ cls := "PegBands", name := "write", desc := "(I)I" } : Jvm.MethodName) ({ cls := "PegBands", name := "write", desc := "(I)I" } : Jvm.MethodName)) ∈ lw_all := lw_g (lw_at lw_m5 8 rfl) rfl
theorem q1076 : (Jvm.Cond.code ({ cls := "PegBands", name := "write", desc := "(I)I" } : Jvm.MethodName) prog_1_method_55_code (6 : Nat) (Option.some Jvm.ClassFile.FieldType.int)) ∈ lw_all := lw_g (lw_at lw_m5 9 rfl) rfl
theorem q1077 : (Jvm.Cond.methodLink "PegBands" (382 : Nat) ({ cls := "PegBands", name := "write", desc := "(LPegBands$Band;IZ)V" } : Jvm.MethodName)) ∈ lw_all := lw_g (lw_at lw_m5 10 rfl) rfl
theorem q1078 : (Jvm.Cond.privateMethod ({ cls := "PegBands", name := "write", desc := "(LPegBands$Band;IZ)V" } : Jvm.MethodName)) ∈ lw_tbl := lw_at lw_m5 11 rfl
theorem q1079 : (Jvm.Cond.instanceMethod ({ cls := "PegBands", name := "write", desc := "(LPegBands$Band;IZ)V" } : Jvm.MethodName)) ∈ lw_all := lw_g (lw_at lw_m5 12 rfl) rfl
theorem q1080 : (Jvm.Cond.code ({ cls := "PegBands", name := "write", desc := "(LPegBands$Band;IZ)V" } : Jvm.MethodName) prog_1_method_54_code (7 : Nat) (Option.none : Option Jvm.ClassFile.FieldType)) ∈ lw_all := lw_g (lw_at lw_m5 13 rfl) rfl
theorem q1081 : (Jvm.Cond.methodLink "PegBands" (370 : Nat) ({ cls := "PegBands", name := "put", desc := "(I)V" } : Jvm.MethodName)) ∈ lw_all := lw_g (lw_at lw_m5 14 rfl) rfl
theorem q1082 : (Jvm.Cond.privateMethod ({ cls := "PegBands", name := "put", desc := "(I)V" } : Jvm.MethodName)) ∈ lw_tbl := lw_at lw_m5 15 rfl
theorem q1083 : (Jvm.Cond.instanceMethod ({ cls := "PegBands", name := "put", desc := "(I)V" } : Jvm.MethodName)) ∈ lw_all := lw_g (lw_at lw_m5 16 rfl) rfl
theorem q1084 : (Jvm.Cond.code ({ cls := "PegBands", name := "put", desc := "(I)V" } : Jvm.MethodName) prog_1_method_52_code (2 : Nat) (Option.none : Option Jvm.ClassFile.FieldType)) ∈ lw_all := lw_g (lw_at lw_m5 17 rfl) rfl
theorem q1085 : (Jvm.Cond.methodLink "PegBands" (373 : Nat) ({ cls := "PegBands", name := "putNumber", desc := "(I)V" } : Jvm.MethodName)) ∈ lw_all := lw_g (lw_at lw_m5 18 rfl) rfl
theorem q1086 : (Jvm.Cond.privateMethod ({ cls := "PegBands", name := "putNumber", desc := "(I)V" } : Jvm.MethodName)) ∈ lw_tbl := lw_at lw_m5 19 rfl
theorem q1087 : (Jvm.Cond.instanceMethod ({ cls := "PegBands", name := "putNumber", desc := "(I)V" } : Jvm.MethodName)) ∈ lw_all := lw_g (lw_at lw_m5 20 rfl) rfl
theorem q1088 : (Jvm.Cond.code ({ cls := "PegBands", name := "putNumber", desc := "(I)V" } : Jvm.MethodName) prog_1_method_53_code (2 : Nat) (Option.none : Option Jvm.ClassFile.FieldType)) ∈ lw_all := lw_g (lw_at lw_m5 21 rfl) rfl
theorem q1089 : (Jvm.Cond.methodLink "PegBands" (167 : Nat) ({ cls := "java/lang/Math", name := "abs", desc := "(I)I" } : Jvm.MethodName)) ∈ lw_all := lw_g (lw_at lw_m5 22 rfl) rfl
theorem q1090 : (Jvm.Cond.static ({ cls := "java/lang/Math", name := "abs", desc := "(I)I" } : Jvm.MethodName)) ∈ lw_all := lw_g (lw_at lw_m5 23 rfl) rfl
theorem q1091 : (Jvm.Cond.code ({ cls := "java/lang/Math", name := "abs", desc := "(I)I" } : Jvm.MethodName) prog_23_method_59_code (1 : Nat) (Option.some Jvm.ClassFile.FieldType.int)) ∈ lw_all := lw_g (lw_at lw_m5 24 rfl) rfl
theorem q1092 : (Jvm.Cond.methodLink "PegBands" (376 : Nat) ({ cls := "PegBands$Band", name := "next", desc := "(I)I" } : Jvm.MethodName)) ∈ lw_all := lw_g (lw_at lw_m5 25 rfl) rfl
theorem q1093 : (Jvm.Cond.methodLink "PegBands" (379 : Nat) ({ cls := "PegBands$Band", name := "last", desc := "(I)I" } : Jvm.MethodName)) ∈ lw_all := lw_g (lw_at lw_m5 26 rfl) rfl
theorem q1094 : (Jvm.Cond.methodLink "PegBandsLaw" (141 : Nat) ({ cls := "PegBands", name := "byteAt", desc := "(I)I" } : Jvm.MethodName)) ∈ lw_all := lw_g (lw_at lw_m5 27 rfl) rfl
theorem q1095 : (Jvm.Cond.instanceMethod ({ cls := "PegBands", name := "byteAt", desc := "(I)I" } : Jvm.MethodName)) ∈ lw_all := lw_g (lw_at lw_m5 28 rfl) rfl
theorem q1096 : (Jvm.Cond.selects "PegBands" ({ cls := "PegBands", name := "byteAt", desc := "(I)I" } : Jvm.MethodName) ({ cls := "PegBands", name := "byteAt", desc := "(I)I" } : Jvm.MethodName)) ∈ lw_all := lw_g (lw_at lw_m5 29 rfl) rfl
theorem q1097 : (Jvm.Cond.code ({ cls := "PegBands", name := "byteAt", desc := "(I)I" } : Jvm.MethodName) prog_1_method_56_code (2 : Nat) (Option.some Jvm.ClassFile.FieldType.int)) ∈ lw_all := lw_g (lw_at lw_m5 30 rfl) rfl
theorem q1098 : (Jvm.Cond.methodLink "PegBandsLaw" (145 : Nat) ({ cls := "PegBands", name := "triangles", desc := "(III)I" } : Jvm.MethodName)) ∈ lw_all := lw_g (lw_at lw_m5 31 rfl) rfl
theorem q1099 : (Jvm.Cond.instanceMethod ({ cls := "PegBands", name := "triangles", desc := "(III)I" } : Jvm.MethodName)) ∈ lw_all := lw_g (lw_at lw_m5 32 rfl) rfl
theorem q1100 : (Jvm.Cond.selects "PegBands" ({ cls := "PegBands", name := "triangles", desc := "(III)I" } : Jvm.MethodName) ({ cls := "PegBands", name := "triangles", desc := "(III)I" } : Jvm.MethodName)) ∈ lw_all := lw_g (lw_at lw_m5 33 rfl) rfl
theorem q1101 : (Jvm.Cond.code ({ cls := "PegBands", name := "triangles", desc := "(III)I" } : Jvm.MethodName) prog_1_method_61_code (5 : Nat) (Option.some Jvm.ClassFile.FieldType.int)) ∈ lw_all := lw_g (lw_at lw_m5 34 rfl) rfl
theorem q1102 : (Jvm.Cond.methodLink "PegBands" (404 : Nat) ({ cls := "PegBands", name := "canSeek", desc := "(II)Z" } : Jvm.MethodName)) ∈ lw_all := lw_g (lw_at lw_m5 35 rfl) rfl
theorem q1103 : (Jvm.Cond.privateMethod ({ cls := "PegBands", name := "canSeek", desc := "(II)Z" } : Jvm.MethodName)) ∈ lw_tbl := lw_at lw_m5 36 rfl
theorem q1104 : (Jvm.Cond.instanceMethod ({ cls := "PegBands", name := "canSeek", desc := "(II)Z" } : Jvm.MethodName)) ∈ lw_all := lw_g (lw_at lw_m5 37 rfl) rfl
theorem q1105 : (Jvm.Cond.code ({ cls := "PegBands", name := "canSeek", desc := "(II)Z" } : Jvm.MethodName) prog_1_method_60_code (3 : Nat) (Option.some Jvm.ClassFile.FieldType.boolean)) ∈ lw_all := lw_g (lw_at lw_m5 38 rfl) rfl
theorem q1106 : (Jvm.Cond.methodLink "PegBands" (407 : Nat) ({ cls := "PegBands", name := "seek", desc := "(III)I" } : Jvm.MethodName)) ∈ lw_all := lw_g (lw_at lw_m5 39 rfl) rfl
theorem q1107 : (Jvm.Cond.privateMethod ({ cls := "PegBands", name := "seek", desc := "(III)I" } : Jvm.MethodName)) ∈ lw_tbl := lw_at lw_m5 40 rfl
theorem q1108 : (Jvm.Cond.instanceMethod ({ cls := "PegBands", name := "seek", desc := "(III)I" } : Jvm.MethodName)) ∈ lw_all := lw_g (lw_at lw_m5 41 rfl) rfl
theorem q1109 : (Jvm.Cond.code ({ cls := "PegBands", name := "seek", desc := "(III)I" } : Jvm.MethodName) prog_1_method_59_code (10 : Nat) (Option.some Jvm.ClassFile.FieldType.int)) ∈ lw_all := lw_g (lw_at lw_m5 42 rfl) rfl
theorem q1110 : (Jvm.Cond.methodLink "PegBands" (395 : Nat) ({ cls := "PegBands", name := "isFree", desc := "(I)Z" } : Jvm.MethodName)) ∈ lw_all := lw_g (lw_at lw_m5 43 rfl) rfl
theorem q1111 : (Jvm.Cond.privateMethod ({ cls := "PegBands", name := "isFree", desc := "(I)Z" } : Jvm.MethodName)) ∈ lw_tbl := lw_at lw_m5 44 rfl
theorem q1112 : (Jvm.Cond.instanceMethod ({ cls := "PegBands", name := "isFree", desc := "(I)Z" } : Jvm.MethodName)) ∈ lw_all := lw_g (lw_at lw_m5 45 rfl) rfl
theorem q1113 : (Jvm.Cond.code ({ cls := "PegBands", name := "isFree", desc := "(I)Z" } : Jvm.MethodName) prog_1_method_58_code (2 : Nat) (Option.some Jvm.ClassFile.FieldType.boolean)) ∈ lw_all := lw_g (lw_at lw_m5 46 rfl) rfl
theorem q1114 : (Jvm.Cond.methodLink "PegBands" (398 : Nat) ({ cls := "PegBands", name := "three", desc := "(III)V" } : Jvm.MethodName)) ∈ lw_all := lw_g (lw_at lw_m5 47 rfl) rfl
theorem q1115 : (Jvm.Cond.privateMethod ({ cls := "PegBands", name := "three", desc := "(III)V" } : Jvm.MethodName)) ∈ lw_tbl := lw_at lw_m5 48 rfl
theorem q1116 : (Jvm.Cond.instanceMethod ({ cls := "PegBands", name := "three", desc := "(III)V" } : Jvm.MethodName)) ∈ lw_all := lw_g (lw_at lw_m5 49 rfl) rfl
theorem q1117 : (Jvm.Cond.code ({ cls := "PegBands", name := "three", desc := "(III)V" } : Jvm.MethodName) prog_1_method_57_code (4 : Nat) (Option.none : Option Jvm.ClassFile.FieldType)) ∈ lw_all := lw_g (lw_at lw_m5 50 rfl) rfl
theorem q1118 : (Jvm.Cond.methodLink "PegBands" (252 : Nat) ({ cls := "PegBands$Band", name := "area", desc := "()I" } : Jvm.MethodName)) ∈ lw_all := lw_g (lw_at lw_m5 51 rfl) rfl
theorem q1119 : (Jvm.Cond.instanceMethod ({ cls := "PegBands$Band", name := "area", desc := "()I" } : Jvm.MethodName)) ∈ lw_all := lw_g (lw_at lw_m5 52 rfl) rfl
theorem q1120 : (Jvm.Cond.selects "PegBands$Band" ({ cls := "PegBands$Band", name := "area", desc := "()I" } : Jvm.MethodName) ({ cls := "PegBands$Band", name := "area", desc := "()I" } : Jvm.MethodName)) ∈ lw_all := lw_g (lw_at lw_m5 53 rfl) rfl
theorem q1121 : (Jvm.Cond.code ({ cls := "PegBands$Band", name := "area", desc := "()I" } : Jvm.MethodName) prog_3_method_8_code (3 : Nat) (Option.some Jvm.ClassFile.FieldType.int)) ∈ lw_all := lw_g (lw_at lw_m5 54 rfl) rfl
theorem q1122 : (Jvm.Cond.methodLink "PegBands" (255 : Nat) ({ cls := "PegBands$Band", name := "on", desc := "()I" } : Jvm.MethodName)) ∈ lw_all := lw_g (lw_at lw_m5 55 rfl) rfl
theorem q1123 : (Jvm.Cond.instanceMethod ({ cls := "PegBands$Band", name := "on", desc := "()I" } : Jvm.MethodName)) ∈ lw_all := lw_g (lw_at lw_m5 56 rfl) rfl
theorem q1124 : (Jvm.Cond.selects "PegBands$Band" ({ cls := "PegBands$Band", name := "on", desc := "()I" } : Jvm.MethodName) ({ cls := "PegBands$Band", name := "on", desc := "()I" } : Jvm.MethodName)) ∈ lw_all := lw_g (lw_at lw_m5 57 rfl) rfl
theorem q1125 : (Jvm.Cond.code ({ cls := "PegBands$Band", name := "on", desc := "()I" } : Jvm.MethodName) prog_3_method_9_code (3 : Nat) (Option.some Jvm.ClassFile.FieldType.int)) ∈ lw_all := lw_g (lw_at lw_m5 58 rfl) rfl
theorem q1126 : (Jvm.Cond.methodLinkNest "PegBands$Band" (47 : Nat) ({ cls := "PegBands", name := "common", desc := "(II)I" } : Jvm.MethodName) "PegBands") ∈ lw_tbl := lw_at lw_m5 59 rfl
theorem q1127 : (Jvm.Cond.static ({ cls := "PegBands", name := "common", desc := "(II)I" } : Jvm.MethodName)) ∈ lw_all := lw_g (lw_at lw_m5 60 rfl) rfl
theorem q1128 : (Jvm.Cond.code ({ cls := "PegBands", name := "common", desc := "(II)I" } : Jvm.MethodName) prog_1_method_8_code (2 : Nat) (Option.some Jvm.ClassFile.FieldType.int)) ∈ lw_all := lw_g (lw_at lw_m5 61 rfl) rfl
theorem q1129 : (Jvm.Cond.methodLink "PegBands" (173 : Nat) ({ cls := "PegBands", name := "common", desc := "(II)I" } : Jvm.MethodName)) ∈ lw_all := lw_g (lw_at lw_m5 62 rfl) rfl
theorem q1130 : (Jvm.Cond.methodLink "PegBands" (257 : Nat) ({ cls := "PegBands$Band", name := "within", desc := "()I" } : Jvm.MethodName)) ∈ lw_all := lw_g (lw_at lw_m5 63 rfl) rfl
theorem q1131 : (Jvm.Cond.instanceMethod ({ cls := "PegBands$Band", name := "within", desc := "()I" } : Jvm.MethodName)) ∈ lw_all := lw_g (lw_at lw_m5 64 rfl) rfl
theorem q1132 : (Jvm.Cond.selects "PegBands$Band" ({ cls := "PegBands$Band", name := "within", desc := "()I" } : Jvm.MethodName) ({ cls := "PegBands$Band", name := "within", desc := "()I" } : Jvm.MethodName)) ∈ lw_all := lw_g (lw_at lw_m5 65 rfl) rfl
theorem q1133 : (Jvm.Cond.code ({ cls := "PegBands$Band", name := "within", desc := "()I" } : Jvm.MethodName) prog_3_method_10_code (1 : Nat) (Option.some Jvm.ClassFile.FieldType.int)) ∈ lw_all := lw_g (lw_at lw_m5 66 rfl) rfl
theorem q1134 : (Jvm.Cond.methodLink "PegBands$Band" (51 : Nat) ({ cls := "PegBands$Band", name := "area", desc := "()I" } : Jvm.MethodName)) ∈ lw_all := lw_g (lw_at lw_m5 67 rfl) rfl
theorem q1135 : (Jvm.Cond.methodLink "PegBands$Band" (55 : Nat) ({ cls := "java/lang/Math", name := "abs", desc := "(I)I" } : Jvm.MethodName)) ∈ lw_all := lw_g (lw_at lw_m5 68 rfl) rfl
theorem q1136 : (Jvm.Cond.methodLink "PegBands$Band" (60 : Nat) ({ cls := "PegBands$Band", name := "on", desc := "()I" } : Jvm.MethodName)) ∈ lw_all := lw_g (lw_at lw_m5 69 rfl) rfl
theorem q1137 : (Jvm.Cond.methodLink "PegBandsLaw" (149 : Nat) ({ cls := "PegBands", name := "smallest", desc := "(II)I" } : Jvm.MethodName)) ∈ lw_all := lw_g (lw_at lw_m5 70 rfl) rfl
theorem q1138 : (Jvm.Cond.instanceMethod ({ cls := "PegBands", name := "smallest", desc := "(II)I" } : Jvm.MethodName)) ∈ lw_all := lw_g (lw_at lw_m5 71 rfl) rfl
theorem q1139 : (Jvm.Cond.selects "PegBands" ({ cls := "PegBands", name := "smallest", desc := "(II)I" } : Jvm.MethodName) ({ cls := "PegBands", name := "smallest", desc := "(II)I" } : Jvm.MethodName)) ∈ lw_all := lw_g (lw_at lw_m5 72 rfl) rfl
theorem q1140 : (Jvm.Cond.code ({ cls := "PegBands", name := "smallest", desc := "(II)I" } : Jvm.MethodName) prog_1_method_62_code (3 : Nat) (Option.some Jvm.ClassFile.FieldType.int)) ∈ lw_all := lw_g (lw_at lw_m5 73 rfl) rfl
theorem q1141 : (Jvm.Cond.methodLink "PegBandsLaw" (153 : Nat) ({ cls := "PegBands", name := "cuts", desc := "(II)I" } : Jvm.MethodName)) ∈ lw_all := lw_g (lw_at lw_m5 74 rfl) rfl
theorem q1142 : (Jvm.Cond.instanceMethod ({ cls := "PegBands", name := "cuts", desc := "(II)I" } : Jvm.MethodName)) ∈ lw_all := lw_g (lw_at lw_m5 75 rfl) rfl
theorem q1143 : (Jvm.Cond.selects "PegBands" ({ cls := "PegBands", name := "cuts", desc := "(II)I" } : Jvm.MethodName) ({ cls := "PegBands", name := "cuts", desc := "(II)I" } : Jvm.MethodName)) ∈ lw_all := lw_g (lw_at lw_m5 76 rfl) rfl
theorem q1144 : (Jvm.Cond.code ({ cls := "PegBands", name := "cuts", desc := "(II)I" } : Jvm.MethodName) prog_1_method_66_code (7 : Nat) (Option.some Jvm.ClassFile.FieldType.int)) ∈ lw_all := lw_g (lw_at lw_m5 77 rfl) rfl
theorem q1145 : (Jvm.Cond.methodLink "PegBands" (417 : Nat) ({ cls := "PegBands", name := "along", desc := "(LPegBands$Band;)V" } : Jvm.MethodName)) ∈ lw_all := lw_g (lw_at lw_m5 78 rfl) rfl
theorem q1146 : (Jvm.Cond.privateMethod ({ cls := "PegBands", name := "along", desc := "(LPegBands$Band;)V" } : Jvm.MethodName)) ∈ lw_tbl := lw_at lw_m5 79 rfl
theorem q1147 : (Jvm.Cond.instanceMethod ({ cls := "PegBands", name := "along", desc := "(LPegBands$Band;)V" } : Jvm.MethodName)) ∈ lw_all := lw_g (lw_at lw_m5 80 rfl) rfl
theorem q1148 : (Jvm.Cond.code ({ cls := "PegBands", name := "along", desc := "(LPegBands$Band;)V" } : Jvm.MethodName) prog_1_method_63_code (7 : Nat) (Option.none : Option Jvm.ClassFile.FieldType)) ∈ lw_all := lw_g (lw_at lw_m5 81 rfl) rfl
theorem q1149 : (Jvm.Cond.methodLink "PegBands" (420 : Nat) ({ cls := "PegBands", name := "part", desc := "(II)I" } : Jvm.MethodName)) ∈ lw_all := lw_g (lw_at lw_m5 82 rfl) rfl
theorem q1150 : (Jvm.Cond.privateMethod ({ cls := "PegBands", name := "part", desc := "(II)I" } : Jvm.MethodName)) ∈ lw_tbl := lw_at lw_m5 83 rfl
theorem q1151 : (Jvm.Cond.instanceMethod ({ cls := "PegBands", name := "part", desc := "(II)I" } : Jvm.MethodName)) ∈ lw_all := lw_g (lw_at lw_m5 84 rfl) rfl
theorem q1152 : (Jvm.Cond.code ({ cls := "PegBands", name := "part", desc := "(II)I" } : Jvm.MethodName) prog_1_method_65_code (6 : Nat) (Option.some Jvm.ClassFile.FieldType.int)) ∈ lw_all := lw_g (lw_at lw_m5 85 rfl) rfl
theorem q1153 : (Jvm.Cond.methodLink "PegBands" (423 : Nat) ({ cls := "PegBands", name := "isThrough", desc := "(LPegBands$Band;II)Z" } : Jvm.MethodName)) ∈ lw_all := lw_g (lw_at lw_m5 86 rfl) rfl
theorem q1154 : (Jvm.Cond.privateMethod ({ cls := "PegBands", name := "isThrough", desc := "(LPegBands$Band;II)Z" } : Jvm.MethodName)) ∈ lw_tbl := lw_at lw_m5 87 rfl
theorem q1155 : (Jvm.Cond.instanceMethod ({ cls := "PegBands", name := "isThrough", desc := "(LPegBands$Band;II)Z" } : Jvm.MethodName)) ∈ lw_all := lw_g (lw_at lw_m5 88 rfl) rfl
theorem q1156 : (Jvm.Cond.code ({ cls := "PegBands", name := "isThrough", desc := "(LPegBands$Band;II)Z" } : Jvm.MethodName) prog_1_method_64_code (11 : Nat) (Option.some Jvm.ClassFile.FieldType.boolean)) ∈ lw_all := lw_g (lw_at lw_m5 89 rfl) rfl
theorem q1157 : (Jvm.Cond.methodLink "PegBands" (413 : Nat) ({ cls := "PegBands", name := "meets", desc := "(IIIIIIII)I" } : Jvm.MethodName)) ∈ lw_all := lw_g (lw_at lw_m5 90 rfl) rfl
theorem q1158 : (Jvm.Cond.methodLink "PegBandsLaw" (157 : Nat) ({ cls := "PegBands", name := "moved", desc := "(II)I" } : Jvm.MethodName)) ∈ lw_all := lw_g (lw_at lw_m5 91 rfl) rfl
theorem q1159 : (Jvm.Cond.instanceMethod ({ cls := "PegBands", name := "moved", desc := "(II)I" } : Jvm.MethodName)) ∈ lw_all := lw_g (lw_at lw_m5 92 rfl) rfl
theorem q1160 : (Jvm.Cond.selects "PegBands" ({ cls := "PegBands", name := "moved", desc := "(II)I" } : Jvm.MethodName) ({ cls := "PegBands", name := "moved", desc := "(II)I" } : Jvm.MethodName)) ∈ lw_all := lw_g (lw_at lw_m5 93 rfl) rfl
theorem q1161 : (Jvm.Cond.code ({ cls := "PegBands", name := "moved", desc := "(II)I" } : Jvm.MethodName) prog_1_method_72_code (13 : Nat) (Option.some Jvm.ClassFile.FieldType.int)) ∈ lw_all := lw_g (lw_at lw_m5 94 rfl) rfl
theorem q1162 : (Jvm.Cond.methodLink "PegBands" (430 : Nat) ({ cls := "PegBands", name := "spot", desc := "(LPegBands$Band;I)I" } : Jvm.MethodName)) ∈ lw_all := lw_g (lw_at lw_m5 95 rfl) rfl
theorem q1163 : (Jvm.Cond.privateMethod ({ cls := "PegBands", name := "spot", desc := "(LPegBands$Band;I)I" } : Jvm.MethodName)) ∈ lw_tbl := lw_at lw_m5 96 rfl
theorem q1164 : (Jvm.Cond.instanceMethod ({ cls := "PegBands", name := "spot", desc := "(LPegBands$Band;I)I" } : Jvm.MethodName)) ∈ lw_all := lw_g (lw_at lw_m5 97 rfl) rfl
theorem q1165 : (Jvm.Cond.code ({ cls := "PegBands", name := "spot", desc := "(LPegBands$Band;I)I" } : Jvm.MethodName) prog_1_method_67_code (3 : Nat) (Option.some Jvm.ClassFile.FieldType.int)) ∈ lw_all := lw_g (lw_at lw_m5 98 rfl) rfl
theorem q1166 : (Jvm.Cond.methodLink "PegBands" (433 : Nat) ({ cls := "PegBands", name := "stateOf", desc := "(III)I" } : Jvm.MethodName)) ∈ lw_all := lw_g (lw_at lw_m5 99 rfl) rfl
theorem q1167 : (Jvm.Cond.static ({ cls := "PegBands", name := "stateOf", desc := "(III)I" } : Jvm.MethodName)) ∈ lw_all := lw_g (lw_at lw_m5 100 rfl) rfl
theorem q1168 : (Jvm.Cond.code ({ cls := "PegBands", name := "stateOf", desc := "(III)I" } : Jvm.MethodName) prog_1_method_68_code (3 : Nat) (Option.some Jvm.ClassFile.FieldType.int)) ∈ lw_all := lw_g (lw_at lw_m5 101 rfl) rfl
theorem q1169 : (Jvm.Cond.methodLink "PegBands" (436 : Nat) ({ cls := "PegBands", name := "reach", desc := "(II)V" } : Jvm.MethodName)) ∈ lw_all := lw_g (lw_at lw_m5 102 rfl) rfl
theorem q1170 : (Jvm.Cond.privateMethod ({ cls := "PegBands", name := "reach", desc := "(II)V" } : Jvm.MethodName)) ∈ lw_tbl := lw_at lw_m5 103 rfl
theorem q1171 : (Jvm.Cond.instanceMethod ({ cls := "PegBands", name := "reach", desc := "(II)V" } : Jvm.MethodName)) ∈ lw_all := lw_g (lw_at lw_m5 104 rfl) rfl
theorem q1172 : (Jvm.Cond.code ({ cls := "PegBands", name := "reach", desc := "(II)V" } : Jvm.MethodName) prog_1_method_69_code (3 : Nat) (Option.none : Option Jvm.ClassFile.FieldType)) ∈ lw_all := lw_g (lw_at lw_m5 105 rfl) rfl
theorem q1173 : (Jvm.Cond.methodLink "PegBands" (439 : Nat) ({ cls := "PegBands", name := "beside", desc := "(II)I" } : Jvm.MethodName)) ∈ lw_all := lw_g (lw_at lw_m5 106 rfl) rfl
theorem q1174 : (Jvm.Cond.privateMethod ({ cls := "PegBands", name := "beside", desc := "(II)I" } : Jvm.MethodName)) ∈ lw_tbl := lw_at lw_m5 107 rfl
theorem q1175 : (Jvm.Cond.instanceMethod ({ cls := "PegBands", name := "beside", desc := "(II)I" } : Jvm.MethodName)) ∈ lw_all := lw_g (lw_at lw_m5 108 rfl) rfl
theorem q1176 : (Jvm.Cond.code ({ cls := "PegBands", name := "beside", desc := "(II)I" } : Jvm.MethodName) prog_1_method_71_code (5 : Nat) (Option.some Jvm.ClassFile.FieldType.int)) ∈ lw_all := lw_g (lw_at lw_m5 109 rfl) rfl
theorem q1177 : (Jvm.Cond.methodLink "PegBands" (442 : Nat) ({ cls := "PegBands", name := "areInLine", desc := "(III)Z" } : Jvm.MethodName)) ∈ lw_all := lw_g (lw_at lw_m5 110 rfl) rfl
theorem q1178 : (Jvm.Cond.privateMethod ({ cls := "PegBands", name := "areInLine", desc := "(III)Z" } : Jvm.MethodName)) ∈ lw_tbl := lw_at lw_m5 111 rfl
theorem q1179 : (Jvm.Cond.instanceMethod ({ cls := "PegBands", name := "areInLine", desc := "(III)Z" } : Jvm.MethodName)) ∈ lw_all := lw_g (lw_at lw_m5 112 rfl) rfl
theorem q1180 : (Jvm.Cond.code ({ cls := "PegBands", name := "areInLine", desc := "(III)Z" } : Jvm.MethodName) prog_1_method_70_code (5 : Nat) (Option.some Jvm.ClassFile.FieldType.boolean)) ∈ lw_all := lw_g (lw_at lw_m5 113 rfl) rfl
theorem q1181 : (Jvm.Cond.methodLink "PegBandsLaw" (161 : Nat) ({ cls := "PegBands", name := "line", desc := "(II)Z" } : Jvm.MethodName)) ∈ lw_all := lw_g (lw_at lw_m5 114 rfl) rfl
theorem q1182 : (Jvm.Cond.instanceMethod ({ cls := "PegBands", name := "line", desc := "(II)Z" } : Jvm.MethodName)) ∈ lw_all := lw_g (lw_at lw_m5 115 rfl) rfl
theorem q1183 : (Jvm.Cond.selects "PegBands" ({ cls := "PegBands", name := "line", desc := "(II)Z" } : Jvm.MethodName) ({ cls := "PegBands", name := "line", desc := "(II)Z" } : Jvm.MethodName)) ∈ lw_all := lw_g (lw_at lw_m5 116 rfl) rfl
theorem q1184 : (Jvm.Cond.code ({ cls := "PegBands", name := "line", desc := "(II)Z" } : Jvm.MethodName) prog_1_method_76_code (3 : Nat) (Option.some Jvm.ClassFile.FieldType.boolean)) ∈ lw_all := lw_g (lw_at lw_m5 117 rfl) rfl
theorem q1185 : (Jvm.Cond.methodLink "PegBands" (448 : Nat) ({ cls := "PegBands", name := "isGame", desc := "()Z" } : Jvm.MethodName)) ∈ lw_all := lw_g (lw_at lw_m5 118 rfl) rfl
theorem q1186 : (Jvm.Cond.privateMethod ({ cls := "PegBands", name := "isGame", desc := "()Z" } : Jvm.MethodName)) ∈ lw_tbl := lw_at lw_m5 119 rfl
theorem q1187 : (Jvm.Cond.instanceMethod ({ cls := "PegBands", name := "isGame", desc := "()Z" } : Jvm.MethodName)) ∈ lw_all := lw_g (lw_at lw_m5 120 rfl) rfl
theorem q1188 : (Jvm.Cond.code ({ cls := "PegBands", name := "isGame", desc := "()Z" } : Jvm.MethodName) prog_1_method_73_code (1 : Nat) (Option.some Jvm.ClassFile.FieldType.boolean)) ∈ lw_all := lw_g (lw_at lw_m5 121 rfl) rfl
theorem q1189 : (Jvm.Cond.methodLink "PegBands" (445 : Nat) ({ cls := "PegBands$Board", name := "pegs", desc := "()I" } : Jvm.MethodName)) ∈ lw_all := lw_g (lw_at lw_m5 122 rfl) rfl
theorem q1190 : (Jvm.Cond.instanceMethod ({ cls := "PegBands$Board", name := "pegs", desc := "()I" } : Jvm.MethodName)) ∈ lw_all := lw_g (lw_at lw_m5 123 rfl) rfl
theorem q1191 : (Jvm.Cond.selects "PegBands$Board" ({ cls := "PegBands$Board", name := "pegs", desc := "()I" } : Jvm.MethodName) ({ cls := "PegBands$Board", name := "pegs", desc := "()I" } : Jvm.MethodName)) ∈ lw_all := lw_g (lw_at lw_m5 124 rfl) rfl
theorem q1192 : (Jvm.Cond.code ({ cls := "PegBands$Board", name := "pegs", desc := "()I" } : Jvm.MethodName) prog_4_method_7_code (1 : Nat) (Option.some Jvm.ClassFile.FieldType.int)) ∈ lw_all := lw_g (lw_at lw_m5 125 rfl) rfl
theorem q1193 : (Jvm.Cond.methodLink "PegBands" (451 : Nat) ({ cls := "PegBands", name := "canLay", desc := "(II)Z" } : Jvm.MethodName)) ∈ lw_all := lw_g (lw_at lw_m5 126 rfl) rfl
theorem q1194 : (Jvm.Cond.privateMethod ({ cls := "PegBands", name := "canLay", desc := "(II)Z" } : Jvm.MethodName)) ∈ lw_tbl := lw_at lw_m5 127 rfl
theorem q1195 : (Jvm.Cond.instanceMethod ({ cls := "PegBands", name := "canLay", desc := "(II)Z" } : Jvm.MethodName)) ∈ lw_all := lw_g (lw_at lw_m5 128 rfl) rfl
theorem q1196 : (Jvm.Cond.code ({ cls := "PegBands", name := "canLay", desc := "(II)Z" } : Jvm.MethodName) prog_1_method_74_code (8 : Nat) (Option.some Jvm.ClassFile.FieldType.boolean)) ∈ lw_all := lw_g (lw_at lw_m5 129 rfl) rfl
theorem q1197 : (Jvm.Cond.methodLink "PegBands" (454 : Nat) ({ cls := "PegBands", name := "lays", desc := "(II)V" } : Jvm.MethodName)) ∈ lw_all := lw_g (lw_at lw_m5 130 rfl) rfl
theorem q1198 : (Jvm.Cond.privateMethod ({ cls := "PegBands", name := "lays", desc := "(II)V" } : Jvm.MethodName)) ∈ lw_tbl := lw_at lw_m5 131 rfl
theorem q1199 : (Jvm.Cond.instanceMethod ({ cls := "PegBands", name := "lays", desc := "(II)V" } : Jvm.MethodName)) ∈ lw_all := lw_g (lw_at lw_m5 132 rfl) rfl
theorem q1200 : (Jvm.Cond.code ({ cls := "PegBands", name := "lays", desc := "(II)V" } : Jvm.MethodName) prog_1_method_75_code (3 : Nat) (Option.none : Option Jvm.ClassFile.FieldType)) ∈ lw_all := lw_g (lw_at lw_m5 133 rfl) rfl
theorem q1201 : (Jvm.Cond.methodLink "PegBandsLaw" (166 : Nat) ({ cls := "PegBands", name := "lines", desc := "(I)I" } : Jvm.MethodName)) ∈ lw_all := lw_g (lw_at lw_m5 134 rfl) rfl
theorem q1202 : (Jvm.Cond.instanceMethod ({ cls := "PegBands", name := "lines", desc := "(I)I" } : Jvm.MethodName)) ∈ lw_all := lw_g (lw_at lw_m5 135 rfl) rfl
theorem q1203 : (Jvm.Cond.selects "PegBands" ({ cls := "PegBands", name := "lines", desc := "(I)I" } : Jvm.MethodName) ({ cls := "PegBands", name := "lines", desc := "(I)I" } : Jvm.MethodName)) ∈ lw_all := lw_g (lw_at lw_m5 136 rfl) rfl
theorem q1204 : (Jvm.Cond.code ({ cls := "PegBands", name := "lines", desc := "(I)I" } : Jvm.MethodName) prog_1_method_77_code (6 : Nat) (Option.some Jvm.ClassFile.FieldType.int)) ∈ lw_all := lw_g (lw_at lw_m5 137 rfl) rfl
theorem q1205 : (Jvm.Cond.methodLink "PegBandsLaw" (170 : Nat) ({ cls := "PegBands", name := "wins", desc := "()I" } : Jvm.MethodName)) ∈ lw_all := lw_g (lw_at lw_m5 138 rfl) rfl
theorem q1206 : (Jvm.Cond.instanceMethod ({ cls := "PegBands", name := "wins", desc := "()I" } : Jvm.MethodName)) ∈ lw_all := lw_g (lw_at lw_m5 139 rfl) rfl
theorem q1207 : (Jvm.Cond.selects "PegBands" ({ cls := "PegBands", name := "wins", desc := "()I" } : Jvm.MethodName) ({ cls := "PegBands", name := "wins", desc := "()I" } : Jvm.MethodName)) ∈ lw_all := lw_g (lw_at lw_m5 140 rfl) rfl
theorem q1208 : (Jvm.Cond.code ({ cls := "PegBands", name := "wins", desc := "()I" } : Jvm.MethodName) prog_1_method_79_code (1 : Nat) (Option.some Jvm.ClassFile.FieldType.int)) ∈ lw_all := lw_g (lw_at lw_m5 141 rfl) rfl
theorem q1209 : (Jvm.Cond.methodLink "PegBands" (457 : Nat) ({ cls := "PegBands", name := "winning", desc := "()I" } : Jvm.MethodName)) ∈ lw_all := lw_g (lw_at lw_m5 142 rfl) rfl
theorem q1210 : (Jvm.Cond.privateMethod ({ cls := "PegBands", name := "winning", desc := "()I" } : Jvm.MethodName)) ∈ lw_tbl := lw_at lw_m5 143 rfl
theorem q1211 : (Jvm.Cond.instanceMethod ({ cls := "PegBands", name := "winning", desc := "()I" } : Jvm.MethodName)) ∈ lw_all := lw_g (lw_at lw_m5 144 rfl) rfl
theorem q1212 : (Jvm.Cond.code ({ cls := "PegBands", name := "winning", desc := "()I" } : Jvm.MethodName) prog_1_method_78_code (5 : Nat) (Option.some Jvm.ClassFile.FieldType.int)) ∈ lw_all := lw_g (lw_at lw_m5 145 rfl) rfl
theorem q1213 : (Jvm.Cond.methodLink "PegBandsLaw" (174 : Nat) ({ cls := "PegBands", name := "again", desc := "()I" } : Jvm.MethodName)) ∈ lw_all := lw_g (lw_at lw_m5 146 rfl) rfl
theorem q1214 : (Jvm.Cond.instanceMethod ({ cls := "PegBands", name := "again", desc := "()I" } : Jvm.MethodName)) ∈ lw_all := lw_g (lw_at lw_m5 147 rfl) rfl
theorem q1215 : (Jvm.Cond.selects "PegBands" ({ cls := "PegBands", name := "again", desc := "()I" } : Jvm.MethodName) ({ cls := "PegBands", name := "again", desc := "()I" } : Jvm.MethodName)) ∈ lw_all := lw_g (lw_at lw_m5 148 rfl) rfl
theorem q1216 : (Jvm.Cond.code ({ cls := "PegBands", name := "again", desc := "()I" } : Jvm.MethodName) prog_1_method_80_code (2 : Nat) (Option.some Jvm.ClassFile.FieldType.int)) ∈ lw_all := lw_g (lw_at lw_m5 149 rfl) rfl
theorem q1217 : (Jvm.Cond.methodLink "PegBandsLaw" (178 : Nat) ({ cls := "PegBands", name := "sentence", desc := "()I" } : Jvm.MethodName)) ∈ lw_all := lw_g (lw_at lw_m5 150 rfl) rfl
theorem q1218 : (Jvm.Cond.instanceMethod ({ cls := "PegBands", name := "sentence", desc := "()I" } : Jvm.MethodName)) ∈ lw_all := lw_g (lw_at lw_m5 151 rfl) rfl
theorem q1219 : (Jvm.Cond.selects "PegBands" ({ cls := "PegBands", name := "sentence", desc := "()I" } : Jvm.MethodName) ({ cls := "PegBands", name := "sentence", desc := "()I" } : Jvm.MethodName)) ∈ lw_all := lw_g (lw_at lw_m5 152 rfl) rfl
theorem q1220 : (Jvm.Cond.codeWith ({ cls := "PegBands", name := "sentence", desc := "()I" } : Jvm.MethodName) prog_1_method_81_code (2 : Nat) (Option.some Jvm.ClassFile.FieldType.int) [((9 : Nat), (27 : Nat), (28 : Nat), (13 : Nat))]) ∈ lw_all := lw_g (lw_at lw_m5 153 rfl) rfl
theorem q1221 : (Jvm.Cond.methodLink "PegBands" (460 : Nat) ({ cls := "PegBands$SentenceReader", name := "read", desc := "()LPegBands$Cond;" } : Jvm.MethodName)) ∈ lw_all := lw_g (lw_at lw_m5 154 rfl) rfl
theorem q1222 : (Jvm.Cond.instanceMethod ({ cls := "PegBands$SentenceReader", name := "read", desc := "()LPegBands$Cond;" } : Jvm.MethodName)) ∈ lw_all := lw_g (lw_at lw_m5 155 rfl) rfl
theorem q1223 : (Jvm.Cond.selects "PegBands$SentenceReader" ({ cls := "PegBands$SentenceReader", name := "read", desc := "()LPegBands$Cond;" } : Jvm.MethodName) ({ cls := "PegBands$SentenceReader", name := "read", desc := "()LPegBands$Cond;" } : Jvm.MethodName)) ∈ lw_all := lw_g (lw_at lw_m5 156 rfl) rfl
theorem q1224 : (Jvm.Cond.code ({ cls := "PegBands$SentenceReader", name := "read", desc := "()LPegBands$Cond;" } : Jvm.MethodName) prog_16_method_2_code (2 : Nat) (Option.some (Jvm.ClassFile.FieldType.object "PegBands$Cond"))) ∈ lw_all := lw_g (lw_at lw_m5 157 rfl) rfl
theorem q1225 : (Jvm.Cond.methodLink "PegBands$SentenceReader" (35 : Nat) ({ cls := "PegBands$SentenceReader", name := "begin", desc := "()V" } : Jvm.MethodName)) ∈ lw_all := lw_g (lw_at lw_m5 158 rfl) rfl
theorem q1226 : (Jvm.Cond.sameMethod "PegBands$SentenceReader" "PegBands$Reader" "begin" "()V") ∈ lw_all := lw_g (lw_at lw_m5 159 rfl) rfl
theorem q1227 : (Jvm.Cond.selects "PegBands$SentenceReader" ({ cls := "PegBands$SentenceReader", name := "begin", desc := "()V" } : Jvm.MethodName) ({ cls := "PegBands$Reader", name := "begin", desc := "()V" } : Jvm.MethodName)) ∈ lw_all := lw_g (lw_at lw_m5 160 rfl) rfl
theorem q1228 : (Jvm.Cond.methodLink "PegBands$SentenceReader" (39 : Nat) ({ cls := "PegBands$SentenceReader", name := "any", desc := "(I)LPegBands$Cond;" } : Jvm.MethodName)) ∈ lw_all := lw_g (lw_at lw_m5 161 rfl) rfl
theorem q1229 : (Jvm.Cond.privateMethod ({ cls := "PegBands$SentenceReader", name := "any", desc := "(I)LPegBands$Cond;" } : Jvm.MethodName)) ∈ lw_tbl := lw_at lw_m5 162 rfl
theorem q1230 : (Jvm.Cond.instanceMethod ({ cls := "PegBands$SentenceReader", name := "any", desc := "(I)LPegBands$Cond;" } : Jvm.MethodName)) ∈ lw_all := lw_g (lw_at lw_m5 163 rfl) rfl
theorem q1231 : (Jvm.Cond.code ({ cls := "PegBands$SentenceReader", name := "any", desc := "(I)LPegBands$Cond;" } : Jvm.MethodName) prog_16_method_3_code (3 : Nat) (Option.some (Jvm.ClassFile.FieldType.object "PegBands$Cond"))) ∈ lw_all := lw_g (lw_at lw_m5 164 rfl) rfl
theorem q1232 : (Jvm.Cond.methodLink "PegBands$SentenceReader" (50 : Nat) ({ cls := "PegBands$SentenceReader", name := "both", desc := "(I)LPegBands$Cond;" } : Jvm.MethodName)) ∈ lw_all := lw_g (lw_at lw_m5 165 rfl) rfl
theorem q1233 : (Jvm.Cond.privateMethod ({ cls := "PegBands$SentenceReader", name := "both", desc := "(I)LPegBands$Cond;" } : Jvm.MethodName)) ∈ lw_tbl := lw_at lw_m5 166 rfl
theorem q1234 : (Jvm.Cond.instanceMethod ({ cls := "PegBands$SentenceReader", name := "both", desc := "(I)LPegBands$Cond;" } : Jvm.MethodName)) ∈ lw_all := lw_g (lw_at lw_m5 167 rfl) rfl
theorem q1235 : (Jvm.Cond.code ({ cls := "PegBands$SentenceReader", name := "both", desc := "(I)LPegBands$Cond;" } : Jvm.MethodName) prog_16_method_4_code (3 : Nat) (Option.some (Jvm.ClassFile.FieldType.object "PegBands$Cond"))) ∈ lw_all := lw_g (lw_at lw_m5 168 rfl) rfl
theorem q1236 : (Jvm.Cond.methodLink "PegBands$SentenceReader" (67 : Nat) ({ cls := "PegBands$SentenceReader", name := "single", desc := "(I)LPegBands$Cond;" } : Jvm.MethodName)) ∈ lw_all := lw_g (lw_at lw_m5 169 rfl) rfl
theorem q1237 : (Jvm.Cond.privateMethod ({ cls := "PegBands$SentenceReader", name := "single", desc := "(I)LPegBands$Cond;" } : Jvm.MethodName)) ∈ lw_tbl := lw_at lw_m5 170 rfl
theorem q1238 : (Jvm.Cond.instanceMethod ({ cls := "PegBands$SentenceReader", name := "single", desc := "(I)LPegBands$Cond;" } : Jvm.MethodName)) ∈ lw_all := lw_g (lw_at lw_m5 171 rfl) rfl
theorem q1239 : (Jvm.Cond.code ({ cls := "PegBands$SentenceReader", name := "single", desc := "(I)LPegBands$Cond;" } : Jvm.MethodName) prog_16_method_5_code (10 : Nat) (Option.some (Jvm.ClassFile.FieldType.object "PegBands$Cond"))) ∈ lw_all := lw_g (lw_at lw_m5 172 rfl) rfl
theorem q1240 : (Jvm.Cond.stringRef "PegBands$SentenceReader" (75 : Nat) "not") ∈ lw_tbl := lw_at lw_m5 173 rfl
theorem q1241 : (Jvm.Cond.methodLink "PegBands$SentenceReader" (55 : Nat) ({ cls := "PegBands$SentenceReader", name := "is", desc := "(Ljava/lang/String;)Z" } : Jvm.MethodName)) ∈ lw_all := lw_g (lw_at lw_m5 174 rfl) rfl
theorem q1242 : (Jvm.Cond.sameMethod "PegBands$SentenceReader" "PegBands$Reader" "is" "(Ljava/lang/String;)Z") ∈ lw_all := lw_g (lw_at lw_m5 175 rfl) rfl
theorem q1243 : (Jvm.Cond.selects "PegBands$SentenceReader" ({ cls := "PegBands$SentenceReader", name := "is", desc := "(Ljava/lang/String;)Z" } : Jvm.MethodName) ({ cls := "PegBands$Reader", name := "is", desc := "(Ljava/lang/String;)Z" } : Jvm.MethodName)) ∈ lw_all := lw_g (lw_at lw_m5 176 rfl) rfl
theorem q1244 : (Jvm.Cond.methodLink "PegBands$SentenceReader" (77 : Nat) ({ cls := "PegBands$SentenceReader", name := "is", desc := "(I)Z" } : Jvm.MethodName)) ∈ lw_all := lw_g (lw_at lw_m5 177 rfl) rfl
theorem q1245 : (Jvm.Cond.sameMethod "PegBands$SentenceReader" "PegBands$Reader" "is" "(I)Z") ∈ lw_all := lw_g (lw_at lw_m5 178 rfl) rfl
theorem q1246 : (Jvm.Cond.selects "PegBands$SentenceReader" ({ cls := "PegBands$SentenceReader", name := "is", desc := "(I)Z" } : Jvm.MethodName) ({ cls := "PegBands$Reader", name := "is", desc := "(I)Z" } : Jvm.MethodName)) ∈ lw_all := lw_g (lw_at lw_m5 179 rfl) rfl
theorem q1247 : (Jvm.Cond.stringRef "PegBands$SentenceReader" (80 : Nat) "in") ∈ lw_tbl := lw_at lw_m5 180 rfl
theorem q1248 : (Jvm.Cond.stringRef "PegBands$SentenceReader" (82 : Nat) "alike") ∈ lw_tbl := lw_at lw_m5 181 rfl
theorem q1249 : (Jvm.Cond.stringRef "PegBands$SentenceReader" (84 : Nat) "bent") ∈ lw_tbl := lw_at lw_m5 182 rfl
theorem q1250 : (Jvm.Cond.methodLink "PegBands$SentenceReader" (86 : Nat) ({ cls := "PegBands$SentenceReader", name := "find", desc := "([Ljava/lang/String;)I" } : Jvm.MethodName)) ∈ lw_all := lw_g (lw_at lw_m5 183 rfl) rfl
theorem q1251 : (Jvm.Cond.sameMethod "PegBands$SentenceReader" "PegBands$Reader" "find" "([Ljava/lang/String;)I") ∈ lw_all := lw_g (lw_at lw_m5 184 rfl) rfl
theorem q1252 : (Jvm.Cond.declares ({ cls := "PegBands$Reader", name := "find", desc := "([Ljava/lang/String;)I" } : Jvm.MethodName)) ∈ lw_tbl := lw_at lw_m5 185 rfl
theorem q1253 : (Jvm.Cond.selects "PegBands$SentenceReader" ({ cls := "PegBands$SentenceReader", name := "find", desc := "([Ljava/lang/String;)I" } : Jvm.MethodName) ({ cls := "PegBands$Reader", name := "find", desc := "([Ljava/lang/String;)I" } : Jvm.MethodName)) ∈ lw_all := lw_g (lw_at lw_m5 186 rfl) rfl
theorem q1254 : (Jvm.Cond.methodLink "PegBands$SentenceReader" (46 : Nat) ({ cls := "PegBands$SentenceReader", name := "must", desc := "(ZI)V" } : Jvm.MethodName)) ∈ lw_all := lw_g (lw_at lw_m5 187 rfl) rfl
theorem q1255 : (Jvm.Cond.sameMethod "PegBands$SentenceReader" "PegBands$Reader" "must" "(ZI)V") ∈ lw_all := lw_g (lw_at lw_m5 188 rfl) rfl
theorem q1256 : (Jvm.Cond.selects "PegBands$SentenceReader" ({ cls := "PegBands$SentenceReader", name := "must", desc := "(ZI)V" } : Jvm.MethodName) ({ cls := "PegBands$Reader", name := "must", desc := "(ZI)V" } : Jvm.MethodName)) ∈ lw_all := lw_g (lw_at lw_m5 189 rfl) rfl
theorem q1257 : (Jvm.Cond.methodLink "PegBands$SentenceReader" (59 : Nat) ({ cls := "PegBands$SentenceReader", name := "next", desc := "()V" } : Jvm.MethodName)) ∈ lw_all := lw_g (lw_at lw_m5 190 rfl) rfl
theorem q1258 : (Jvm.Cond.sameMethod "PegBands$SentenceReader" "PegBands$Reader" "next" "()V") ∈ lw_all := lw_g (lw_at lw_m5 191 rfl) rfl
theorem q1259 : (Jvm.Cond.selects "PegBands$SentenceReader" ({ cls := "PegBands$SentenceReader", name := "next", desc := "()V" } : Jvm.MethodName) ({ cls := "PegBands$Reader", name := "next", desc := "()V" } : Jvm.MethodName)) ∈ lw_all := lw_g (lw_at lw_m5 192 rfl) rfl
theorem q1260 : (Jvm.Cond.classLink "PegBands$SentenceReader" (90 : Nat) "PegBands$Not") ∈ lw_all := lw_g (lw_at lw_m5 193 rfl) rfl
theorem q1261 : (Jvm.Cond.instantiable "PegBands$Not" (1 : Nat)) ∈ lw_all := lw_g (lw_at lw_m5 194 rfl) rfl
theorem q1262 : (Jvm.Cond.methodLink "PegBands$SentenceReader" (92 : Nat) ({ cls := "PegBands$Not", name := "<init>", desc := "(LPegBands$Cond;)V" } : Jvm.MethodName)) ∈ lw_all := lw_g (lw_at lw_m5 195 rfl) rfl
theorem q1263 : (Jvm.Cond.instanceMethod ({ cls := "PegBands$Not", name := "<init>", desc := "(LPegBands$Cond;)V" } : Jvm.MethodName)) ∈ lw_all := lw_g (lw_at lw_m5 196 rfl) rfl
theorem q1264 : (Jvm.Cond.code ({ cls := "PegBands$Not", name := "<init>", desc := "(LPegBands$Cond;)V" } : Jvm.MethodName) prog_14_method_1_code (2 : Nat) (Option.none : Option Jvm.ClassFile.FieldType)) ∈ lw_all := lw_g (lw_at lw_m5 197 rfl) rfl
theorem q1265 : (Jvm.Cond.methodLinkNest "PegBands$Not" (1 : Nat) ({ cls := "PegBands$Cond", name := "<init>", desc := "()V" } : Jvm.MethodName) "PegBands") ∈ lw_tbl := lw_at lw_m5 198 rfl
theorem q1266 : (Jvm.Cond.instanceMethod ({ cls := "PegBands$Cond", name := "<init>", desc := "()V" } : Jvm.MethodName)) ∈ lw_all := lw_g (lw_at lw_m5 199 rfl) rfl
theorem q1267 : (Jvm.Cond.code ({ cls := "PegBands$Cond", name := "<init>", desc := "()V" } : Jvm.MethodName) prog_9_method_1_code (1 : Nat) (Option.none : Option Jvm.ClassFile.FieldType)) ∈ lw_all := lw_g (lw_at lw_m5 200 rfl) rfl
theorem q1268 : (Jvm.Cond.methodLink "PegBands$Cond" (1 : Nat) ({ cls := "java/lang/Object", name := "<init>", desc := "()V" } : Jvm.MethodName)) ∈ lw_all := lw_g (lw_at lw_m5 201 rfl) rfl
theorem q1269 : (Jvm.Cond.fieldLink "PegBands$Not" (7 : Nat) "PegBands$Not" "a" "LPegBands$Cond;") ∈ lw_all := lw_g (lw_at lw_m5 202 rfl) rfl
theorem q1270 : (Jvm.Cond.laysFinal "PegBands$Not" "PegBands$Not" "a" "LPegBands$Cond;") ∈ lw_all := lw_g (lw_at lw_m5 203 rfl) rfl
theorem q1271 : (Jvm.Cond.soleField "PegBands$Not" "a") ∈ lw_all := lw_g (lw_at lw_m5 204 rfl) rfl
theorem q1272 : (Jvm.Cond.superclass "PegBands$Not" "PegBands$Cond") ∈ lw_all := lw_g (lw_at lw_m5 205 rfl) rfl
theorem q1273 : (Jvm.Cond.methodLink "PegBands$SentenceReader" (95 : Nat) ({ cls := "PegBands$SentenceReader", name := "sign", desc := "(I)V" } : Jvm.MethodName)) ∈ lw_all := lw_g (lw_at lw_m5 206 rfl) rfl
theorem q1274 : (Jvm.Cond.sameMethod "PegBands$SentenceReader" "PegBands$Reader" "sign" "(I)V") ∈ lw_all := lw_g (lw_at lw_m5 207 rfl) rfl
theorem q1275 : (Jvm.Cond.selects "PegBands$SentenceReader" ({ cls := "PegBands$SentenceReader", name := "sign", desc := "(I)V" } : Jvm.MethodName) ({ cls := "PegBands$Reader", name := "sign", desc := "(I)V" } : Jvm.MethodName)) ∈ lw_all := lw_g (lw_at lw_m5 208 rfl) rfl
theorem q1276 : (Jvm.Cond.classLink "PegBands$SentenceReader" (99 : Nat) "PegBands$Counts") ∈ lw_all := lw_g (lw_at lw_m5 209 rfl) rfl
theorem q1277 : (Jvm.Cond.instantiable "PegBands$Counts" (3 : Nat)) ∈ lw_all := lw_g (lw_at lw_m5 210 rfl) rfl
theorem q1278 : (Jvm.Cond.methodLink "PegBands$SentenceReader" (101 : Nat) ({ cls := "PegBands$Counts", name := "<init>", desc := "(III)V" } : Jvm.MethodName)) ∈ lw_all := lw_g (lw_at lw_m5 211 rfl) rfl
theorem q1279 : (Jvm.Cond.instanceMethod ({ cls := "PegBands$Counts", name := "<init>", desc := "(III)V" } : Jvm.MethodName)) ∈ lw_all := lw_g (lw_at lw_m5 212 rfl) rfl
theorem q1280 : (Jvm.Cond.code ({ cls := "PegBands$Counts", name := "<init>", desc := "(III)V" } : Jvm.MethodName) prog_10_method_1_code (4 : Nat) (Option.none : Option Jvm.ClassFile.FieldType)) ∈ lw_all := lw_g (lw_at lw_m5 213 rfl) rfl
theorem q1281 : (Jvm.Cond.methodLinkNest "PegBands$Counts" (1 : Nat) ({ cls := "PegBands$Cond", name := "<init>", desc := "()V" } : Jvm.MethodName) "PegBands") ∈ lw_tbl := lw_at lw_m5 214 rfl
theorem q1282 : (Jvm.Cond.fieldLink "PegBands$Counts" (7 : Nat) "PegBands$Counts" "what" "I") ∈ lw_all := lw_g (lw_at lw_m5 215 rfl) rfl
theorem q1283 : (Jvm.Cond.fieldLink "PegBands$Counts" (13 : Nat) "PegBands$Counts" "sign" "I") ∈ lw_all := lw_g (lw_at lw_m5 216 rfl) rfl
theorem q1284 : (Jvm.Cond.fieldLink "PegBands$Counts" (16 : Nat) "PegBands$Counts" "number" "I") ∈ lw_all := lw_g (lw_at lw_m5 217 rfl) rfl
theorem q1285 : (Jvm.Cond.laysFinal "PegBands$Counts" "PegBands$Counts" "what" "I") ∈ lw_all := lw_g (lw_at lw_m5 218 rfl) rfl
theorem q1286 : (Jvm.Cond.soleField "PegBands$Counts" "what") ∈ lw_all := lw_g (lw_at lw_m5 219 rfl) rfl
theorem q1287 : (Jvm.Cond.laysFinal "PegBands$Counts" "PegBands$Counts" "sign" "I") ∈ lw_all := lw_g (lw_at lw_m5 220 rfl) rfl
theorem q1288 : (Jvm.Cond.soleField "PegBands$Counts" "sign") ∈ lw_all := lw_g (lw_at lw_m5 221 rfl) rfl
theorem q1289 : (Jvm.Cond.laysFinal "PegBands$Counts" "PegBands$Counts" "number" "I") ∈ lw_all := lw_g (lw_at lw_m5 222 rfl) rfl
theorem q1290 : (Jvm.Cond.soleField "PegBands$Counts" "number") ∈ lw_all := lw_g (lw_at lw_m5 223 rfl) rfl
theorem q1291 : (Jvm.Cond.superclass "PegBands$Counts" "PegBands$Cond") ∈ lw_all := lw_g (lw_at lw_m5 224 rfl) rfl
theorem q1292 : (Jvm.Cond.methodLink "PegBands$SentenceReader" (104 : Nat) ({ cls := "PegBands$SentenceReader", name := "isName", desc := "()Z" } : Jvm.MethodName)) ∈ lw_all := lw_g (lw_at lw_m5 225 rfl) rfl
theorem q1293 : (Jvm.Cond.sameMethod "PegBands$SentenceReader" "PegBands$Reader" "isName" "()Z") ∈ lw_all := lw_g (lw_at lw_m5 226 rfl) rfl
theorem q1294 : (Jvm.Cond.selects "PegBands$SentenceReader" ({ cls := "PegBands$SentenceReader", name := "isName", desc := "()Z" } : Jvm.MethodName) ({ cls := "PegBands$Reader", name := "isName", desc := "()Z" } : Jvm.MethodName)) ∈ lw_all := lw_g (lw_at lw_m5 227 rfl) rfl
theorem q1295 : (Jvm.Cond.methodLink "PegBands$SentenceReader" (112 : Nat) ({ cls := "PegBands$SentenceReader", name := "of", desc := "(LPegBands$Board;)I" } : Jvm.MethodName)) ∈ lw_all := lw_g (lw_at lw_m5 228 rfl) rfl
theorem q1296 : (Jvm.Cond.sameMethod "PegBands$SentenceReader" "PegBands$Reader" "of" "(LPegBands$Board;)I") ∈ lw_all := lw_g (lw_at lw_m5 229 rfl) rfl
theorem q1297 : (Jvm.Cond.selects "PegBands$SentenceReader" ({ cls := "PegBands$SentenceReader", name := "of", desc := "(LPegBands$Board;)I" } : Jvm.MethodName) ({ cls := "PegBands$Reader", name := "of", desc := "(LPegBands$Board;)I" } : Jvm.MethodName)) ∈ lw_all := lw_g (lw_at lw_m5 230 rfl) rfl
theorem q1298 : (Jvm.Cond.classLink "PegBands$SentenceReader" (120 : Nat) "PegBands$Like") ∈ lw_all := lw_g (lw_at lw_m5 231 rfl) rfl
theorem q1299 : (Jvm.Cond.instantiable "PegBands$Like" (2 : Nat)) ∈ lw_all := lw_g (lw_at lw_m5 232 rfl) rfl
theorem q1300 : (Jvm.Cond.methodLink "PegBands$SentenceReader" (122 : Nat) ({ cls := "PegBands$Like", name := "<init>", desc := "(ZJ)V" } : Jvm.MethodName)) ∈ lw_all := lw_g (lw_at lw_m5 233 rfl) rfl
theorem q1301 : (Jvm.Cond.instanceMethod ({ cls := "PegBands$Like", name := "<init>", desc := "(ZJ)V" } : Jvm.MethodName)) ∈ lw_all := lw_g (lw_at lw_m5 234 rfl) rfl
theorem q1302 : (Jvm.Cond.code ({ cls := "PegBands$Like", name := "<init>", desc := "(ZJ)V" } : Jvm.MethodName) prog_13_method_1_code (4 : Nat) (Option.none : Option Jvm.ClassFile.FieldType)) ∈ lw_all := lw_g (lw_at lw_m5 235 rfl) rfl
theorem q1303 : (Jvm.Cond.methodLinkNest "PegBands$Like" (1 : Nat) ({ cls := "PegBands$Cond", name := "<init>", desc := "()V" } : Jvm.MethodName) "PegBands") ∈ lw_tbl := lw_at lw_m5 236 rfl
theorem q1304 : (Jvm.Cond.fieldLink "PegBands$Like" (7 : Nat) "PegBands$Like" "alike" "Z") ∈ lw_all := lw_g (lw_at lw_m5 237 rfl) rfl
theorem q1305 : (Jvm.Cond.fieldLink "PegBands$Like" (13 : Nat) "PegBands$Like" "name" "J") ∈ lw_all := lw_g (lw_at lw_m5 238 rfl) rfl
theorem q1306 : (Jvm.Cond.laysFinal "PegBands$Like" "PegBands$Like" "alike" "Z") ∈ lw_all := lw_g (lw_at lw_m5 239 rfl) rfl
theorem q1307 : (Jvm.Cond.soleField "PegBands$Like" "alike") ∈ lw_all := lw_g (lw_at lw_m6 0 rfl) rfl
theorem q1308 : (Jvm.Cond.laysFinal "PegBands$Like" "PegBands$Like" "name" "J") ∈ lw_all := lw_g (lw_at lw_m6 1 rfl) rfl
theorem q1309 : (Jvm.Cond.soleField "PegBands$Like" "name") ∈ lw_all := lw_g (lw_at lw_m6 2 rfl) rfl
theorem q1310 : (Jvm.Cond.superclass "PegBands$Like" "PegBands$Cond") ∈ lw_all := lw_g (lw_at lw_m6 3 rfl) rfl
theorem q1311 : (Jvm.Cond.stringRef "PegBands$SentenceReader" (70 : Nat) "and") ∈ lw_tbl := lw_at lw_m6 4 rfl
theorem q1312 : (Jvm.Cond.classLink "PegBands$SentenceReader" (72 : Nat) "PegBands$Both") ∈ lw_all := lw_g (lw_at lw_m6 5 rfl) rfl
theorem q1313 : (Jvm.Cond.instantiable "PegBands$Both" (2 : Nat)) ∈ lw_all := lw_g (lw_at lw_m6 6 rfl) rfl
theorem q1314 : (Jvm.Cond.methodLink "PegBands$SentenceReader" (74 : Nat) ({ cls := "PegBands$Both", name := "<init>", desc := "(LPegBands$Cond;LPegBands$Cond;)V" } : Jvm.MethodName)) ∈ lw_all := lw_g (lw_at lw_m6 7 rfl) rfl
theorem q1315 : (Jvm.Cond.instanceMethod ({ cls := "PegBands$Both", name := "<init>", desc := "(LPegBands$Cond;LPegBands$Cond;)V" } : Jvm.MethodName)) ∈ lw_all := lw_g (lw_at lw_m6 8 rfl) rfl
theorem q1316 : (Jvm.Cond.code ({ cls := "PegBands$Both", name := "<init>", desc := "(LPegBands$Cond;LPegBands$Cond;)V" } : Jvm.MethodName) prog_6_method_1_code (3 : Nat) (Option.none : Option Jvm.ClassFile.FieldType)) ∈ lw_all := lw_g (lw_at lw_m6 9 rfl) rfl
theorem q1317 : (Jvm.Cond.methodLinkNest "PegBands$Both" (1 : Nat) ({ cls := "PegBands$Cond", name := "<init>", desc := "()V" } : Jvm.MethodName) "PegBands") ∈ lw_tbl := lw_at lw_m6 10 rfl
theorem q1318 : (Jvm.Cond.fieldLink "PegBands$Both" (7 : Nat) "PegBands$Both" "a" "LPegBands$Cond;") ∈ lw_all := lw_g (lw_at lw_m6 11 rfl) rfl
theorem q1319 : (Jvm.Cond.fieldLink "PegBands$Both" (13 : Nat) "PegBands$Both" "b" "LPegBands$Cond;") ∈ lw_all := lw_g (lw_at lw_m6 12 rfl) rfl
theorem q1320 : (Jvm.Cond.laysFinal "PegBands$Both" "PegBands$Both" "a" "LPegBands$Cond;") ∈ lw_all := lw_g (lw_at lw_m6 13 rfl) rfl
theorem q1321 : (Jvm.Cond.soleField "PegBands$Both" "a") ∈ lw_all := lw_g (lw_at lw_m6 14 rfl) rfl
theorem q1322 : (Jvm.Cond.laysFinal "PegBands$Both" "PegBands$Both" "b" "LPegBands$Cond;") ∈ lw_all := lw_g (lw_at lw_m6 15 rfl) rfl
theorem q1323 : (Jvm.Cond.soleField "PegBands$Both" "b") ∈ lw_all := lw_g (lw_at lw_m6 16 rfl) rfl
theorem q1324 : (Jvm.Cond.superclass "PegBands$Both" "PegBands$Cond") ∈ lw_all := lw_g (lw_at lw_m6 17 rfl) rfl
theorem q1325 : (Jvm.Cond.stringRef "PegBands$SentenceReader" (53 : Nat) "or") ∈ lw_tbl := lw_at lw_m6 18 rfl
theorem q1326 : (Jvm.Cond.classLink "PegBands$SentenceReader" (62 : Nat) "PegBands$Any") ∈ lw_all := lw_g (lw_at lw_m6 19 rfl) rfl
theorem q1327 : (Jvm.Cond.instantiable "PegBands$Any" (2 : Nat)) ∈ lw_all := lw_g (lw_at lw_m6 20 rfl) rfl
theorem q1328 : (Jvm.Cond.methodLink "PegBands$SentenceReader" (64 : Nat) ({ cls := "PegBands$Any", name := "<init>", desc := "(LPegBands$Cond;LPegBands$Cond;)V" } : Jvm.MethodName)) ∈ lw_all := lw_g (lw_at lw_m6 21 rfl) rfl
theorem q1329 : (Jvm.Cond.instanceMethod ({ cls := "PegBands$Any", name := "<init>", desc := "(LPegBands$Cond;LPegBands$Cond;)V" } : Jvm.MethodName)) ∈ lw_all := lw_g (lw_at lw_m6 22 rfl) rfl
theorem q1330 : (Jvm.Cond.code ({ cls := "PegBands$Any", name := "<init>", desc := "(LPegBands$Cond;LPegBands$Cond;)V" } : Jvm.MethodName) prog_2_method_1_code (3 : Nat) (Option.none : Option Jvm.ClassFile.FieldType)) ∈ lw_all := lw_g (lw_at lw_m6 23 rfl) rfl
theorem q1331 : (Jvm.Cond.methodLinkNest "PegBands$Any" (1 : Nat) ({ cls := "PegBands$Cond", name := "<init>", desc := "()V" } : Jvm.MethodName) "PegBands") ∈ lw_tbl := lw_at lw_m6 24 rfl
theorem q1332 : (Jvm.Cond.fieldLink "PegBands$Any" (7 : Nat) "PegBands$Any" "a" "LPegBands$Cond;") ∈ lw_all := lw_g (lw_at lw_m6 25 rfl) rfl
theorem q1333 : (Jvm.Cond.fieldLink "PegBands$Any" (13 : Nat) "PegBands$Any" "b" "LPegBands$Cond;") ∈ lw_all := lw_g (lw_at lw_m6 26 rfl) rfl
theorem q1334 : (Jvm.Cond.laysFinal "PegBands$Any" "PegBands$Any" "a" "LPegBands$Cond;") ∈ lw_all := lw_g (lw_at lw_m6 27 rfl) rfl
theorem q1335 : (Jvm.Cond.soleField "PegBands$Any" "a") ∈ lw_all := lw_g (lw_at lw_m6 28 rfl) rfl
theorem q1336 : (Jvm.Cond.laysFinal "PegBands$Any" "PegBands$Any" "b" "LPegBands$Cond;") ∈ lw_all := lw_g (lw_at lw_m6 29 rfl) rfl
theorem q1337 : (Jvm.Cond.soleField "PegBands$Any" "b") ∈ lw_all := lw_g (lw_at lw_m6 30 rfl) rfl
theorem q1338 : (Jvm.Cond.superclass "PegBands$Any" "PegBands$Cond") ∈ lw_all := lw_g (lw_at lw_m6 31 rfl) rfl
theorem q1339 : (Jvm.Cond.methodLink "PegBandsLaw" (182 : Nat) ({ cls := "PegBands", name := "said", desc := "(I)I" } : Jvm.MethodName)) ∈ lw_all := lw_g (lw_at lw_m6 32 rfl) rfl
theorem q1340 : (Jvm.Cond.instanceMethod ({ cls := "PegBands", name := "said", desc := "(I)I" } : Jvm.MethodName)) ∈ lw_all := lw_g (lw_at lw_m6 33 rfl) rfl
theorem q1341 : (Jvm.Cond.selects "PegBands" ({ cls := "PegBands", name := "said", desc := "(I)I" } : Jvm.MethodName) ({ cls := "PegBands", name := "said", desc := "(I)I" } : Jvm.MethodName)) ∈ lw_all := lw_g (lw_at lw_m6 34 rfl) rfl
theorem q1342 : (Jvm.Cond.code ({ cls := "PegBands", name := "said", desc := "(I)I" } : Jvm.MethodName) prog_1_method_82_code (4 : Nat) (Option.some Jvm.ClassFile.FieldType.int)) ∈ lw_all := lw_g (lw_at lw_m6 35 rfl) rfl
theorem q1343 : (Jvm.Cond.methodLink "PegBands" (466 : Nat) ({ cls := "PegBands$Cond", name := "is", desc := "(LPegBands;I)Z" } : Jvm.MethodName)) ∈ lw_all := lw_g (lw_at lw_m6 36 rfl) rfl
theorem q1344 : (Jvm.Cond.declares ({ cls := "PegBands$Cond", name := "is", desc := "(LPegBands;I)Z" } : Jvm.MethodName)) ∈ lw_tbl := lw_at lw_m6 37 rfl
theorem q1345 : (Jvm.Cond.sameMethod "PegBands$Cond" "PegBands$Cond" "is" "(LPegBands;I)Z") ∈ lw_all := lw_g (lw_at lw_m6 38 rfl) rfl
theorem q1346 : (Jvm.Cond.selects "PegBands$Any" ({ cls := "PegBands$Cond", name := "is", desc := "(LPegBands;I)Z" } : Jvm.MethodName) ({ cls := "PegBands$Any", name := "is", desc := "(LPegBands;I)Z" } : Jvm.MethodName)) ∈ lw_all := lw_g (lw_at lw_m6 39 rfl) rfl
theorem q1347 : (Jvm.Cond.instanceMethod ({ cls := "PegBands$Any", name := "is", desc := "(LPegBands;I)Z" } : Jvm.MethodName)) ∈ lw_all := lw_g (lw_at lw_m6 40 rfl) rfl
theorem q1348 : (Jvm.Cond.code ({ cls := "PegBands$Any", name := "is", desc := "(LPegBands;I)Z" } : Jvm.MethodName) prog_2_method_2_code (3 : Nat) (Option.some Jvm.ClassFile.FieldType.boolean)) ∈ lw_all := lw_g (lw_at lw_m6 41 rfl) rfl
theorem q1349 : (Jvm.Cond.methodLink "PegBands$Any" (16 : Nat) ({ cls := "PegBands$Cond", name := "is", desc := "(LPegBands;I)Z" } : Jvm.MethodName)) ∈ lw_all := lw_g (lw_at lw_m6 42 rfl) rfl
theorem q1350 : (Jvm.Cond.instanceMethod ({ cls := "PegBands$Both", name := "is", desc := "(LPegBands;I)Z" } : Jvm.MethodName)) ∈ lw_all := lw_g (lw_at lw_m6 43 rfl) rfl
theorem q1351 : (Jvm.Cond.code ({ cls := "PegBands$Both", name := "is", desc := "(LPegBands;I)Z" } : Jvm.MethodName) prog_6_method_2_code (3 : Nat) (Option.some Jvm.ClassFile.FieldType.boolean)) ∈ lw_all := lw_g (lw_at lw_m6 44 rfl) rfl
theorem q1352 : (Jvm.Cond.methodLink "PegBands$Both" (16 : Nat) ({ cls := "PegBands$Cond", name := "is", desc := "(LPegBands;I)Z" } : Jvm.MethodName)) ∈ lw_all := lw_g (lw_at lw_m6 45 rfl) rfl
theorem q1353 : (Jvm.Cond.instanceMethod ({ cls := "PegBands$Counts", name := "is", desc := "(LPegBands;I)Z" } : Jvm.MethodName)) ∈ lw_all := lw_g (lw_at lw_m6 46 rfl) rfl
theorem q1354 : (Jvm.Cond.code ({ cls := "PegBands$Counts", name := "is", desc := "(LPegBands;I)Z" } : Jvm.MethodName) prog_10_method_2_code (5 : Nat) (Option.some Jvm.ClassFile.FieldType.boolean)) ∈ lw_all := lw_g (lw_at lw_m6 47 rfl) rfl
theorem q1355 : (Jvm.Cond.methodLink "PegBands$Counts" (31 : Nat) ({ cls := "PegBands$Band", name := "area", desc := "()I" } : Jvm.MethodName)) ∈ lw_all := lw_g (lw_at lw_m6 48 rfl) rfl
theorem q1356 : (Jvm.Cond.methodLink "PegBands$Counts" (37 : Nat) ({ cls := "java/lang/Math", name := "abs", desc := "(I)I" } : Jvm.MethodName)) ∈ lw_all := lw_g (lw_at lw_m6 49 rfl) rfl
theorem q1357 : (Jvm.Cond.methodLink "PegBands$Counts" (43 : Nat) ({ cls := "PegBands$Band", name := "on", desc := "()I" } : Jvm.MethodName)) ∈ lw_all := lw_g (lw_at lw_m6 50 rfl) rfl
theorem q1358 : (Jvm.Cond.methodLink "PegBands$Counts" (46 : Nat) ({ cls := "PegBands$Band", name := "within", desc := "()I" } : Jvm.MethodName)) ∈ lw_all := lw_g (lw_at lw_m6 51 rfl) rfl
theorem q1359 : (Jvm.Cond.methodLink "PegBands$Counts" (52 : Nat) ({ cls := "PegBands$Band", name := "right", desc := "()I" } : Jvm.MethodName)) ∈ lw_all := lw_g (lw_at lw_m6 52 rfl) rfl
theorem q1360 : (Jvm.Cond.instanceMethod ({ cls := "PegBands$Band", name := "right", desc := "()I" } : Jvm.MethodName)) ∈ lw_all := lw_g (lw_at lw_m6 53 rfl) rfl
theorem q1361 : (Jvm.Cond.selects "PegBands$Band" ({ cls := "PegBands$Band", name := "right", desc := "()I" } : Jvm.MethodName) ({ cls := "PegBands$Band", name := "right", desc := "()I" } : Jvm.MethodName)) ∈ lw_all := lw_g (lw_at lw_m6 54 rfl) rfl
theorem q1362 : (Jvm.Cond.code ({ cls := "PegBands$Band", name := "right", desc := "()I" } : Jvm.MethodName) prog_3_method_13_code (3 : Nat) (Option.some Jvm.ClassFile.FieldType.int)) ∈ lw_all := lw_g (lw_at lw_m6 55 rfl) rfl
theorem q1363 : (Jvm.Cond.methodLink "PegBands$Counts" (55 : Nat) ({ cls := "PegBands$Band", name := "bent", desc := "()I" } : Jvm.MethodName)) ∈ lw_all := lw_g (lw_at lw_m6 56 rfl) rfl
theorem q1364 : (Jvm.Cond.instanceMethod ({ cls := "PegBands$Band", name := "bent", desc := "()I" } : Jvm.MethodName)) ∈ lw_all := lw_g (lw_at lw_m6 57 rfl) rfl
theorem q1365 : (Jvm.Cond.selects "PegBands$Band" ({ cls := "PegBands$Band", name := "bent", desc := "()I" } : Jvm.MethodName) ({ cls := "PegBands$Band", name := "bent", desc := "()I" } : Jvm.MethodName)) ∈ lw_all := lw_g (lw_at lw_m6 58 rfl) rfl
theorem q1366 : (Jvm.Cond.code ({ cls := "PegBands$Band", name := "bent", desc := "()I" } : Jvm.MethodName) prog_3_method_12_code (3 : Nat) (Option.some Jvm.ClassFile.FieldType.int)) ∈ lw_all := lw_g (lw_at lw_m6 59 rfl) rfl
theorem q1367 : (Jvm.Cond.methodLinkNest "PegBands$Band" (66 : Nat) ({ cls := "PegBands", name := "areUnlike", desc := "(II)Z" } : Jvm.MethodName) "PegBands") ∈ lw_tbl := lw_at lw_m6 60 rfl
theorem q1368 : (Jvm.Cond.instanceMethod ({ cls := "PegBands$Like", name := "is", desc := "(LPegBands;I)Z" } : Jvm.MethodName)) ∈ lw_all := lw_g (lw_at lw_m6 61 rfl) rfl
theorem q1369 : (Jvm.Cond.code ({ cls := "PegBands$Like", name := "is", desc := "(LPegBands;I)Z" } : Jvm.MethodName) prog_13_method_2_code (5 : Nat) (Option.some Jvm.ClassFile.FieldType.boolean)) ∈ lw_all := lw_g (lw_at lw_m6 62 rfl) rfl
theorem q1370 : (Jvm.Cond.methodLinkNest "PegBands$Like" (36 : Nat) ({ cls := "PegBands", name := "areAlike", desc := "(LPegBands$Band;LPegBands$Band;I)Z" } : Jvm.MethodName) "PegBands") ∈ lw_tbl := lw_at lw_m6 63 rfl
theorem q1371 : (Jvm.Cond.methodLink "PegBands$Like" (40 : Nat) ({ cls := "PegBands$Band", name := "isInside", desc := "(LPegBands$Band;)Z" } : Jvm.MethodName)) ∈ lw_all := lw_g (lw_at lw_m6 64 rfl) rfl
theorem q1372 : (Jvm.Cond.instanceMethod ({ cls := "PegBands$Not", name := "is", desc := "(LPegBands;I)Z" } : Jvm.MethodName)) ∈ lw_all := lw_g (lw_at lw_m6 65 rfl) rfl
theorem q1373 : (Jvm.Cond.code ({ cls := "PegBands$Not", name := "is", desc := "(LPegBands;I)Z" } : Jvm.MethodName) prog_14_method_2_code (3 : Nat) (Option.some Jvm.ClassFile.FieldType.boolean)) ∈ lw_all := lw_g (lw_at lw_m6 66 rfl) rfl
theorem q1374 : (Jvm.Cond.methodLink "PegBands$Not" (13 : Nat) ({ cls := "PegBands$Cond", name := "is", desc := "(LPegBands;I)Z" } : Jvm.MethodName)) ∈ lw_all := lw_g (lw_at lw_m6 67 rfl) rfl
theorem q1375 : (Jvm.Cond.selects "PegBands$Both" ({ cls := "PegBands$Cond", name := "is", desc := "(LPegBands;I)Z" } : Jvm.MethodName) ({ cls := "PegBands$Both", name := "is", desc := "(LPegBands;I)Z" } : Jvm.MethodName)) ∈ lw_all := lw_g (lw_at lw_m6 68 rfl) rfl
theorem q1376 : (Jvm.Cond.selects "PegBands$Counts" ({ cls := "PegBands$Cond", name := "is", desc := "(LPegBands;I)Z" } : Jvm.MethodName) ({ cls := "PegBands$Counts", name := "is", desc := "(LPegBands;I)Z" } : Jvm.MethodName)) ∈ lw_all := lw_g (lw_at lw_m6 69 rfl) rfl
theorem q1377 : (Jvm.Cond.selects "PegBands$Like" ({ cls := "PegBands$Cond", name := "is", desc := "(LPegBands;I)Z" } : Jvm.MethodName) ({ cls := "PegBands$Like", name := "is", desc := "(LPegBands;I)Z" } : Jvm.MethodName)) ∈ lw_all := lw_g (lw_at lw_m6 70 rfl) rfl
theorem q1378 : (Jvm.Cond.selects "PegBands$Not" ({ cls := "PegBands$Cond", name := "is", desc := "(LPegBands;I)Z" } : Jvm.MethodName) ({ cls := "PegBands$Not", name := "is", desc := "(LPegBands;I)Z" } : Jvm.MethodName)) ∈ lw_all := lw_g (lw_at lw_m6 71 rfl) rfl
theorem q1379 : (Jvm.Cond.methodLink "PegBandsLaw" (186 : Nat) ({ cls := "PegBands", name := "image", desc := "(I)Z" } : Jvm.MethodName)) ∈ lw_all := lw_g (lw_at lw_m6 72 rfl) rfl
theorem q1380 : (Jvm.Cond.instanceMethod ({ cls := "PegBands", name := "image", desc := "(I)Z" } : Jvm.MethodName)) ∈ lw_all := lw_g (lw_at lw_m6 73 rfl) rfl
theorem q1381 : (Jvm.Cond.selects "PegBands" ({ cls := "PegBands", name := "image", desc := "(I)Z" } : Jvm.MethodName) ({ cls := "PegBands", name := "image", desc := "(I)Z" } : Jvm.MethodName)) ∈ lw_all := lw_g (lw_at lw_m6 74 rfl) rfl
theorem q1382 : (Jvm.Cond.code ({ cls := "PegBands", name := "image", desc := "(I)Z" } : Jvm.MethodName) prog_1_method_83_code (3 : Nat) (Option.some Jvm.ClassFile.FieldType.boolean)) ∈ lw_all := lw_g (lw_at lw_m6 75 rfl) rfl
theorem q1383 : (Jvm.Cond.instantiable "PegBands$Kept" (8 : Nat)) ∈ lw_all := lw_g (lw_at lw_m6 76 rfl) rfl
theorem q1384 : (Jvm.Cond.methodLinkNest "PegBands" (472 : Nat) ({ cls := "PegBands$Kept", name := "<init>", desc := "()V" } : Jvm.MethodName) "PegBands") ∈ lw_tbl := lw_at lw_m6 77 rfl
theorem q1385 : (Jvm.Cond.instanceMethod ({ cls := "PegBands$Kept", name := "<init>", desc := "()V" } : Jvm.MethodName)) ∈ lw_all := lw_g (lw_at lw_m6 78 rfl) rfl
theorem q1386 : (Jvm.Cond.code ({ cls := "PegBands$Kept", name := "<init>", desc := "()V" } : Jvm.MethodName) prog_12_method_1_code (1 : Nat) (Option.none : Option Jvm.ClassFile.FieldType)) ∈ lw_all := lw_g (lw_at lw_m6 79 rfl) rfl
theorem q1387 : (Jvm.Cond.methodLink "PegBands$Kept" (3 : Nat) ({ cls := "java/lang/Object", name := "<init>", desc := "()V" } : Jvm.MethodName)) ∈ lw_all := lw_g (lw_at lw_m6 80 rfl) rfl
theorem q1388 : (Jvm.Cond.classLink "PegBands$Kept" (9 : Nat) "PegBands$Band") ∈ lw_all := lw_g (lw_at lw_m6 81 rfl) rfl
theorem q1389 : (Jvm.Cond.classLink "PegBands$Kept" (17 : Nat) "PegBands$Calls") ∈ lw_all := lw_g (lw_at lw_m6 82 rfl) rfl
theorem q1390 : (Jvm.Cond.methodLinkNest "PegBands$Kept" (19 : Nat) ({ cls := "PegBands$Calls", name := "<init>", desc := "()V" } : Jvm.MethodName) "PegBands") ∈ lw_tbl := lw_at lw_m6 83 rfl
theorem q1391 : (Jvm.Cond.fieldLinkNest "PegBands" (473 : Nat) "PegBands$Kept" "board" "LPegBands$Board;" "PegBands") ∈ lw_tbl := lw_at lw_m6 84 rfl
theorem q1392 : (Jvm.Cond.fieldLink "PegBands$Kept" (11 : Nat) "PegBands$Kept" "bands" "[LPegBands$Band;") ∈ lw_all := lw_g (lw_at lw_m6 85 rfl) rfl
theorem q1393 : (Jvm.Cond.fieldLinkNest "PegBands" (475 : Nat) "PegBands$Kept" "bands" "[LPegBands$Band;" "PegBands") ∈ lw_tbl := lw_at lw_m6 86 rfl
theorem q1394 : (Jvm.Cond.fieldLink "PegBands$Kept" (20 : Nat) "PegBands$Kept" "calls" "LPegBands$Calls;") ∈ lw_all := lw_g (lw_at lw_m6 87 rfl) rfl
theorem q1395 : (Jvm.Cond.fieldLinkNest "PegBands" (476 : Nat) "PegBands$Kept" "calls" "LPegBands$Calls;" "PegBands") ∈ lw_tbl := lw_at lw_m6 88 rfl
theorem q1396 : (Jvm.Cond.fieldLink "PegBands$Kept" (24 : Nat) "PegBands$Kept" "lineA" "[I") ∈ lw_all := lw_g (lw_at lw_m6 89 rfl) rfl
theorem q1397 : (Jvm.Cond.fieldLinkNest "PegBands" (477 : Nat) "PegBands$Kept" "lineA" "[I" "PegBands") ∈ lw_tbl := lw_at lw_m6 90 rfl
theorem q1398 : (Jvm.Cond.fieldLink "PegBands$Kept" (28 : Nat) "PegBands$Kept" "lineB" "[I") ∈ lw_all := lw_g (lw_at lw_m6 91 rfl) rfl
theorem q1399 : (Jvm.Cond.fieldLinkNest "PegBands" (478 : Nat) "PegBands$Kept" "lineB" "[I" "PegBands") ∈ lw_tbl := lw_at lw_m6 92 rfl
theorem q1400 : (Jvm.Cond.fieldLinkNest "PegBands" (474 : Nat) "PegBands$Kept" "many" "I" "PegBands") ∈ lw_tbl := lw_at lw_m6 93 rfl
theorem q1401 : (Jvm.Cond.fieldLinkNest "PegBands" (479 : Nat) "PegBands$Kept" "lineMany" "I" "PegBands") ∈ lw_tbl := lw_at lw_m6 94 rfl
theorem q1402 : (Jvm.Cond.fieldLinkNest "PegBands" (480 : Nat) "PegBands$Kept" "sentence" "LPegBands$Cond;" "PegBands") ∈ lw_tbl := lw_at lw_m6 95 rfl
theorem q1403 : (Jvm.Cond.lays "PegBands$Kept" "PegBands$Kept" "board" "LPegBands$Board;") ∈ lw_all := lw_g (lw_at lw_m6 96 rfl) rfl
theorem q1404 : (Jvm.Cond.soleField "PegBands$Kept" "board") ∈ lw_all := lw_g (lw_at lw_m6 97 rfl) rfl
theorem q1405 : (Jvm.Cond.laysFinal "PegBands$Kept" "PegBands$Kept" "bands" "[LPegBands$Band;") ∈ lw_all := lw_g (lw_at lw_m6 98 rfl) rfl
theorem q1406 : (Jvm.Cond.soleField "PegBands$Kept" "bands") ∈ lw_all := lw_g (lw_at lw_m6 99 rfl) rfl
theorem q1407 : (Jvm.Cond.laysFinal "PegBands$Kept" "PegBands$Kept" "calls" "LPegBands$Calls;") ∈ lw_all := lw_g (lw_at lw_m6 100 rfl) rfl
theorem q1408 : (Jvm.Cond.soleField "PegBands$Kept" "calls") ∈ lw_all := lw_g (lw_at lw_m6 101 rfl) rfl
theorem q1409 : (Jvm.Cond.laysFinal "PegBands$Kept" "PegBands$Kept" "lineA" "[I") ∈ lw_all := lw_g (lw_at lw_m6 102 rfl) rfl
theorem q1410 : (Jvm.Cond.soleField "PegBands$Kept" "lineA") ∈ lw_all := lw_g (lw_at lw_m6 103 rfl) rfl
theorem q1411 : (Jvm.Cond.laysFinal "PegBands$Kept" "PegBands$Kept" "lineB" "[I") ∈ lw_all := lw_g (lw_at lw_m6 104 rfl) rfl
theorem q1412 : (Jvm.Cond.soleField "PegBands$Kept" "lineB") ∈ lw_all := lw_g (lw_at lw_m6 105 rfl) rfl
theorem q1413 : (Jvm.Cond.lays "PegBands$Kept" "PegBands$Kept" "many" "I") ∈ lw_all := lw_g (lw_at lw_m6 106 rfl) rfl
theorem q1414 : (Jvm.Cond.soleField "PegBands$Kept" "many") ∈ lw_all := lw_g (lw_at lw_m6 107 rfl) rfl
theorem q1415 : (Jvm.Cond.lays "PegBands$Kept" "PegBands$Kept" "lineMany" "I") ∈ lw_all := lw_g (lw_at lw_m6 108 rfl) rfl
theorem q1416 : (Jvm.Cond.soleField "PegBands$Kept" "lineMany") ∈ lw_all := lw_g (lw_at lw_m6 109 rfl) rfl
theorem q1417 : (Jvm.Cond.lays "PegBands$Kept" "PegBands$Kept" "sentence" "LPegBands$Cond;") ∈ lw_all := lw_g (lw_at lw_m6 110 rfl) rfl
theorem q1418 : (Jvm.Cond.soleField "PegBands$Kept" "sentence") ∈ lw_all := lw_g (lw_at lw_m6 111 rfl) rfl
theorem q1419 : (Jvm.Cond.superclass "PegBands$Kept" "java/lang/Object") ∈ lw_all := lw_g (lw_at lw_m6 112 rfl) rfl
theorem q1420 : (Jvm.Cond.methodLink "PegBandsLaw" (190 : Nat) ({ cls := "PegBands", name := "restore", desc := "(I)Z" } : Jvm.MethodName)) ∈ lw_all := lw_g (lw_at lw_m6 113 rfl) rfl
theorem q1421 : (Jvm.Cond.instanceMethod ({ cls := "PegBands", name := "restore", desc := "(I)Z" } : Jvm.MethodName)) ∈ lw_all := lw_g (lw_at lw_m6 114 rfl) rfl
theorem q1422 : (Jvm.Cond.selects "PegBands" ({ cls := "PegBands", name := "restore", desc := "(I)Z" } : Jvm.MethodName) ({ cls := "PegBands", name := "restore", desc := "(I)Z" } : Jvm.MethodName)) ∈ lw_all := lw_g (lw_at lw_m6 115 rfl) rfl
theorem q1423 : (Jvm.Cond.code ({ cls := "PegBands", name := "restore", desc := "(I)Z" } : Jvm.MethodName) prog_1_method_84_code (3 : Nat) (Option.some Jvm.ClassFile.FieldType.boolean)) ∈ lw_all := lw_g (lw_at lw_m6 116 rfl) rfl
theorem q1424 : (Jvm.Cond.methodLink "PegBandsLaw" (194 : Nat) ({ cls := "PegBands", name := "count", desc := "(I)I" } : Jvm.MethodName)) ∈ lw_all := lw_g (lw_at lw_m6 117 rfl) rfl
theorem q1425 : (Jvm.Cond.instanceMethod ({ cls := "PegBands", name := "count", desc := "(I)I" } : Jvm.MethodName)) ∈ lw_all := lw_g (lw_at lw_m6 118 rfl) rfl
theorem q1426 : (Jvm.Cond.selects "PegBands" ({ cls := "PegBands", name := "count", desc := "(I)I" } : Jvm.MethodName) ({ cls := "PegBands", name := "count", desc := "(I)I" } : Jvm.MethodName)) ∈ lw_all := lw_g (lw_at lw_m6 119 rfl) rfl
theorem q1427 : (Jvm.Cond.code ({ cls := "PegBands", name := "count", desc := "(I)I" } : Jvm.MethodName) prog_1_method_85_code (2 : Nat) (Option.some Jvm.ClassFile.FieldType.int)) ∈ lw_all := lw_g (lw_at lw_m6 120 rfl) rfl
theorem q1428 : (Jvm.Cond.methodLink "PegBandsLaw" (47 : Nat) ({ cls := "PegBandsLaw", name := "band", desc := "(LPegBands;II[J)I" } : Jvm.MethodName)) ∈ lw_all := lw_g (lw_at lw_m6 121 rfl) rfl
theorem q1429 : (Jvm.Cond.static ({ cls := "PegBandsLaw", name := "band", desc := "(LPegBands;II[J)I" } : Jvm.MethodName)) ∈ lw_all := lw_g (lw_at lw_m6 122 rfl) rfl
theorem q1430 : (Jvm.Cond.codeWith ({ cls := "PegBandsLaw", name := "band", desc := "(LPegBands;II[J)I" } : Jvm.MethodName) method_3_code (5 : Nat) (Option.some Jvm.ClassFile.FieldType.int) [((0 : Nat), (10 : Nat), (13 : Nat), (13 : Nat))]) ∈ lw_all := lw_g (lw_at lw_m6 123 rfl) rfl
theorem q1431 : (Jvm.Cond.classLink "PegBandsLaw" (13 : Nat) "java/util/NoSuchElementException") ∈ lw_all := lw_g (lw_at lw_m6 124 rfl) rfl
theorem q1432 : (Jvm.Cond.methodLink "PegBandsLaw" (7 : Nat) ({ cls := "PegBands", name := "band", desc := "(II)I" } : Jvm.MethodName)) ∈ lw_all := lw_g (lw_at lw_m6 125 rfl) rfl
theorem q1433 : (Jvm.Cond.instanceMethod ({ cls := "PegBands", name := "band", desc := "(II)I" } : Jvm.MethodName)) ∈ lw_all := lw_g (lw_at lw_m6 126 rfl) rfl
theorem q1434 : (Jvm.Cond.selects "PegBands" ({ cls := "PegBands", name := "band", desc := "(II)I" } : Jvm.MethodName) ({ cls := "PegBands", name := "band", desc := "(II)I" } : Jvm.MethodName)) ∈ lw_all := lw_g (lw_at lw_m6 127 rfl) rfl
theorem q1435 : (Jvm.Cond.code ({ cls := "PegBands", name := "band", desc := "(II)I" } : Jvm.MethodName) prog_1_method_19_code (6 : Nat) (Option.some Jvm.ClassFile.FieldType.int)) ∈ lw_all := lw_g (lw_at lw_m6 128 rfl) rfl
theorem q1436 : (Jvm.Cond.methodLink "PegBands" (244 : Nat) ({ cls := "PegBands", name := "must", desc := "(Z)V" } : Jvm.MethodName)) ∈ lw_all := lw_g (lw_at lw_m6 129 rfl) rfl
theorem q1437 : (Jvm.Cond.static ({ cls := "PegBands", name := "must", desc := "(Z)V" } : Jvm.MethodName)) ∈ lw_all := lw_g (lw_at lw_m6 130 rfl) rfl
theorem q1438 : (Jvm.Cond.code ({ cls := "PegBands", name := "must", desc := "(Z)V" } : Jvm.MethodName) prog_1_method_7_code (1 : Nat) (Option.none : Option Jvm.ClassFile.FieldType)) ∈ lw_all := lw_g (lw_at lw_m6 131 rfl) rfl
theorem q1439 : (Jvm.Cond.classLink "PegBands" (164 : Nat) "java/util/NoSuchElementException") ∈ lw_all := lw_g (lw_at lw_m6 132 rfl) rfl
theorem q1440 : (Jvm.Cond.instantiable "java/util/NoSuchElementException" (6 : Nat)) ∈ lw_all := lw_g (lw_at lw_m6 133 rfl) rfl
theorem q1441 : (Jvm.Cond.castable "java/util/NoSuchElementException" "java/util/NoSuchElementException") ∈ lw_tbl := lw_at lw_m6 134 rfl
theorem q1442 : (Jvm.Cond.declares ({ cls := "java/lang/RuntimeException", name := "<init>", desc := "()V" } : Jvm.MethodName)) ∈ lw_tbl := lw_at lw_m6 135 rfl
theorem q1443 : (Jvm.Cond.declares ({ cls := "java/lang/RuntimeException", name := "<init>", desc := "(Ljava/lang/String;)V" } : Jvm.MethodName)) ∈ lw_tbl := lw_at lw_m6 136 rfl
theorem q1444 : (Jvm.Cond.selects "java/util/NoSuchElementException" ({ cls := "java/lang/Throwable", name := "fillInStackTrace", desc := "(I)Ljava/lang/Throwable;" } : Jvm.MethodName) ({ cls := "java/lang/Throwable", name := "fillInStackTrace", desc := "(I)Ljava/lang/Throwable;" } : Jvm.MethodName)) ∈ lw_all := lw_g (lw_at lw_m6 137 rfl) rfl
theorem q1445 : (Jvm.Cond.lays "java/util/NoSuchElementException" "java/lang/Throwable" "cause" "Ljava/lang/Throwable;") ∈ lw_all := lw_g (lw_at lw_m6 138 rfl) rfl
theorem q1446 : (Jvm.Cond.lays "java/util/NoSuchElementException" "java/lang/Throwable" "stackTrace" "[Ljava/lang/StackTraceElement;") ∈ lw_all := lw_g (lw_at lw_m6 139 rfl) rfl
theorem q1447 : (Jvm.Cond.lays "java/util/NoSuchElementException" "java/lang/Throwable" "suppressedExceptions" "Ljava/util/List;") ∈ lw_all := lw_g (lw_at lw_m6 140 rfl) rfl
theorem q1448 : (Jvm.Cond.lays "java/util/NoSuchElementException" "java/lang/Throwable" "detailMessage" "Ljava/lang/String;") ∈ lw_all := lw_g (lw_at lw_m6 141 rfl) rfl
theorem q1449 : (Jvm.Cond.lays "java/util/NoSuchElementException" "java/lang/Throwable" "backtrace" "Ljava/lang/Object;") ∈ lw_all := lw_g (lw_at lw_m6 142 rfl) rfl
theorem q1450 : (Jvm.Cond.methodLink "PegBands" (166 : Nat) ({ cls := "java/util/NoSuchElementException", name := "<init>", desc := "()V" } : Jvm.MethodName)) ∈ lw_all := lw_g (lw_at lw_m6 143 rfl) rfl
theorem q1451 : (Jvm.Cond.instanceMethod ({ cls := "java/util/NoSuchElementException", name := "<init>", desc := "()V" } : Jvm.MethodName)) ∈ lw_all := lw_g (lw_at lw_m6 144 rfl) rfl
theorem q1452 : (Jvm.Cond.code ({ cls := "java/util/NoSuchElementException", name := "<init>", desc := "()V" } : Jvm.MethodName) prog_32_method_1_code (1 : Nat) (Option.none : Option Jvm.ClassFile.FieldType)) ∈ lw_all := lw_g (lw_at lw_m6 145 rfl) rfl
theorem q1453 : (Jvm.Cond.methodLink "java/util/NoSuchElementException" (1 : Nat) ({ cls := "java/lang/RuntimeException", name := "<init>", desc := "()V" } : Jvm.MethodName)) ∈ lw_all := lw_g (lw_at lw_m6 146 rfl) rfl
theorem q1454 : (Jvm.Cond.instanceMethod ({ cls := "java/lang/RuntimeException", name := "<init>", desc := "()V" } : Jvm.MethodName)) ∈ lw_all := lw_g (lw_at lw_m6 147 rfl) rfl
theorem q1455 : (Jvm.Cond.code ({ cls := "java/lang/RuntimeException", name := "<init>", desc := "()V" } : Jvm.MethodName) prog_24_method_1_code (1 : Nat) (Option.none : Option Jvm.ClassFile.FieldType)) ∈ lw_all := lw_g (lw_at lw_m6 148 rfl) rfl
theorem q1456 : (Jvm.Cond.methodLink "java/lang/RuntimeException" (1 : Nat) ({ cls := "java/lang/Exception", name := "<init>", desc := "()V" } : Jvm.MethodName)) ∈ lw_all := lw_g (lw_at lw_m6 149 rfl) rfl
theorem q1457 : (Jvm.Cond.instanceMethod ({ cls := "java/lang/Exception", name := "<init>", desc := "()V" } : Jvm.MethodName)) ∈ lw_all := lw_g (lw_at lw_m6 150 rfl) rfl
theorem q1458 : (Jvm.Cond.code ({ cls := "java/lang/Exception", name := "<init>", desc := "()V" } : Jvm.MethodName) prog_22_method_1_code (1 : Nat) (Option.none : Option Jvm.ClassFile.FieldType)) ∈ lw_all := lw_g (lw_at lw_m6 151 rfl) rfl
theorem q1459 : (Jvm.Cond.methodLink "java/lang/Exception" (1 : Nat) ({ cls := "java/lang/Throwable", name := "<init>", desc := "()V" } : Jvm.MethodName)) ∈ lw_all := lw_g (lw_at lw_m6 152 rfl) rfl
theorem q1460 : (Jvm.Cond.lays "java/util/NoSuchElementException" "java/lang/Throwable" "depth" "I") ∈ lw_all := lw_g (lw_at lw_m6 153 rfl) rfl
theorem q1461 : (Jvm.Cond.superclass "java/util/NoSuchElementException" "java/lang/RuntimeException") ∈ lw_all := lw_g (lw_at lw_m6 154 rfl) rfl
theorem q1462 : (Jvm.Cond.methodLink "PegBands" (259 : Nat) ({ cls := "PegBands$Band", name := "bent", desc := "()I" } : Jvm.MethodName)) ∈ lw_all := lw_g (lw_at lw_m6 155 rfl) rfl
theorem q1463 : (Jvm.Cond.methodLink "PegBands" (261 : Nat) ({ cls := "PegBands$Band", name := "right", desc := "()I" } : Jvm.MethodName)) ∈ lw_all := lw_g (lw_at lw_m6 156 rfl) rfl
theorem q1464 : (Jvm.Cond.classLink "PegBandsLaw" (16 : Nat) "PegBandsModel") ∈ lw_all := lw_g (lw_at lw_m6 157 rfl) rfl
theorem q1465 : (Jvm.Cond.instantiable "PegBandsModel" (51 : Nat)) ∈ lw_all := lw_g (lw_at lw_m6 158 rfl) rfl
theorem q1466 : (Jvm.Cond.methodLink "PegBandsLaw" (18 : Nat) ({ cls := "PegBandsModel", name := "<init>", desc := "()V" } : Jvm.MethodName)) ∈ lw_all := lw_g (lw_at lw_m6 159 rfl) rfl
theorem q1467 : (Jvm.Cond.instanceMethod ({ cls := "PegBandsModel", name := "<init>", desc := "()V" } : Jvm.MethodName)) ∈ lw_all := lw_g (lw_at lw_m6 160 rfl) rfl
theorem q1468 : (Jvm.Cond.code ({ cls := "PegBandsModel", name := "<init>", desc := "()V" } : Jvm.MethodName) prog_18_method_1_code (1 : Nat) (Option.none : Option Jvm.ClassFile.FieldType)) ∈ lw_all := lw_g (lw_at lw_m6 161 rfl) rfl
theorem q1469 : (Jvm.Cond.methodLink "PegBandsModel" (1 : Nat) ({ cls := "java/lang/Object", name := "<init>", desc := "()V" } : Jvm.MethodName)) ∈ lw_all := lw_g (lw_at lw_m6 162 rfl) rfl
theorem q1470 : (Jvm.Cond.constant "PegBandsModel" (78 : Nat) (46656 : Int32)) ∈ lw_all := lw_g (lw_at lw_m6 163 rfl) rfl
theorem q1471 : (Jvm.Cond.fieldLink "PegBandsModel" (94 : Nat) "PegBandsModel" "thrown" "I") ∈ lw_all := lw_g (lw_at lw_m6 164 rfl) rfl
theorem q1472 : (Jvm.Cond.fieldLink "PegBandsModel" (7 : Nat) "PegBandsModel" "tape" "[I") ∈ lw_all := lw_g (lw_at lw_m6 165 rfl) rfl
theorem q1473 : (Jvm.Cond.fieldLink "PegBandsModel" (98 : Nat) "PegBandsModel" "taped" "I") ∈ lw_all := lw_g (lw_at lw_m6 166 rfl) rfl
theorem q1474 : (Jvm.Cond.fieldLink "PegBandsModel" (109 : Nat) "PegBandsModel" "size" "I") ∈ lw_all := lw_g (lw_at lw_m6 167 rfl) rfl
theorem q1475 : (Jvm.Cond.fieldLink "PegBandsModel" (117 : Nat) "PegBandsModel" "limit" "I") ∈ lw_all := lw_g (lw_at lw_m6 168 rfl) rfl
theorem q1476 : (Jvm.Cond.fieldLink "PegBandsModel" (111 : Nat) "PegBandsModel" "to" "I") ∈ lw_all := lw_g (lw_at lw_m6 169 rfl) rfl
theorem q1477 : (Jvm.Cond.fieldLink "PegBandsModel" (114 : Nat) "PegBandsModel" "from" "I") ∈ lw_all := lw_g (lw_at lw_m6 170 rfl) rfl
theorem q1478 : (Jvm.Cond.fieldLink "PegBandsModel" (120 : Nat) "PegBandsModel" "kind" "I") ∈ lw_all := lw_g (lw_at lw_m6 171 rfl) rfl
theorem q1479 : (Jvm.Cond.fieldLink "PegBandsModel" (137 : Nat) "PegBandsModel" "number" "I") ∈ lw_all := lw_g (lw_at lw_m6 172 rfl) rfl
theorem q1480 : (Jvm.Cond.fieldLink "PegBandsModel" (130 : Nat) "PegBandsModel" "signed" "I") ∈ lw_all := lw_g (lw_at lw_m6 173 rfl) rfl
theorem q1481 : (Jvm.Cond.fieldLink "PegBandsModel" (159 : Nat) "PegBandsModel" "fault" "I") ∈ lw_all := lw_g (lw_at lw_m6 174 rfl) rfl
theorem q1482 : (Jvm.Cond.fieldLink "PegBandsModel" (162 : Nat) "PegBandsModel" "place" "I") ∈ lw_all := lw_g (lw_at lw_m6 175 rfl) rfl
theorem q1483 : (Jvm.Cond.fieldLink "PegBandsModel" (249 : Nat) "PegBandsModel" "why" "I") ∈ lw_all := lw_g (lw_at lw_m6 176 rfl) rfl
theorem q1484 : (Jvm.Cond.fieldLink "PegBandsModel" (133 : Nat) "PegBandsModel" "word" "J") ∈ lw_all := lw_g (lw_at lw_m6 177 rfl) rfl
theorem q1485 : (Jvm.Cond.fieldLink "PegBandsModel" (172 : Nat) "PegBandsModel" "told" "I") ∈ lw_all := lw_g (lw_at lw_m6 178 rfl) rfl
theorem q1486 : (Jvm.Cond.fieldLink "PegBandsModel" (13 : Nat) "PegBandsModel" "now" "[I") ∈ lw_all := lw_g (lw_at lw_m6 179 rfl) rfl
theorem q1487 : (Jvm.Cond.fieldLink "PegBandsModel" (16 : Nat) "PegBandsModel" "read" "[I") ∈ lw_all := lw_g (lw_at lw_m6 180 rfl) rfl
theorem q1488 : (Jvm.Cond.fieldLink "PegBandsModel" (19 : Nat) "PegBandsModel" "line" "[I") ∈ lw_all := lw_g (lw_at lw_m6 181 rfl) rfl
theorem q1489 : (Jvm.Cond.fieldLink "PegBandsModel" (22 : Nat) "PegBandsModel" "kept" "[I") ∈ lw_all := lw_g (lw_at lw_m6 182 rfl) rfl
theorem q1490 : (Jvm.Cond.fieldLink "PegBandsModel" (25 : Nat) "PegBandsModel" "snaps" "[I") ∈ lw_all := lw_g (lw_at lw_m6 183 rfl) rfl
theorem q1491 : (Jvm.Cond.fieldLink "PegBandsModel" (28 : Nat) "PegBandsModel" "name" "[J") ∈ lw_all := lw_g (lw_at lw_m6 184 rfl) rfl
theorem q1492 : (Jvm.Cond.fieldLink "PegBandsModel" (32 : Nat) "PegBandsModel" "readName" "[J") ∈ lw_all := lw_g (lw_at lw_m6 185 rfl) rfl
theorem q1493 : (Jvm.Cond.fieldLink "PegBandsModel" (35 : Nat) "PegBandsModel" "snapName" "[J") ∈ lw_all := lw_g (lw_at lw_m6 186 rfl) rfl
theorem q1494 : (Jvm.Cond.fieldLink "PegBandsModel" (38 : Nat) "PegBandsModel" "said" "[J") ∈ lw_all := lw_g (lw_at lw_m6 187 rfl) rfl
theorem q1495 : (Jvm.Cond.fieldLink "PegBandsModel" (41 : Nat) "PegBandsModel" "keptName" "[J") ∈ lw_all := lw_g (lw_at lw_m6 188 rfl) rfl
theorem q1496 : (Jvm.Cond.fieldLink "PegBandsModel" (44 : Nat) "PegBandsModel" "keptSaid" "[J") ∈ lw_all := lw_g (lw_at lw_m6 189 rfl) rfl
theorem q1497 : (Jvm.Cond.fieldLink "PegBandsModel" (47 : Nat) "PegBandsModel" "isKept" "[Z") ∈ lw_all := lw_g (lw_at lw_m6 190 rfl) rfl
theorem q1498 : (Jvm.Cond.fieldLink "PegBandsModel" (273 : Nat) "PegBandsModel" "snapMany" "I") ∈ lw_all := lw_g (lw_at lw_m6 191 rfl) rfl
theorem q1499 : (Jvm.Cond.fieldLink "PegBandsModel" (51 : Nat) "PegBandsModel" "turned" "[I") ∈ lw_all := lw_g (lw_at lw_m6 192 rfl) rfl
theorem q1500 : (Jvm.Cond.fieldLink "PegBandsModel" (54 : Nat) "PegBandsModel" "row" "[I") ∈ lw_all := lw_g (lw_at lw_m6 193 rfl) rfl
theorem q1501 : (Jvm.Cond.fieldLink "PegBandsModel" (57 : Nat) "PegBandsModel" "least" "[I") ∈ lw_all := lw_g (lw_at lw_m6 194 rfl) rfl
theorem q1502 : (Jvm.Cond.fieldLink "PegBandsModel" (60 : Nat) "PegBandsModel" "other" "[I") ∈ lw_all := lw_g (lw_at lw_m6 195 rfl) rfl
theorem q1503 : (Jvm.Cond.fieldLink "PegBandsModel" (63 : Nat) "PegBandsModel" "formed" "[I") ∈ lw_all := lw_g (lw_at lw_m6 196 rfl) rfl
theorem q1504 : (Jvm.Cond.fieldLink "PegBandsModel" (355 : Nat) "PegBandsModel" "formMany" "I") ∈ lw_all := lw_g (lw_at lw_m6 197 rfl) rfl
theorem q1505 : (Jvm.Cond.fieldLink "PegBandsModel" (377 : Nat) "PegBandsModel" "lineMany" "I") ∈ lw_all := lw_g (lw_at lw_m6 198 rfl) rfl
theorem q1506 : (Jvm.Cond.fieldLink "PegBandsModel" (66 : Nat) "PegBandsModel" "text" "[I") ∈ lw_all := lw_g (lw_at lw_m6 199 rfl) rfl
theorem q1507 : (Jvm.Cond.fieldLink "PegBandsModel" (399 : Nat) "PegBandsModel" "texted" "I") ∈ lw_all := lw_g (lw_at lw_m6 200 rfl) rfl
theorem q1508 : (Jvm.Cond.fieldLink "PegBandsModel" (408 : Nat) "PegBandsModel" "areaFound" "I") ∈ lw_all := lw_g (lw_at lw_m6 201 rfl) rfl
theorem q1509 : (Jvm.Cond.fieldLink "PegBandsModel" (69 : Nat) "PegBandsModel" "alongX" "[I") ∈ lw_all := lw_g (lw_at lw_m6 202 rfl) rfl
theorem q1510 : (Jvm.Cond.fieldLink "PegBandsModel" (72 : Nat) "PegBandsModel" "alongY" "[I") ∈ lw_all := lw_g (lw_at lw_m6 203 rfl) rfl
theorem q1511 : (Jvm.Cond.fieldLink "PegBandsModel" (75 : Nat) "PegBandsModel" "sums" "[I") ∈ lw_all := lw_g (lw_at lw_m6 204 rfl) rfl
theorem q1512 : (Jvm.Cond.fieldLink "PegBandsModel" (79 : Nat) "PegBandsModel" "far" "[I") ∈ lw_all := lw_g (lw_at lw_m6 205 rfl) rfl
theorem q1513 : (Jvm.Cond.fieldLink "PegBandsModel" (82 : Nat) "PegBandsModel" "queue" "[I") ∈ lw_all := lw_g (lw_at lw_m6 206 rfl) rfl
theorem q1514 : (Jvm.Cond.fieldLink "PegBandsModel" (85 : Nat) "PegBandsModel" "lain" "[I") ∈ lw_all := lw_g (lw_at lw_m6 207 rfl) rfl
theorem q1515 : (Jvm.Cond.fieldLink "PegBandsModel" (88 : Nat) "PegBandsModel" "node" "[I") ∈ lw_all := lw_g (lw_at lw_m6 208 rfl) rfl
theorem q1516 : (Jvm.Cond.fieldLink "PegBandsModel" (91 : Nat) "PegBandsModel" "saying" "[J") ∈ lw_all := lw_g (lw_at lw_m6 209 rfl) rfl
theorem q1517 : (Jvm.Cond.fieldLink "PegBandsModel" (447 : Nat) "PegBandsModel" "nodes" "I") ∈ lw_all := lw_g (lw_at lw_m6 210 rfl) rfl
theorem q1518 : (Jvm.Cond.fieldLink "PegBandsModel" (463 : Nat) "PegBandsModel" "onesMany" "I") ∈ lw_all := lw_g (lw_at lw_m6 211 rfl) rfl
theorem q1519 : (Jvm.Cond.fieldLink "PegBandsModel" (466 : Nat) "PegBandsModel" "within" "I") ∈ lw_all := lw_g (lw_at lw_m6 212 rfl) rfl
theorem q1520 : (Jvm.Cond.fieldLink "PegBandsModel" (453 : Nat) "PegBandsModel" "top" "I") ∈ lw_all := lw_g (lw_at lw_m6 213 rfl) rfl
theorem q1521 : (Jvm.Cond.fieldLink "PegBandsModel" (483 : Nat) "PegBandsModel" "named" "I") ∈ lw_all := lw_g (lw_at lw_m6 214 rfl) rfl
theorem q1522 : (Jvm.Cond.lays "PegBandsModel" "PegBandsModel" "thrown" "I") ∈ lw_all := lw_g (lw_at lw_m6 215 rfl) rfl
theorem q1523 : (Jvm.Cond.soleField "PegBandsModel" "thrown") ∈ lw_all := lw_g (lw_at lw_m6 216 rfl) rfl
theorem q1524 : (Jvm.Cond.laysFinal "PegBandsModel" "PegBandsModel" "tape" "[I") ∈ lw_all := lw_g (lw_at lw_m6 217 rfl) rfl
theorem q1525 : (Jvm.Cond.soleField "PegBandsModel" "tape") ∈ lw_all := lw_g (lw_at lw_m6 218 rfl) rfl
theorem q1526 : (Jvm.Cond.lays "PegBandsModel" "PegBandsModel" "taped" "I") ∈ lw_all := lw_g (lw_at lw_m6 219 rfl) rfl
theorem q1527 : (Jvm.Cond.soleField "PegBandsModel" "taped") ∈ lw_all := lw_g (lw_at lw_m6 220 rfl) rfl
theorem q1528 : (Jvm.Cond.lays "PegBandsModel" "PegBandsModel" "size" "I") ∈ lw_all := lw_g (lw_at lw_m6 221 rfl) rfl
theorem q1529 : (Jvm.Cond.soleField "PegBandsModel" "size") ∈ lw_all := lw_g (lw_at lw_m6 222 rfl) rfl
theorem q1530 : (Jvm.Cond.lays "PegBandsModel" "PegBandsModel" "limit" "I") ∈ lw_all := lw_g (lw_at lw_m6 223 rfl) rfl
theorem q1531 : (Jvm.Cond.soleField "PegBandsModel" "limit") ∈ lw_all := lw_g (lw_at lw_m6 224 rfl) rfl
theorem q1532 : (Jvm.Cond.lays "PegBandsModel" "PegBandsModel" "to" "I") ∈ lw_all := lw_g (lw_at lw_m6 225 rfl) rfl
theorem q1533 : (Jvm.Cond.soleField "PegBandsModel" "to") ∈ lw_all := lw_g (lw_at lw_m6 226 rfl) rfl
theorem q1534 : (Jvm.Cond.lays "PegBandsModel" "PegBandsModel" "from" "I") ∈ lw_all := lw_g (lw_at lw_m6 227 rfl) rfl
theorem q1535 : (Jvm.Cond.soleField "PegBandsModel" "from") ∈ lw_all := lw_g (lw_at lw_m6 228 rfl) rfl
theorem q1536 : (Jvm.Cond.lays "PegBandsModel" "PegBandsModel" "kind" "I") ∈ lw_all := lw_g (lw_at lw_m6 229 rfl) rfl
theorem q1537 : (Jvm.Cond.soleField "PegBandsModel" "kind") ∈ lw_all := lw_g (lw_at lw_m6 230 rfl) rfl
theorem q1538 : (Jvm.Cond.lays "PegBandsModel" "PegBandsModel" "number" "I") ∈ lw_all := lw_g (lw_at lw_m6 231 rfl) rfl
theorem q1539 : (Jvm.Cond.soleField "PegBandsModel" "number") ∈ lw_all := lw_g (lw_at lw_m6 232 rfl) rfl
theorem q1540 : (Jvm.Cond.lays "PegBandsModel" "PegBandsModel" "signed" "I") ∈ lw_all := lw_g (lw_at lw_m6 233 rfl) rfl
theorem q1541 : (Jvm.Cond.soleField "PegBandsModel" "signed") ∈ lw_all := lw_g (lw_at lw_m6 234 rfl) rfl
theorem q1542 : (Jvm.Cond.lays "PegBandsModel" "PegBandsModel" "fault" "I") ∈ lw_all := lw_g (lw_at lw_m6 235 rfl) rfl
theorem q1543 : (Jvm.Cond.soleField "PegBandsModel" "fault") ∈ lw_all := lw_g (lw_at lw_m6 236 rfl) rfl
theorem q1544 : (Jvm.Cond.lays "PegBandsModel" "PegBandsModel" "place" "I") ∈ lw_all := lw_g (lw_at lw_m6 237 rfl) rfl
theorem q1545 : (Jvm.Cond.soleField "PegBandsModel" "place") ∈ lw_all := lw_g (lw_at lw_m6 238 rfl) rfl
theorem q1546 : (Jvm.Cond.lays "PegBandsModel" "PegBandsModel" "why" "I") ∈ lw_all := lw_g (lw_at lw_m6 239 rfl) rfl
theorem q1547 : (Jvm.Cond.soleField "PegBandsModel" "why") ∈ lw_all := lw_g (lw_at lw_m7 0 rfl) rfl
theorem q1548 : (Jvm.Cond.lays "PegBandsModel" "PegBandsModel" "word" "J") ∈ lw_all := lw_g (lw_at lw_m7 1 rfl) rfl
theorem q1549 : (Jvm.Cond.soleField "PegBandsModel" "word") ∈ lw_all := lw_g (lw_at lw_m7 2 rfl) rfl
theorem q1550 : (Jvm.Cond.lays "PegBandsModel" "PegBandsModel" "told" "I") ∈ lw_all := lw_g (lw_at lw_m7 3 rfl) rfl
theorem q1551 : (Jvm.Cond.soleField "PegBandsModel" "told") ∈ lw_all := lw_g (lw_at lw_m7 4 rfl) rfl
theorem q1552 : (Jvm.Cond.laysFinal "PegBandsModel" "PegBandsModel" "now" "[I") ∈ lw_all := lw_g (lw_at lw_m7 5 rfl) rfl
theorem q1553 : (Jvm.Cond.soleField "PegBandsModel" "now") ∈ lw_all := lw_g (lw_at lw_m7 6 rfl) rfl
theorem q1554 : (Jvm.Cond.laysFinal "PegBandsModel" "PegBandsModel" "read" "[I") ∈ lw_all := lw_g (lw_at lw_m7 7 rfl) rfl
theorem q1555 : (Jvm.Cond.soleField "PegBandsModel" "read") ∈ lw_all := lw_g (lw_at lw_m7 8 rfl) rfl
theorem q1556 : (Jvm.Cond.laysFinal "PegBandsModel" "PegBandsModel" "line" "[I") ∈ lw_all := lw_g (lw_at lw_m7 9 rfl) rfl
theorem q1557 : (Jvm.Cond.soleField "PegBandsModel" "line") ∈ lw_all := lw_g (lw_at lw_m7 10 rfl) rfl
theorem q1558 : (Jvm.Cond.laysFinal "PegBandsModel" "PegBandsModel" "kept" "[I") ∈ lw_all := lw_g (lw_at lw_m7 11 rfl) rfl
theorem q1559 : (Jvm.Cond.soleField "PegBandsModel" "kept") ∈ lw_all := lw_g (lw_at lw_m7 12 rfl) rfl
theorem q1560 : (Jvm.Cond.laysFinal "PegBandsModel" "PegBandsModel" "snaps" "[I") ∈ lw_all := lw_g (lw_at lw_m7 13 rfl) rfl
theorem q1561 : (Jvm.Cond.soleField "PegBandsModel" "snaps") ∈ lw_all := lw_g (lw_at lw_m7 14 rfl) rfl
theorem q1562 : (Jvm.Cond.laysFinal "PegBandsModel" "PegBandsModel" "name" "[J") ∈ lw_all := lw_g (lw_at lw_m7 15 rfl) rfl
theorem q1563 : (Jvm.Cond.soleField "PegBandsModel" "name") ∈ lw_all := lw_g (lw_at lw_m7 16 rfl) rfl
theorem q1564 : (Jvm.Cond.laysFinal "PegBandsModel" "PegBandsModel" "readName" "[J") ∈ lw_all := lw_g (lw_at lw_m7 17 rfl) rfl
theorem q1565 : (Jvm.Cond.soleField "PegBandsModel" "readName") ∈ lw_all := lw_g (lw_at lw_m7 18 rfl) rfl
theorem q1566 : (Jvm.Cond.laysFinal "PegBandsModel" "PegBandsModel" "snapName" "[J") ∈ lw_all := lw_g (lw_at lw_m7 19 rfl) rfl
theorem q1567 : (Jvm.Cond.soleField "PegBandsModel" "snapName") ∈ lw_all := lw_g (lw_at lw_m7 20 rfl) rfl
theorem q1568 : (Jvm.Cond.laysFinal "PegBandsModel" "PegBandsModel" "said" "[J") ∈ lw_all := lw_g (lw_at lw_m7 21 rfl) rfl
theorem q1569 : (Jvm.Cond.soleField "PegBandsModel" "said") ∈ lw_all := lw_g (lw_at lw_m7 22 rfl) rfl
theorem q1570 : (Jvm.Cond.laysFinal "PegBandsModel" "PegBandsModel" "keptName" "[J") ∈ lw_all := lw_g (lw_at lw_m7 23 rfl) rfl
theorem q1571 : (Jvm.Cond.soleField "PegBandsModel" "keptName") ∈ lw_all := lw_g (lw_at lw_m7 24 rfl) rfl
theorem q1572 : (Jvm.Cond.laysFinal "PegBandsModel" "PegBandsModel" "keptSaid" "[J") ∈ lw_all := lw_g (lw_at lw_m7 25 rfl) rfl
theorem q1573 : (Jvm.Cond.soleField "PegBandsModel" "keptSaid") ∈ lw_all := lw_g (lw_at lw_m7 26 rfl) rfl
theorem q1574 : (Jvm.Cond.laysFinal "PegBandsModel" "PegBandsModel" "isKept" "[Z") ∈ lw_all := lw_g (lw_at lw_m7 27 rfl) rfl
theorem q1575 : (Jvm.Cond.soleField "PegBandsModel" "isKept") ∈ lw_all := lw_g (lw_at lw_m7 28 rfl) rfl
theorem q1576 : (Jvm.Cond.lays "PegBandsModel" "PegBandsModel" "snapMany" "I") ∈ lw_all := lw_g (lw_at lw_m7 29 rfl) rfl
theorem q1577 : (Jvm.Cond.soleField "PegBandsModel" "snapMany") ∈ lw_all := lw_g (lw_at lw_m7 30 rfl) rfl
theorem q1578 : (Jvm.Cond.laysFinal "PegBandsModel" "PegBandsModel" "turned" "[I") ∈ lw_all := lw_g (lw_at lw_m7 31 rfl) rfl
theorem q1579 : (Jvm.Cond.soleField "PegBandsModel" "turned") ∈ lw_all := lw_g (lw_at lw_m7 32 rfl) rfl
theorem q1580 : (Jvm.Cond.laysFinal "PegBandsModel" "PegBandsModel" "row" "[I") ∈ lw_all := lw_g (lw_at lw_m7 33 rfl) rfl
theorem q1581 : (Jvm.Cond.soleField "PegBandsModel" "row") ∈ lw_all := lw_g (lw_at lw_m7 34 rfl) rfl
theorem q1582 : (Jvm.Cond.laysFinal "PegBandsModel" "PegBandsModel" "least" "[I") ∈ lw_all := lw_g (lw_at lw_m7 35 rfl) rfl
theorem q1583 : (Jvm.Cond.soleField "PegBandsModel" "least") ∈ lw_all := lw_g (lw_at lw_m7 36 rfl) rfl
theorem q1584 : (Jvm.Cond.laysFinal "PegBandsModel" "PegBandsModel" "other" "[I") ∈ lw_all := lw_g (lw_at lw_m7 37 rfl) rfl
theorem q1585 : (Jvm.Cond.soleField "PegBandsModel" "other") ∈ lw_all := lw_g (lw_at lw_m7 38 rfl) rfl
theorem q1586 : (Jvm.Cond.laysFinal "PegBandsModel" "PegBandsModel" "formed" "[I") ∈ lw_all := lw_g (lw_at lw_m7 39 rfl) rfl
theorem q1587 : (Jvm.Cond.soleField "PegBandsModel" "formed") ∈ lw_all := lw_g (lw_at lw_m7 40 rfl) rfl
theorem q1588 : (Jvm.Cond.lays "PegBandsModel" "PegBandsModel" "formMany" "I") ∈ lw_all := lw_g (lw_at lw_m7 41 rfl) rfl
theorem q1589 : (Jvm.Cond.soleField "PegBandsModel" "formMany") ∈ lw_all := lw_g (lw_at lw_m7 42 rfl) rfl
theorem q1590 : (Jvm.Cond.lays "PegBandsModel" "PegBandsModel" "lineMany" "I") ∈ lw_all := lw_g (lw_at lw_m7 43 rfl) rfl
theorem q1591 : (Jvm.Cond.soleField "PegBandsModel" "lineMany") ∈ lw_all := lw_g (lw_at lw_m7 44 rfl) rfl
theorem q1592 : (Jvm.Cond.laysFinal "PegBandsModel" "PegBandsModel" "text" "[I") ∈ lw_all := lw_g (lw_at lw_m7 45 rfl) rfl
theorem q1593 : (Jvm.Cond.soleField "PegBandsModel" "text") ∈ lw_all := lw_g (lw_at lw_m7 46 rfl) rfl
theorem q1594 : (Jvm.Cond.lays "PegBandsModel" "PegBandsModel" "texted" "I") ∈ lw_all := lw_g (lw_at lw_m7 47 rfl) rfl
theorem q1595 : (Jvm.Cond.soleField "PegBandsModel" "texted") ∈ lw_all := lw_g (lw_at lw_m7 48 rfl) rfl
theorem q1596 : (Jvm.Cond.lays "PegBandsModel" "PegBandsModel" "areaFound" "I") ∈ lw_all := lw_g (lw_at lw_m7 49 rfl) rfl
theorem q1597 : (Jvm.Cond.soleField "PegBandsModel" "areaFound") ∈ lw_all := lw_g (lw_at lw_m7 50 rfl) rfl
theorem q1598 : (Jvm.Cond.laysFinal "PegBandsModel" "PegBandsModel" "alongX" "[I") ∈ lw_all := lw_g (lw_at lw_m7 51 rfl) rfl
theorem q1599 : (Jvm.Cond.soleField "PegBandsModel" "alongX") ∈ lw_all := lw_g (lw_at lw_m7 52 rfl) rfl
theorem q1600 : (Jvm.Cond.laysFinal "PegBandsModel" "PegBandsModel" "alongY" "[I") ∈ lw_all := lw_g (lw_at lw_m7 53 rfl) rfl
theorem q1601 : (Jvm.Cond.soleField "PegBandsModel" "alongY") ∈ lw_all := lw_g (lw_at lw_m7 54 rfl) rfl
theorem q1602 : (Jvm.Cond.laysFinal "PegBandsModel" "PegBandsModel" "sums" "[I") ∈ lw_all := lw_g (lw_at lw_m7 55 rfl) rfl
theorem q1603 : (Jvm.Cond.soleField "PegBandsModel" "sums") ∈ lw_all := lw_g (lw_at lw_m7 56 rfl) rfl
theorem q1604 : (Jvm.Cond.laysFinal "PegBandsModel" "PegBandsModel" "far" "[I") ∈ lw_all := lw_g (lw_at lw_m7 57 rfl) rfl
theorem q1605 : (Jvm.Cond.soleField "PegBandsModel" "far") ∈ lw_all := lw_g (lw_at lw_m7 58 rfl) rfl
theorem q1606 : (Jvm.Cond.laysFinal "PegBandsModel" "PegBandsModel" "queue" "[I") ∈ lw_all := lw_g (lw_at lw_m7 59 rfl) rfl
theorem q1607 : (Jvm.Cond.soleField "PegBandsModel" "queue") ∈ lw_all := lw_g (lw_at lw_m7 60 rfl) rfl
theorem q1608 : (Jvm.Cond.laysFinal "PegBandsModel" "PegBandsModel" "lain" "[I") ∈ lw_all := lw_g (lw_at lw_m7 61 rfl) rfl
theorem q1609 : (Jvm.Cond.soleField "PegBandsModel" "lain") ∈ lw_all := lw_g (lw_at lw_m7 62 rfl) rfl
theorem q1610 : (Jvm.Cond.laysFinal "PegBandsModel" "PegBandsModel" "node" "[I") ∈ lw_all := lw_g (lw_at lw_m7 63 rfl) rfl
theorem q1611 : (Jvm.Cond.soleField "PegBandsModel" "node") ∈ lw_all := lw_g (lw_at lw_m7 64 rfl) rfl
theorem q1612 : (Jvm.Cond.laysFinal "PegBandsModel" "PegBandsModel" "saying" "[J") ∈ lw_all := lw_g (lw_at lw_m7 65 rfl) rfl
theorem q1613 : (Jvm.Cond.soleField "PegBandsModel" "saying") ∈ lw_all := lw_g (lw_at lw_m7 66 rfl) rfl
theorem q1614 : (Jvm.Cond.lays "PegBandsModel" "PegBandsModel" "nodes" "I") ∈ lw_all := lw_g (lw_at lw_m7 67 rfl) rfl
theorem q1615 : (Jvm.Cond.soleField "PegBandsModel" "nodes") ∈ lw_all := lw_g (lw_at lw_m7 68 rfl) rfl
theorem q1616 : (Jvm.Cond.lays "PegBandsModel" "PegBandsModel" "onesMany" "I") ∈ lw_all := lw_g (lw_at lw_m7 69 rfl) rfl
theorem q1617 : (Jvm.Cond.soleField "PegBandsModel" "onesMany") ∈ lw_all := lw_g (lw_at lw_m7 70 rfl) rfl
theorem q1618 : (Jvm.Cond.lays "PegBandsModel" "PegBandsModel" "within" "I") ∈ lw_all := lw_g (lw_at lw_m7 71 rfl) rfl
theorem q1619 : (Jvm.Cond.soleField "PegBandsModel" "within") ∈ lw_all := lw_g (lw_at lw_m7 72 rfl) rfl
theorem q1620 : (Jvm.Cond.lays "PegBandsModel" "PegBandsModel" "top" "I") ∈ lw_all := lw_g (lw_at lw_m7 73 rfl) rfl
theorem q1621 : (Jvm.Cond.soleField "PegBandsModel" "top") ∈ lw_all := lw_g (lw_at lw_m7 74 rfl) rfl
theorem q1622 : (Jvm.Cond.lays "PegBandsModel" "PegBandsModel" "named" "I") ∈ lw_all := lw_g (lw_at lw_m7 75 rfl) rfl
theorem q1623 : (Jvm.Cond.soleField "PegBandsModel" "named") ∈ lw_all := lw_g (lw_at lw_m7 76 rfl) rfl
theorem q1624 : (Jvm.Cond.superclass "PegBandsModel" "java/lang/Object") ∈ lw_all := lw_g (lw_at lw_m7 77 rfl) rfl
theorem q1625 : (Jvm.Cond.arrayClass Jvm.ClassFile.FieldType.long) ∈ lw_all := lw_g (lw_at lw_m7 78 rfl) rfl
theorem q1626 : (Jvm.Cond.methodLink "PegBandsLaw" (53 : Nat) ({ cls := "PegBandsModel", name := "thrown", desc := "()I" } : Jvm.MethodName)) ∈ lw_all := lw_g (lw_at lw_m7 79 rfl) rfl
theorem q1627 : (Jvm.Cond.instanceMethod ({ cls := "PegBandsModel", name := "thrown", desc := "()I" } : Jvm.MethodName)) ∈ lw_all := lw_g (lw_at lw_m7 80 rfl) rfl
theorem q1628 : (Jvm.Cond.selects "PegBandsModel" ({ cls := "PegBandsModel", name := "thrown", desc := "()I" } : Jvm.MethodName) ({ cls := "PegBandsModel", name := "thrown", desc := "()I" } : Jvm.MethodName)) ∈ lw_all := lw_g (lw_at lw_m7 81 rfl) rfl
theorem q1629 : (Jvm.Cond.code ({ cls := "PegBandsModel", name := "thrown", desc := "()I" } : Jvm.MethodName) prog_18_method_2_code (1 : Nat) (Option.some Jvm.ClassFile.FieldType.int)) ∈ lw_all := lw_g (lw_at lw_m7 82 rfl) rfl
theorem q1630 : (Jvm.Cond.methodLink "PegBandsLaw" (23 : Nat) ({ cls := "PegBandsModel", name := "feed", desc := "(IIIII)I" } : Jvm.MethodName)) ∈ lw_all := lw_g (lw_at lw_m7 83 rfl) rfl
theorem q1631 : (Jvm.Cond.instanceMethod ({ cls := "PegBandsModel", name := "feed", desc := "(IIIII)I" } : Jvm.MethodName)) ∈ lw_all := lw_g (lw_at lw_m7 84 rfl) rfl
theorem q1632 : (Jvm.Cond.selects "PegBandsModel" ({ cls := "PegBandsModel", name := "feed", desc := "(IIIII)I" } : Jvm.MethodName) ({ cls := "PegBandsModel", name := "feed", desc := "(IIIII)I" } : Jvm.MethodName)) ∈ lw_all := lw_g (lw_at lw_m7 85 rfl) rfl
theorem q1633 : (Jvm.Cond.code ({ cls := "PegBandsModel", name := "feed", desc := "(IIIII)I" } : Jvm.MethodName) prog_18_method_5_code (6 : Nat) (Option.some Jvm.ClassFile.FieldType.int)) ∈ lw_all := lw_g (lw_at lw_m7 86 rfl) rfl
theorem q1634 : (Jvm.Cond.methodLink "PegBandsModel" (101 : Nat) ({ cls := "PegBandsModel", name := "come", desc := "(I)V" } : Jvm.MethodName)) ∈ lw_all := lw_g (lw_at lw_m7 87 rfl) rfl
theorem q1635 : (Jvm.Cond.privateMethod ({ cls := "PegBandsModel", name := "come", desc := "(I)V" } : Jvm.MethodName)) ∈ lw_tbl := lw_at lw_m7 88 rfl
theorem q1636 : (Jvm.Cond.instanceMethod ({ cls := "PegBandsModel", name := "come", desc := "(I)V" } : Jvm.MethodName)) ∈ lw_all := lw_g (lw_at lw_m7 89 rfl) rfl
theorem q1637 : (Jvm.Cond.code ({ cls := "PegBandsModel", name := "come", desc := "(I)V" } : Jvm.MethodName) prog_18_method_4_code (3 : Nat) (Option.none : Option Jvm.ClassFile.FieldType)) ∈ lw_all := lw_g (lw_at lw_m7 90 rfl) rfl
theorem q1638 : (Jvm.Cond.methodLink "PegBandsLaw" (28 : Nat) ({ cls := "PegBandsModel", name := "end", desc := "(I)Z" } : Jvm.MethodName)) ∈ lw_all := lw_g (lw_at lw_m7 91 rfl) rfl
theorem q1639 : (Jvm.Cond.instanceMethod ({ cls := "PegBandsModel", name := "end", desc := "(I)Z" } : Jvm.MethodName)) ∈ lw_all := lw_g (lw_at lw_m7 92 rfl) rfl
theorem q1640 : (Jvm.Cond.selects "PegBandsModel" ({ cls := "PegBandsModel", name := "end", desc := "(I)Z" } : Jvm.MethodName) ({ cls := "PegBandsModel", name := "end", desc := "(I)Z" } : Jvm.MethodName)) ∈ lw_all := lw_g (lw_at lw_m7 93 rfl) rfl
theorem q1641 : (Jvm.Cond.code ({ cls := "PegBandsModel", name := "end", desc := "(I)Z" } : Jvm.MethodName) prog_18_method_6_code (2 : Nat) (Option.some Jvm.ClassFile.FieldType.boolean)) ∈ lw_all := lw_g (lw_at lw_m7 94 rfl) rfl
theorem q1642 : (Jvm.Cond.methodLink "PegBandsLaw" (33 : Nat) ({ cls := "PegBandsModel", name := "board", desc := "()I" } : Jvm.MethodName)) ∈ lw_all := lw_g (lw_at lw_m7 95 rfl) rfl
theorem q1643 : (Jvm.Cond.instanceMethod ({ cls := "PegBandsModel", name := "board", desc := "()I" } : Jvm.MethodName)) ∈ lw_all := lw_g (lw_at lw_m7 96 rfl) rfl
theorem q1644 : (Jvm.Cond.selects "PegBandsModel" ({ cls := "PegBandsModel", name := "board", desc := "()I" } : Jvm.MethodName) ({ cls := "PegBandsModel", name := "board", desc := "()I" } : Jvm.MethodName)) ∈ lw_all := lw_g (lw_at lw_m7 97 rfl) rfl
theorem q1645 : (Jvm.Cond.code ({ cls := "PegBandsModel", name := "board", desc := "()I" } : Jvm.MethodName) prog_18_method_46_code (3 : Nat) (Option.some Jvm.ClassFile.FieldType.int)) ∈ lw_all := lw_g (lw_at lw_m7 98 rfl) rfl
theorem q1646 : (Jvm.Cond.methodLink "PegBandsModel" (258 : Nat) ({ cls := "PegBandsModel", name := "begin", desc := "(I)V" } : Jvm.MethodName)) ∈ lw_all := lw_g (lw_at lw_m7 99 rfl) rfl
theorem q1647 : (Jvm.Cond.privateMethod ({ cls := "PegBandsModel", name := "begin", desc := "(I)V" } : Jvm.MethodName)) ∈ lw_tbl := lw_at lw_m7 100 rfl
theorem q1648 : (Jvm.Cond.instanceMethod ({ cls := "PegBandsModel", name := "begin", desc := "(I)V" } : Jvm.MethodName)) ∈ lw_all := lw_g (lw_at lw_m7 101 rfl) rfl
theorem q1649 : (Jvm.Cond.code ({ cls := "PegBandsModel", name := "begin", desc := "(I)V" } : Jvm.MethodName) prog_18_method_27_code (2 : Nat) (Option.none : Option Jvm.ClassFile.FieldType)) ∈ lw_all := lw_g (lw_at lw_m7 102 rfl) rfl
theorem q1650 : (Jvm.Cond.methodLink "PegBandsModel" (185 : Nat) ({ cls := "PegBandsModel", name := "take", desc := "()I" } : Jvm.MethodName)) ∈ lw_all := lw_g (lw_at lw_m7 103 rfl) rfl
theorem q1651 : (Jvm.Cond.privateMethod ({ cls := "PegBandsModel", name := "take", desc := "()I" } : Jvm.MethodName)) ∈ lw_tbl := lw_at lw_m7 104 rfl
theorem q1652 : (Jvm.Cond.instanceMethod ({ cls := "PegBandsModel", name := "take", desc := "()I" } : Jvm.MethodName)) ∈ lw_all := lw_g (lw_at lw_m7 105 rfl) rfl
theorem q1653 : (Jvm.Cond.code ({ cls := "PegBandsModel", name := "take", desc := "()I" } : Jvm.MethodName) prog_18_method_7_code (2 : Nat) (Option.some Jvm.ClassFile.FieldType.int)) ∈ lw_all := lw_g (lw_at lw_m7 106 rfl) rfl
theorem q1654 : (Jvm.Cond.methodLink "PegBandsModel" (179 : Nat) ({ cls := "PegBandsModel", name := "go", desc := "()V" } : Jvm.MethodName)) ∈ lw_all := lw_g (lw_at lw_m7 107 rfl) rfl
theorem q1655 : (Jvm.Cond.privateMethod ({ cls := "PegBandsModel", name := "go", desc := "()V" } : Jvm.MethodName)) ∈ lw_tbl := lw_at lw_m7 108 rfl
theorem q1656 : (Jvm.Cond.instanceMethod ({ cls := "PegBandsModel", name := "go", desc := "()V" } : Jvm.MethodName)) ∈ lw_all := lw_g (lw_at lw_m7 109 rfl) rfl
theorem q1657 : (Jvm.Cond.code ({ cls := "PegBandsModel", name := "go", desc := "()V" } : Jvm.MethodName) prog_18_method_16_code (5 : Nat) (Option.none : Option Jvm.ClassFile.FieldType)) ∈ lw_all := lw_g (lw_at lw_m7 110 rfl) rfl
theorem q1658 : (Jvm.Cond.methodLink "PegBandsModel" (123 : Nat) ({ cls := "PegBandsModel", name := "isLetter", desc := "(I)Z" } : Jvm.MethodName)) ∈ lw_all := lw_g (lw_at lw_m7 111 rfl) rfl
theorem q1659 : (Jvm.Cond.static ({ cls := "PegBandsModel", name := "isLetter", desc := "(I)Z" } : Jvm.MethodName)) ∈ lw_all := lw_g (lw_at lw_m7 112 rfl) rfl
theorem q1660 : (Jvm.Cond.code ({ cls := "PegBandsModel", name := "isLetter", desc := "(I)Z" } : Jvm.MethodName) prog_18_method_15_code (1 : Nat) (Option.some Jvm.ClassFile.FieldType.boolean)) ∈ lw_all := lw_g (lw_at lw_m7 113 rfl) rfl
theorem q1661 : (Jvm.Cond.methodLink "PegBandsModel" (127 : Nat) ({ cls := "PegBandsModel", name := "isDigit", desc := "(I)Z" } : Jvm.MethodName)) ∈ lw_all := lw_g (lw_at lw_m7 114 rfl) rfl
theorem q1662 : (Jvm.Cond.static ({ cls := "PegBandsModel", name := "isDigit", desc := "(I)Z" } : Jvm.MethodName)) ∈ lw_all := lw_g (lw_at lw_m7 115 rfl) rfl
theorem q1663 : (Jvm.Cond.code ({ cls := "PegBandsModel", name := "isDigit", desc := "(I)Z" } : Jvm.MethodName) prog_18_method_14_code (1 : Nat) (Option.some Jvm.ClassFile.FieldType.boolean)) ∈ lw_all := lw_g (lw_at lw_m7 116 rfl) rfl
theorem q1664 : (Jvm.Cond.methodLink "PegBandsModel" (140 : Nat) ({ cls := "PegBandsModel", name := "tapeAt", desc := "(I)I" } : Jvm.MethodName)) ∈ lw_all := lw_g (lw_at lw_m7 117 rfl) rfl
theorem q1665 : (Jvm.Cond.privateMethod ({ cls := "PegBandsModel", name := "tapeAt", desc := "(I)I" } : Jvm.MethodName)) ∈ lw_tbl := lw_at lw_m7 118 rfl
theorem q1666 : (Jvm.Cond.instanceMethod ({ cls := "PegBandsModel", name := "tapeAt", desc := "(I)I" } : Jvm.MethodName)) ∈ lw_all := lw_g (lw_at lw_m7 119 rfl) rfl
theorem q1667 : (Jvm.Cond.code ({ cls := "PegBandsModel", name := "tapeAt", desc := "(I)I" } : Jvm.MethodName) prog_18_method_13_code (2 : Nat) (Option.some Jvm.ClassFile.FieldType.int)) ∈ lw_all := lw_g (lw_at lw_m7 120 rfl) rfl
theorem q1668 : (Jvm.Cond.constantLong "PegBandsModel" (143 : Nat) (27 : Int64)) ∈ lw_all := lw_g (lw_at lw_m7 121 rfl) rfl
theorem q1669 : (Jvm.Cond.constantLong "PegBandsModel" (145 : Nat) (96 : Int64)) ∈ lw_all := lw_g (lw_at lw_m7 122 rfl) rfl
theorem q1670 : (Jvm.Cond.methodLink "PegBandsModel" (261 : Nat) ({ cls := "PegBandsModel", name := "readHead", desc := "()Z" } : Jvm.MethodName)) ∈ lw_all := lw_g (lw_at lw_m7 123 rfl) rfl
theorem q1671 : (Jvm.Cond.privateMethod ({ cls := "PegBandsModel", name := "readHead", desc := "()Z" } : Jvm.MethodName)) ∈ lw_tbl := lw_at lw_m7 124 rfl
theorem q1672 : (Jvm.Cond.instanceMethod ({ cls := "PegBandsModel", name := "readHead", desc := "()Z" } : Jvm.MethodName)) ∈ lw_all := lw_g (lw_at lw_m7 125 rfl) rfl
theorem q1673 : (Jvm.Cond.code ({ cls := "PegBandsModel", name := "readHead", desc := "()Z" } : Jvm.MethodName) prog_18_method_45_code (1 : Nat) (Option.some Jvm.ClassFile.FieldType.boolean)) ∈ lw_all := lw_g (lw_at lw_m7 126 rfl) rfl
theorem q1674 : (Jvm.Cond.methodLink "PegBandsModel" (252 : Nat) ({ cls := "PegBandsModel", name := "isWord", desc := "(I)Z" } : Jvm.MethodName)) ∈ lw_all := lw_g (lw_at lw_m7 127 rfl) rfl
theorem q1675 : (Jvm.Cond.privateMethod ({ cls := "PegBandsModel", name := "isWord", desc := "(I)Z" } : Jvm.MethodName)) ∈ lw_tbl := lw_at lw_m7 128 rfl
theorem q1676 : (Jvm.Cond.instanceMethod ({ cls := "PegBandsModel", name := "isWord", desc := "(I)Z" } : Jvm.MethodName)) ∈ lw_all := lw_g (lw_at lw_m7 129 rfl) rfl
theorem q1677 : (Jvm.Cond.code ({ cls := "PegBandsModel", name := "isWord", desc := "(I)Z" } : Jvm.MethodName) prog_18_method_20_code (2 : Nat) (Option.some Jvm.ClassFile.FieldType.boolean)) ∈ lw_all := lw_g (lw_at lw_m7 130 rfl) rfl
theorem q1678 : (Jvm.Cond.methodLink "PegBandsModel" (155 : Nat) ({ cls := "PegBandsModel", name := "wordOf", desc := "(I)J" } : Jvm.MethodName)) ∈ lw_all := lw_g (lw_at lw_m7 131 rfl) rfl
theorem q1679 : (Jvm.Cond.static ({ cls := "PegBandsModel", name := "wordOf", desc := "(I)J" } : Jvm.MethodName)) ∈ lw_all := lw_g (lw_at lw_m7 132 rfl) rfl
theorem q1680 : (Jvm.Cond.code ({ cls := "PegBandsModel", name := "wordOf", desc := "(I)J" } : Jvm.MethodName) prog_18_method_19_code (1 : Nat) (Option.some Jvm.ClassFile.FieldType.long)) ∈ lw_all := lw_g (lw_at lw_m7 133 rfl) rfl
theorem q1681 : (Jvm.Cond.methodLink "PegBandsModel" (147 : Nat) ({ cls := "PegBandsModel", name := "spelt", desc := "(IIII)J" } : Jvm.MethodName)) ∈ lw_all := lw_g (lw_at lw_m7 134 rfl) rfl
theorem q1682 : (Jvm.Cond.static ({ cls := "PegBandsModel", name := "spelt", desc := "(IIII)J" } : Jvm.MethodName)) ∈ lw_all := lw_g (lw_at lw_m7 135 rfl) rfl
theorem q1683 : (Jvm.Cond.code ({ cls := "PegBandsModel", name := "spelt", desc := "(IIII)J" } : Jvm.MethodName) prog_18_method_17_code (6 : Nat) (Option.some Jvm.ClassFile.FieldType.long)) ∈ lw_all := lw_g (lw_at lw_m7 136 rfl) rfl
theorem q1684 : (Jvm.Cond.methodLink "PegBandsModel" (151 : Nat) ({ cls := "PegBandsModel", name := "on", desc := "(JIII)J" } : Jvm.MethodName)) ∈ lw_all := lw_g (lw_at lw_m7 137 rfl) rfl
theorem q1685 : (Jvm.Cond.static ({ cls := "PegBandsModel", name := "on", desc := "(JIII)J" } : Jvm.MethodName)) ∈ lw_all := lw_g (lw_at lw_m7 138 rfl) rfl
theorem q1686 : (Jvm.Cond.code ({ cls := "PegBandsModel", name := "on", desc := "(JIII)J" } : Jvm.MethodName) prog_18_method_18_code (7 : Nat) (Option.some Jvm.ClassFile.FieldType.long)) ∈ lw_all := lw_g (lw_at lw_m7 139 rfl) rfl
theorem q1687 : (Jvm.Cond.methodLink "PegBandsModel" (165 : Nat) ({ cls := "PegBandsModel", name := "bad", desc := "(I)Z" } : Jvm.MethodName)) ∈ lw_all := lw_g (lw_at lw_m7 140 rfl) rfl
theorem q1688 : (Jvm.Cond.privateMethod ({ cls := "PegBandsModel", name := "bad", desc := "(I)Z" } : Jvm.MethodName)) ∈ lw_tbl := lw_at lw_m7 141 rfl
theorem q1689 : (Jvm.Cond.instanceMethod ({ cls := "PegBandsModel", name := "bad", desc := "(I)Z" } : Jvm.MethodName)) ∈ lw_all := lw_g (lw_at lw_m7 142 rfl) rfl
theorem q1690 : (Jvm.Cond.code ({ cls := "PegBandsModel", name := "bad", desc := "(I)Z" } : Jvm.MethodName) prog_18_method_23_code (2 : Nat) (Option.some Jvm.ClassFile.FieldType.boolean)) ∈ lw_all := lw_g (lw_at lw_m7 143 rfl) rfl
theorem q1691 : (Jvm.Cond.methodLink "PegBandsModel" (235 : Nat) ({ cls := "PegBandsModel", name := "readNumber", desc := "(II)Z" } : Jvm.MethodName)) ∈ lw_all := lw_g (lw_at lw_m7 144 rfl) rfl
theorem q1692 : (Jvm.Cond.privateMethod ({ cls := "PegBandsModel", name := "readNumber", desc := "(II)Z" } : Jvm.MethodName)) ∈ lw_tbl := lw_at lw_m7 145 rfl
theorem q1693 : (Jvm.Cond.instanceMethod ({ cls := "PegBandsModel", name := "readNumber", desc := "(II)Z" } : Jvm.MethodName)) ∈ lw_all := lw_g (lw_at lw_m7 146 rfl) rfl
theorem q1694 : (Jvm.Cond.code ({ cls := "PegBandsModel", name := "readNumber", desc := "(II)Z" } : Jvm.MethodName) prog_18_method_25_code (3 : Nat) (Option.some Jvm.ClassFile.FieldType.boolean)) ∈ lw_all := lw_g (lw_at lw_m7 147 rfl) rfl
theorem q1695 : (Jvm.Cond.methodLink "PegBandsModel" (175 : Nat) ({ cls := "PegBandsModel", name := "isNumber", desc := "(II)Z" } : Jvm.MethodName)) ∈ lw_all := lw_g (lw_at lw_m7 148 rfl) rfl
theorem q1696 : (Jvm.Cond.privateMethod ({ cls := "PegBandsModel", name := "isNumber", desc := "(II)Z" } : Jvm.MethodName)) ∈ lw_tbl := lw_at lw_m7 149 rfl
theorem q1697 : (Jvm.Cond.instanceMethod ({ cls := "PegBandsModel", name := "isNumber", desc := "(II)Z" } : Jvm.MethodName)) ∈ lw_all := lw_g (lw_at lw_m7 150 rfl) rfl
theorem q1698 : (Jvm.Cond.code ({ cls := "PegBandsModel", name := "isNumber", desc := "(II)Z" } : Jvm.MethodName) prog_18_method_24_code (3 : Nat) (Option.some Jvm.ClassFile.FieldType.boolean)) ∈ lw_all := lw_g (lw_at lw_m7 151 rfl) rfl
theorem q1699 : (Jvm.Cond.methodLink "PegBandsModel" (168 : Nat) ({ cls := "PegBandsModel", name := "isIn", desc := "(III)Z" } : Jvm.MethodName)) ∈ lw_all := lw_g (lw_at lw_m7 152 rfl) rfl
theorem q1700 : (Jvm.Cond.static ({ cls := "PegBandsModel", name := "isIn", desc := "(III)Z" } : Jvm.MethodName)) ∈ lw_all := lw_g (lw_at lw_m7 153 rfl) rfl
theorem q1701 : (Jvm.Cond.code ({ cls := "PegBandsModel", name := "isIn", desc := "(III)Z" } : Jvm.MethodName) prog_18_method_8_code (3 : Nat) (Option.some Jvm.ClassFile.FieldType.boolean)) ∈ lw_all := lw_g (lw_at lw_m7 154 rfl) rfl
theorem q1702 : (Jvm.Cond.methodLink "PegBandsModel" (255 : Nat) ({ cls := "PegBandsModel", name := "readEnd", desc := "()Z" } : Jvm.MethodName)) ∈ lw_all := lw_g (lw_at lw_m7 155 rfl) rfl
theorem q1703 : (Jvm.Cond.privateMethod ({ cls := "PegBandsModel", name := "readEnd", desc := "()Z" } : Jvm.MethodName)) ∈ lw_tbl := lw_at lw_m7 156 rfl
theorem q1704 : (Jvm.Cond.instanceMethod ({ cls := "PegBandsModel", name := "readEnd", desc := "()Z" } : Jvm.MethodName)) ∈ lw_all := lw_g (lw_at lw_m7 157 rfl) rfl
theorem q1705 : (Jvm.Cond.code ({ cls := "PegBandsModel", name := "readEnd", desc := "()Z" } : Jvm.MethodName) prog_18_method_26_code (1 : Nat) (Option.some Jvm.ClassFile.FieldType.boolean)) ∈ lw_all := lw_g (lw_at lw_m7 158 rfl) rfl
theorem q1706 : (Jvm.Cond.methodLink "PegBandsModel" (182 : Nat) ({ cls := "PegBandsModel", name := "isSign", desc := "(I)Z" } : Jvm.MethodName)) ∈ lw_all := lw_g (lw_at lw_m7 159 rfl) rfl
theorem q1707 : (Jvm.Cond.privateMethod ({ cls := "PegBandsModel", name := "isSign", desc := "(I)Z" } : Jvm.MethodName)) ∈ lw_tbl := lw_at lw_m7 160 rfl
theorem q1708 : (Jvm.Cond.instanceMethod ({ cls := "PegBandsModel", name := "isSign", desc := "(I)Z" } : Jvm.MethodName)) ∈ lw_all := lw_g (lw_at lw_m7 161 rfl) rfl
theorem q1709 : (Jvm.Cond.code ({ cls := "PegBandsModel", name := "isSign", desc := "(I)Z" } : Jvm.MethodName) prog_18_method_21_code (2 : Nat) (Option.some Jvm.ClassFile.FieldType.boolean)) ∈ lw_all := lw_g (lw_at lw_m7 162 rfl) rfl
theorem q1710 : (Jvm.Cond.methodLink "PegBandsModel" (264 : Nat) ({ cls := "PegBandsModel", name := "readBell", desc := "()Z" } : Jvm.MethodName)) ∈ lw_all := lw_g (lw_at lw_m7 163 rfl) rfl
theorem q1711 : (Jvm.Cond.privateMethod ({ cls := "PegBandsModel", name := "readBell", desc := "()Z" } : Jvm.MethodName)) ∈ lw_tbl := lw_at lw_m7 164 rfl
theorem q1712 : (Jvm.Cond.instanceMethod ({ cls := "PegBandsModel", name := "readBell", desc := "()Z" } : Jvm.MethodName)) ∈ lw_all := lw_g (lw_at lw_m7 165 rfl) rfl
theorem q1713 : (Jvm.Cond.code ({ cls := "PegBandsModel", name := "readBell", desc := "()Z" } : Jvm.MethodName) prog_18_method_44_code (1 : Nat) (Option.some Jvm.ClassFile.FieldType.boolean)) ∈ lw_all := lw_g (lw_at lw_m7 166 rfl) rfl
theorem q1714 : (Jvm.Cond.methodLink "PegBandsModel" (267 : Nat) ({ cls := "PegBandsModel", name := "readOut", desc := "()Z" } : Jvm.MethodName)) ∈ lw_all := lw_g (lw_at lw_m7 167 rfl) rfl
theorem q1715 : (Jvm.Cond.privateMethod ({ cls := "PegBandsModel", name := "readOut", desc := "()Z" } : Jvm.MethodName)) ∈ lw_tbl := lw_at lw_m7 168 rfl
theorem q1716 : (Jvm.Cond.instanceMethod ({ cls := "PegBandsModel", name := "readOut", desc := "()Z" } : Jvm.MethodName)) ∈ lw_all := lw_g (lw_at lw_m7 169 rfl) rfl
theorem q1717 : (Jvm.Cond.code ({ cls := "PegBandsModel", name := "readOut", desc := "()Z" } : Jvm.MethodName) prog_18_method_42_code (2 : Nat) (Option.some Jvm.ClassFile.FieldType.boolean)) ∈ lw_all := lw_g (lw_at lw_m7 170 rfl) rfl
theorem q1718 : (Jvm.Cond.methodLink "PegBandsModel" (270 : Nat) ({ cls := "PegBandsModel", name := "readBand", desc := "()Z" } : Jvm.MethodName)) ∈ lw_all := lw_g (lw_at lw_m7 171 rfl) rfl
theorem q1719 : (Jvm.Cond.privateMethod ({ cls := "PegBandsModel", name := "readBand", desc := "()Z" } : Jvm.MethodName)) ∈ lw_tbl := lw_at lw_m7 172 rfl
theorem q1720 : (Jvm.Cond.instanceMethod ({ cls := "PegBandsModel", name := "readBand", desc := "()Z" } : Jvm.MethodName)) ∈ lw_all := lw_g (lw_at lw_m7 173 rfl) rfl
theorem q1721 : (Jvm.Cond.code ({ cls := "PegBandsModel", name := "readBand", desc := "()Z" } : Jvm.MethodName) prog_18_method_43_code (4 : Nat) (Option.some Jvm.ClassFile.FieldType.boolean)) ∈ lw_all := lw_g (lw_at lw_m7 174 rfl) rfl
theorem q1722 : (Jvm.Cond.methodLink "PegBandsModel" (238 : Nat) ({ cls := "PegBandsModel", name := "isName", desc := "()Z" } : Jvm.MethodName)) ∈ lw_all := lw_g (lw_at lw_m7 175 rfl) rfl
theorem q1723 : (Jvm.Cond.privateMethod ({ cls := "PegBandsModel", name := "isName", desc := "()Z" } : Jvm.MethodName)) ∈ lw_tbl := lw_at lw_m7 176 rfl
theorem q1724 : (Jvm.Cond.instanceMethod ({ cls := "PegBandsModel", name := "isName", desc := "()Z" } : Jvm.MethodName)) ∈ lw_all := lw_g (lw_at lw_m7 177 rfl) rfl
theorem q1725 : (Jvm.Cond.code ({ cls := "PegBandsModel", name := "isName", desc := "()Z" } : Jvm.MethodName) prog_18_method_22_code (2 : Nat) (Option.some Jvm.ClassFile.FieldType.boolean)) ∈ lw_all := lw_g (lw_at lw_m7 178 rfl) rfl
theorem q1726 : (Jvm.Cond.methodLink "PegBandsModel" (242 : Nat) ({ cls := "PegBandsModel", name := "findIn", desc := "([JIJ)I" } : Jvm.MethodName)) ∈ lw_all := lw_g (lw_at lw_m7 179 rfl) rfl
theorem q1727 : (Jvm.Cond.static ({ cls := "PegBandsModel", name := "findIn", desc := "([JIJ)I" } : Jvm.MethodName)) ∈ lw_all := lw_g (lw_at lw_m7 180 rfl) rfl
theorem q1728 : (Jvm.Cond.code ({ cls := "PegBandsModel", name := "findIn", desc := "([JIJ)I" } : Jvm.MethodName) prog_18_method_41_code (5 : Nat) (Option.some Jvm.ClassFile.FieldType.int)) ∈ lw_all := lw_g (lw_at lw_m7 181 rfl) rfl
theorem q1729 : (Jvm.Cond.methodLink "PegBandsModel" (246 : Nat) ({ cls := "PegBandsModel", name := "wrong", desc := "([III)I" } : Jvm.MethodName)) ∈ lw_all := lw_g (lw_at lw_m7 182 rfl) rfl
theorem q1730 : (Jvm.Cond.static ({ cls := "PegBandsModel", name := "wrong", desc := "([III)I" } : Jvm.MethodName)) ∈ lw_all := lw_g (lw_at lw_m7 183 rfl) rfl
theorem q1731 : (Jvm.Cond.code ({ cls := "PegBandsModel", name := "wrong", desc := "([III)I" } : Jvm.MethodName) prog_18_method_39_code (6 : Nat) (Option.some Jvm.ClassFile.FieldType.int)) ∈ lw_all := lw_g (lw_at lw_m7 184 rfl) rfl
theorem q1732 : (Jvm.Cond.methodLink "PegBandsModel" (203 : Nat) ({ cls := "PegBandsModel", name := "cornersOf", desc := "([II)I" } : Jvm.MethodName)) ∈ lw_all := lw_g (lw_at lw_m7 185 rfl) rfl
theorem q1733 : (Jvm.Cond.static ({ cls := "PegBandsModel", name := "cornersOf", desc := "([II)I" } : Jvm.MethodName)) ∈ lw_all := lw_g (lw_at lw_m7 186 rfl) rfl
theorem q1734 : (Jvm.Cond.code ({ cls := "PegBandsModel", name := "cornersOf", desc := "([II)I" } : Jvm.MethodName) prog_18_method_28_code (2 : Nat) (Option.some Jvm.ClassFile.FieldType.int)) ∈ lw_all := lw_g (lw_at lw_m7 187 rfl) rfl
theorem q1735 : (Jvm.Cond.methodLink "PegBandsModel" (207 : Nat) ({ cls := "PegBandsModel", name := "xOf", desc := "([III)I" } : Jvm.MethodName)) ∈ lw_all := lw_g (lw_at lw_m7 188 rfl) rfl
theorem q1736 : (Jvm.Cond.static ({ cls := "PegBandsModel", name := "xOf", desc := "([III)I" } : Jvm.MethodName)) ∈ lw_all := lw_g (lw_at lw_m7 189 rfl) rfl
theorem q1737 : (Jvm.Cond.code ({ cls := "PegBandsModel", name := "xOf", desc := "([III)I" } : Jvm.MethodName) prog_18_method_29_code (3 : Nat) (Option.some Jvm.ClassFile.FieldType.int)) ∈ lw_all := lw_g (lw_at lw_m7 190 rfl) rfl
theorem q1738 : (Jvm.Cond.methodLink "PegBandsModel" (211 : Nat) ({ cls := "PegBandsModel", name := "yOf", desc := "([III)I" } : Jvm.MethodName)) ∈ lw_all := lw_g (lw_at lw_m7 191 rfl) rfl
theorem q1739 : (Jvm.Cond.static ({ cls := "PegBandsModel", name := "yOf", desc := "([III)I" } : Jvm.MethodName)) ∈ lw_all := lw_g (lw_at lw_m7 192 rfl) rfl
theorem q1740 : (Jvm.Cond.code ({ cls := "PegBandsModel", name := "yOf", desc := "([III)I" } : Jvm.MethodName) prog_18_method_30_code (3 : Nat) (Option.some Jvm.ClassFile.FieldType.int)) ∈ lw_all := lw_g (lw_at lw_m7 193 rfl) rfl
theorem q1741 : (Jvm.Cond.methodLink "PegBandsModel" (226 : Nat) ({ cls := "PegBandsModel", name := "isPeg", desc := "([III)Z" } : Jvm.MethodName)) ∈ lw_all := lw_g (lw_at lw_m7 194 rfl) rfl
theorem q1742 : (Jvm.Cond.static ({ cls := "PegBandsModel", name := "isPeg", desc := "([III)Z" } : Jvm.MethodName)) ∈ lw_all := lw_g (lw_at lw_m7 195 rfl) rfl
theorem q1743 : (Jvm.Cond.code ({ cls := "PegBandsModel", name := "isPeg", desc := "([III)Z" } : Jvm.MethodName) prog_18_method_37_code (3 : Nat) (Option.some Jvm.ClassFile.FieldType.boolean)) ∈ lw_all := lw_g (lw_at lw_m7 196 rfl) rfl
theorem q1744 : (Jvm.Cond.methodLink "PegBandsModel" (218 : Nat) ({ cls := "PegBandsModel", name := "isPlace", desc := "([III)Z" } : Jvm.MethodName)) ∈ lw_all := lw_g (lw_at lw_m7 197 rfl) rfl
theorem q1745 : (Jvm.Cond.static ({ cls := "PegBandsModel", name := "isPlace", desc := "([III)Z" } : Jvm.MethodName)) ∈ lw_all := lw_g (lw_at lw_m7 198 rfl) rfl
theorem q1746 : (Jvm.Cond.code ({ cls := "PegBandsModel", name := "isPlace", desc := "([III)Z" } : Jvm.MethodName) prog_18_method_36_code (3 : Nat) (Option.some Jvm.ClassFile.FieldType.boolean)) ∈ lw_all := lw_g (lw_at lw_m7 199 rfl) rfl
theorem q1747 : (Jvm.Cond.methodLink "PegBandsModel" (229 : Nat) ({ cls := "PegBandsModel", name := "turnAt", desc := "([III)I" } : Jvm.MethodName)) ∈ lw_all := lw_g (lw_at lw_m7 200 rfl) rfl
theorem q1748 : (Jvm.Cond.static ({ cls := "PegBandsModel", name := "turnAt", desc := "([III)I" } : Jvm.MethodName)) ∈ lw_all := lw_g (lw_at lw_m7 201 rfl) rfl
theorem q1749 : (Jvm.Cond.code ({ cls := "PegBandsModel", name := "turnAt", desc := "([III)I" } : Jvm.MethodName) prog_18_method_40_code (6 : Nat) (Option.some Jvm.ClassFile.FieldType.int)) ∈ lw_all := lw_g (lw_at lw_m7 202 rfl) rfl
theorem q1750 : (Jvm.Cond.methodLink "PegBandsModel" (192 : Nat) ({ cls := "PegBandsModel", name := "turn", desc := "(IIIIII)I" } : Jvm.MethodName)) ∈ lw_all := lw_g (lw_at lw_m7 203 rfl) rfl
theorem q1751 : (Jvm.Cond.static ({ cls := "PegBandsModel", name := "turn", desc := "(IIIIII)I" } : Jvm.MethodName)) ∈ lw_all := lw_g (lw_at lw_m7 204 rfl) rfl
theorem q1752 : (Jvm.Cond.code ({ cls := "PegBandsModel", name := "turn", desc := "(IIIIII)I" } : Jvm.MethodName) prog_18_method_31_code (6 : Nat) (Option.some Jvm.ClassFile.FieldType.int)) ∈ lw_all := lw_g (lw_at lw_m7 205 rfl) rfl
theorem q1753 : (Jvm.Cond.methodLink "PegBandsModel" (189 : Nat) ({ cls := "PegBandsModel", name := "sign", desc := "(I)I" } : Jvm.MethodName)) ∈ lw_all := lw_g (lw_at lw_m7 206 rfl) rfl
theorem q1754 : (Jvm.Cond.static ({ cls := "PegBandsModel", name := "sign", desc := "(I)I" } : Jvm.MethodName)) ∈ lw_all := lw_g (lw_at lw_m7 207 rfl) rfl
theorem q1755 : (Jvm.Cond.code ({ cls := "PegBandsModel", name := "sign", desc := "(I)I" } : Jvm.MethodName) prog_18_method_10_code (1 : Nat) (Option.some Jvm.ClassFile.FieldType.int)) ∈ lw_all := lw_g (lw_at lw_m7 208 rfl) rfl
theorem q1756 : (Jvm.Cond.methodLink "PegBandsModel" (222 : Nat) ({ cls := "PegBandsModel", name := "meetSides", desc := "([IIIII)I" } : Jvm.MethodName)) ∈ lw_all := lw_g (lw_at lw_m7 209 rfl) rfl
theorem q1757 : (Jvm.Cond.static ({ cls := "PegBandsModel", name := "meetSides", desc := "([IIIII)I" } : Jvm.MethodName)) ∈ lw_all := lw_g (lw_at lw_m7 210 rfl) rfl
theorem q1758 : (Jvm.Cond.code ({ cls := "PegBandsModel", name := "meetSides", desc := "([IIIII)I" } : Jvm.MethodName) prog_18_method_35_code (7 : Nat) (Option.some Jvm.ClassFile.FieldType.int)) ∈ lw_all := lw_g (lw_at lw_m7 211 rfl) rfl
theorem q1759 : (Jvm.Cond.methodLink "PegBandsModel" (214 : Nat) ({ cls := "PegBandsModel", name := "meet", desc := "(IIIIIIII)I" } : Jvm.MethodName)) ∈ lw_all := lw_g (lw_at lw_m7 212 rfl) rfl
theorem q1760 : (Jvm.Cond.static ({ cls := "PegBandsModel", name := "meet", desc := "(IIIIIIII)I" } : Jvm.MethodName)) ∈ lw_all := lw_g (lw_at lw_m7 213 rfl) rfl
theorem q1761 : (Jvm.Cond.code ({ cls := "PegBandsModel", name := "meet", desc := "(IIIIIIII)I" } : Jvm.MethodName) prog_18_method_34_code (9 : Nat) (Option.some Jvm.ClassFile.FieldType.int)) ∈ lw_all := lw_g (lw_at lw_m7 214 rfl) rfl
theorem q1762 : (Jvm.Cond.methodLink "PegBandsModel" (199 : Nat) ({ cls := "PegBandsModel", name := "isOnSide", desc := "(IIIIII)Z" } : Jvm.MethodName)) ∈ lw_all := lw_g (lw_at lw_m7 215 rfl) rfl
theorem q1763 : (Jvm.Cond.static ({ cls := "PegBandsModel", name := "isOnSide", desc := "(IIIIII)Z" } : Jvm.MethodName)) ∈ lw_all := lw_g (lw_at lw_m7 216 rfl) rfl
theorem q1764 : (Jvm.Cond.code ({ cls := "PegBandsModel", name := "isOnSide", desc := "(IIIIII)Z" } : Jvm.MethodName) prog_18_method_33_code (6 : Nat) (Option.some Jvm.ClassFile.FieldType.boolean)) ∈ lw_all := lw_g (lw_at lw_m7 217 rfl) rfl
theorem q1765 : (Jvm.Cond.methodLink "PegBandsModel" (196 : Nat) ({ cls := "PegBandsModel", name := "isBetween", desc := "(III)Z" } : Jvm.MethodName)) ∈ lw_all := lw_g (lw_at lw_m7 218 rfl) rfl
theorem q1766 : (Jvm.Cond.static ({ cls := "PegBandsModel", name := "isBetween", desc := "(III)Z" } : Jvm.MethodName)) ∈ lw_all := lw_g (lw_at lw_m7 219 rfl) rfl
theorem q1767 : (Jvm.Cond.code ({ cls := "PegBandsModel", name := "isBetween", desc := "(III)Z" } : Jvm.MethodName) prog_18_method_32_code (3 : Nat) (Option.some Jvm.ClassFile.FieldType.boolean)) ∈ lw_all := lw_g (lw_at lw_m7 220 rfl) rfl
theorem q1768 : (Jvm.Cond.methodLink "PegBandsModel" (232 : Nat) ({ cls := "PegBandsModel", name := "meetsOther", desc := "([III)Z" } : Jvm.MethodName)) ∈ lw_all := lw_g (lw_at lw_m7 221 rfl) rfl
theorem q1769 : (Jvm.Cond.static ({ cls := "PegBandsModel", name := "meetsOther", desc := "([III)Z" } : Jvm.MethodName)) ∈ lw_all := lw_g (lw_at lw_m7 222 rfl) rfl
theorem q1770 : (Jvm.Cond.code ({ cls := "PegBandsModel", name := "meetsOther", desc := "([III)Z" } : Jvm.MethodName) prog_18_method_38_code (5 : Nat) (Option.some Jvm.ClassFile.FieldType.boolean)) ∈ lw_all := lw_g (lw_at lw_m7 223 rfl) rfl
theorem q1771 : (Jvm.Cond.methodLink "PegBandsLaw" (37 : Nat) ({ cls := "PegBandsModel", name := "fault", desc := "()I" } : Jvm.MethodName)) ∈ lw_all := lw_g (lw_at lw_m7 224 rfl) rfl
theorem q1772 : (Jvm.Cond.instanceMethod ({ cls := "PegBandsModel", name := "fault", desc := "()I" } : Jvm.MethodName)) ∈ lw_all := lw_g (lw_at lw_m7 225 rfl) rfl
theorem q1773 : (Jvm.Cond.selects "PegBandsModel" ({ cls := "PegBandsModel", name := "fault", desc := "()I" } : Jvm.MethodName) ({ cls := "PegBandsModel", name := "fault", desc := "()I" } : Jvm.MethodName)) ∈ lw_all := lw_g (lw_at lw_m7 226 rfl) rfl
theorem q1774 : (Jvm.Cond.code ({ cls := "PegBandsModel", name := "fault", desc := "()I" } : Jvm.MethodName) prog_18_method_47_code (1 : Nat) (Option.some Jvm.ClassFile.FieldType.int)) ∈ lw_all := lw_g (lw_at lw_m7 227 rfl) rfl
theorem q1775 : (Jvm.Cond.methodLink "PegBandsLaw" (41 : Nat) ({ cls := "PegBandsModel", name := "why", desc := "()I" } : Jvm.MethodName)) ∈ lw_all := lw_g (lw_at lw_m7 228 rfl) rfl
theorem q1776 : (Jvm.Cond.instanceMethod ({ cls := "PegBandsModel", name := "why", desc := "()I" } : Jvm.MethodName)) ∈ lw_all := lw_g (lw_at lw_m7 229 rfl) rfl
theorem q1777 : (Jvm.Cond.selects "PegBandsModel" ({ cls := "PegBandsModel", name := "why", desc := "()I" } : Jvm.MethodName) ({ cls := "PegBandsModel", name := "why", desc := "()I" } : Jvm.MethodName)) ∈ lw_all := lw_g (lw_at lw_m7 230 rfl) rfl
theorem q1778 : (Jvm.Cond.code ({ cls := "PegBandsModel", name := "why", desc := "()I" } : Jvm.MethodName) prog_18_method_48_code (1 : Nat) (Option.some Jvm.ClassFile.FieldType.int)) ∈ lw_all := lw_g (lw_at lw_m7 231 rfl) rfl
theorem q1779 : (Jvm.Cond.methodLink "PegBandsLaw" (46 : Nat) ({ cls := "PegBandsModel", name := "peg", desc := "(I)I" } : Jvm.MethodName)) ∈ lw_all := lw_g (lw_at lw_m7 232 rfl) rfl
theorem q1780 : (Jvm.Cond.instanceMethod ({ cls := "PegBandsModel", name := "peg", desc := "(I)I" } : Jvm.MethodName)) ∈ lw_all := lw_g (lw_at lw_m7 233 rfl) rfl
theorem q1781 : (Jvm.Cond.selects "PegBandsModel" ({ cls := "PegBandsModel", name := "peg", desc := "(I)I" } : Jvm.MethodName) ({ cls := "PegBandsModel", name := "peg", desc := "(I)I" } : Jvm.MethodName)) ∈ lw_all := lw_g (lw_at lw_m7 234 rfl) rfl
theorem q1782 : (Jvm.Cond.code ({ cls := "PegBandsModel", name := "peg", desc := "(I)I" } : Jvm.MethodName) prog_18_method_55_code (2 : Nat) (Option.some Jvm.ClassFile.FieldType.int)) ∈ lw_all := lw_g (lw_at lw_m7 235 rfl) rfl
theorem q1783 : (Jvm.Cond.methodLink "PegBandsModel" (282 : Nat) ({ cls := "PegBandsModel", name := "isAt", desc := "(I)Z" } : Jvm.MethodName)) ∈ lw_all := lw_g (lw_at lw_m7 236 rfl) rfl
theorem q1784 : (Jvm.Cond.privateMethod ({ cls := "PegBandsModel", name := "isAt", desc := "(I)Z" } : Jvm.MethodName)) ∈ lw_tbl := lw_at lw_m7 237 rfl
theorem q1785 : (Jvm.Cond.instanceMethod ({ cls := "PegBandsModel", name := "isAt", desc := "(I)Z" } : Jvm.MethodName)) ∈ lw_all := lw_g (lw_at lw_m7 238 rfl) rfl
theorem q1786 : (Jvm.Cond.code ({ cls := "PegBandsModel", name := "isAt", desc := "(I)Z" } : Jvm.MethodName) prog_18_method_54_code (2 : Nat) (Option.some Jvm.ClassFile.FieldType.boolean)) ∈ lw_all := lw_g (lw_at lw_m7 239 rfl) rfl
theorem q1787 : (Jvm.Cond.methodLink "PegBandsLaw" (52 : Nat) ({ cls := "PegBandsModel", name := "band", desc := "(II)I" } : Jvm.MethodName)) ∈ lw_all := lw_g (lw_at lw_m8 0 rfl) rfl
theorem q1788 : (Jvm.Cond.instanceMethod ({ cls := "PegBandsModel", name := "band", desc := "(II)I" } : Jvm.MethodName)) ∈ lw_all := lw_g (lw_at lw_m8 1 rfl) rfl
theorem q1789 : (Jvm.Cond.selects "PegBandsModel" ({ cls := "PegBandsModel", name := "band", desc := "(II)I" } : Jvm.MethodName) ({ cls := "PegBandsModel", name := "band", desc := "(II)I" } : Jvm.MethodName)) ∈ lw_all := lw_g (lw_at lw_m8 2 rfl) rfl
theorem q1790 : (Jvm.Cond.code ({ cls := "PegBandsModel", name := "band", desc := "(II)I" } : Jvm.MethodName) prog_18_method_63_code (5 : Nat) (Option.some Jvm.ClassFile.FieldType.int)) ∈ lw_all := lw_g (lw_at lw_m8 3 rfl) rfl
theorem q1791 : (Jvm.Cond.methodLink "PegBandsModel" (304 : Nat) ({ cls := "PegBandsModel", name := "isBand", desc := "(I)Z" } : Jvm.MethodName)) ∈ lw_all := lw_g (lw_at lw_m8 4 rfl) rfl
theorem q1792 : (Jvm.Cond.privateMethod ({ cls := "PegBandsModel", name := "isBand", desc := "(I)Z" } : Jvm.MethodName)) ∈ lw_tbl := lw_at lw_m8 5 rfl
theorem q1793 : (Jvm.Cond.instanceMethod ({ cls := "PegBandsModel", name := "isBand", desc := "(I)Z" } : Jvm.MethodName)) ∈ lw_all := lw_g (lw_at lw_m8 6 rfl) rfl
theorem q1794 : (Jvm.Cond.code ({ cls := "PegBandsModel", name := "isBand", desc := "(I)Z" } : Jvm.MethodName) prog_18_method_50_code (2 : Nat) (Option.some Jvm.ClassFile.FieldType.boolean)) ∈ lw_all := lw_g (lw_at lw_m8 7 rfl) rfl
theorem q1795 : (Jvm.Cond.methodLink "PegBandsModel" (276 : Nat) ({ cls := "PegBandsModel", name := "bands", desc := "()I" } : Jvm.MethodName)) ∈ lw_all := lw_g (lw_at lw_m8 8 rfl) rfl
theorem q1796 : (Jvm.Cond.privateMethod ({ cls := "PegBandsModel", name := "bands", desc := "()I" } : Jvm.MethodName)) ∈ lw_tbl := lw_at lw_m8 9 rfl
theorem q1797 : (Jvm.Cond.instanceMethod ({ cls := "PegBandsModel", name := "bands", desc := "()I" } : Jvm.MethodName)) ∈ lw_all := lw_g (lw_at lw_m8 10 rfl) rfl
theorem q1798 : (Jvm.Cond.code ({ cls := "PegBandsModel", name := "bands", desc := "()I" } : Jvm.MethodName) prog_18_method_49_code (1 : Nat) (Option.some Jvm.ClassFile.FieldType.int)) ∈ lw_all := lw_g (lw_at lw_m8 11 rfl) rfl
theorem q1799 : (Jvm.Cond.methodLink "PegBandsModel" (307 : Nat) ({ cls := "PegBandsModel", name := "refuse", desc := "()I" } : Jvm.MethodName)) ∈ lw_all := lw_g (lw_at lw_m8 12 rfl) rfl
theorem q1800 : (Jvm.Cond.privateMethod ({ cls := "PegBandsModel", name := "refuse", desc := "()I" } : Jvm.MethodName)) ∈ lw_tbl := lw_at lw_m8 13 rfl
theorem q1801 : (Jvm.Cond.instanceMethod ({ cls := "PegBandsModel", name := "refuse", desc := "()I" } : Jvm.MethodName)) ∈ lw_all := lw_g (lw_at lw_m8 14 rfl) rfl
theorem q1802 : (Jvm.Cond.code ({ cls := "PegBandsModel", name := "refuse", desc := "()I" } : Jvm.MethodName) prog_18_method_3_code (1 : Nat) (Option.some Jvm.ClassFile.FieldType.int)) ∈ lw_all := lw_g (lw_at lw_m8 15 rfl) rfl
theorem q1803 : (Jvm.Cond.methodLink "PegBandsModel" (279 : Nat) ({ cls := "PegBandsModel", name := "corners", desc := "(I)I" } : Jvm.MethodName)) ∈ lw_all := lw_g (lw_at lw_m8 16 rfl) rfl
theorem q1804 : (Jvm.Cond.privateMethod ({ cls := "PegBandsModel", name := "corners", desc := "(I)I" } : Jvm.MethodName)) ∈ lw_tbl := lw_at lw_m8 17 rfl
theorem q1805 : (Jvm.Cond.instanceMethod ({ cls := "PegBandsModel", name := "corners", desc := "(I)I" } : Jvm.MethodName)) ∈ lw_all := lw_g (lw_at lw_m8 18 rfl) rfl
theorem q1806 : (Jvm.Cond.code ({ cls := "PegBandsModel", name := "corners", desc := "(I)I" } : Jvm.MethodName) prog_18_method_51_code (2 : Nat) (Option.some Jvm.ClassFile.FieldType.int)) ∈ lw_all := lw_g (lw_at lw_m8 19 rfl) rfl
theorem q1807 : (Jvm.Cond.methodLink "PegBandsModel" (298 : Nat) ({ cls := "PegBandsModel", name := "area", desc := "(I)I" } : Jvm.MethodName)) ∈ lw_all := lw_g (lw_at lw_m8 20 rfl) rfl
theorem q1808 : (Jvm.Cond.privateMethod ({ cls := "PegBandsModel", name := "area", desc := "(I)I" } : Jvm.MethodName)) ∈ lw_tbl := lw_at lw_m8 21 rfl
theorem q1809 : (Jvm.Cond.instanceMethod ({ cls := "PegBandsModel", name := "area", desc := "(I)I" } : Jvm.MethodName)) ∈ lw_all := lw_g (lw_at lw_m8 22 rfl) rfl
theorem q1810 : (Jvm.Cond.code ({ cls := "PegBandsModel", name := "area", desc := "(I)I" } : Jvm.MethodName) prog_18_method_57_code (2 : Nat) (Option.some Jvm.ClassFile.FieldType.int)) ∈ lw_all := lw_g (lw_at lw_m8 23 rfl) rfl
theorem q1811 : (Jvm.Cond.methodLink "PegBandsModel" (292 : Nat) ({ cls := "PegBandsModel", name := "signedArea", desc := "(I)I" } : Jvm.MethodName)) ∈ lw_all := lw_g (lw_at lw_m8 24 rfl) rfl
theorem q1812 : (Jvm.Cond.privateMethod ({ cls := "PegBandsModel", name := "signedArea", desc := "(I)I" } : Jvm.MethodName)) ∈ lw_tbl := lw_at lw_m8 25 rfl
theorem q1813 : (Jvm.Cond.instanceMethod ({ cls := "PegBandsModel", name := "signedArea", desc := "(I)I" } : Jvm.MethodName)) ∈ lw_all := lw_g (lw_at lw_m8 26 rfl) rfl
theorem q1814 : (Jvm.Cond.code ({ cls := "PegBandsModel", name := "signedArea", desc := "(I)I" } : Jvm.MethodName) prog_18_method_56_code (4 : Nat) (Option.some Jvm.ClassFile.FieldType.int)) ∈ lw_all := lw_g (lw_at lw_m8 27 rfl) rfl
theorem q1815 : (Jvm.Cond.methodLink "PegBandsModel" (285 : Nat) ({ cls := "PegBandsModel", name := "x", desc := "(II)I" } : Jvm.MethodName)) ∈ lw_all := lw_g (lw_at lw_m8 28 rfl) rfl
theorem q1816 : (Jvm.Cond.privateMethod ({ cls := "PegBandsModel", name := "x", desc := "(II)I" } : Jvm.MethodName)) ∈ lw_tbl := lw_at lw_m8 29 rfl
theorem q1817 : (Jvm.Cond.instanceMethod ({ cls := "PegBandsModel", name := "x", desc := "(II)I" } : Jvm.MethodName)) ∈ lw_all := lw_g (lw_at lw_m8 30 rfl) rfl
theorem q1818 : (Jvm.Cond.code ({ cls := "PegBandsModel", name := "x", desc := "(II)I" } : Jvm.MethodName) prog_18_method_52_code (3 : Nat) (Option.some Jvm.ClassFile.FieldType.int)) ∈ lw_all := lw_g (lw_at lw_m8 31 rfl) rfl
theorem q1819 : (Jvm.Cond.methodLink "PegBandsModel" (289 : Nat) ({ cls := "PegBandsModel", name := "y", desc := "(II)I" } : Jvm.MethodName)) ∈ lw_all := lw_g (lw_at lw_m8 32 rfl) rfl
theorem q1820 : (Jvm.Cond.privateMethod ({ cls := "PegBandsModel", name := "y", desc := "(II)I" } : Jvm.MethodName)) ∈ lw_tbl := lw_at lw_m8 33 rfl
theorem q1821 : (Jvm.Cond.instanceMethod ({ cls := "PegBandsModel", name := "y", desc := "(II)I" } : Jvm.MethodName)) ∈ lw_all := lw_g (lw_at lw_m8 34 rfl) rfl
theorem q1822 : (Jvm.Cond.code ({ cls := "PegBandsModel", name := "y", desc := "(II)I" } : Jvm.MethodName) prog_18_method_53_code (3 : Nat) (Option.some Jvm.ClassFile.FieldType.int)) ∈ lw_all := lw_g (lw_at lw_m8 35 rfl) rfl
theorem q1823 : (Jvm.Cond.methodLink "PegBandsModel" (105 : Nat) ({ cls := "PegBandsModel", name := "size", desc := "(I)I" } : Jvm.MethodName)) ∈ lw_all := lw_g (lw_at lw_m8 36 rfl) rfl
theorem q1824 : (Jvm.Cond.static ({ cls := "PegBandsModel", name := "size", desc := "(I)I" } : Jvm.MethodName)) ∈ lw_all := lw_g (lw_at lw_m8 37 rfl) rfl
theorem q1825 : (Jvm.Cond.code ({ cls := "PegBandsModel", name := "size", desc := "(I)I" } : Jvm.MethodName) prog_18_method_11_code (1 : Nat) (Option.some Jvm.ClassFile.FieldType.int)) ∈ lw_all := lw_g (lw_at lw_m8 38 rfl) rfl
theorem q1826 : (Jvm.Cond.methodLink "PegBandsModel" (301 : Nat) ({ cls := "PegBandsModel", name := "onMany", desc := "(I)I" } : Jvm.MethodName)) ∈ lw_all := lw_g (lw_at lw_m8 39 rfl) rfl
theorem q1827 : (Jvm.Cond.privateMethod ({ cls := "PegBandsModel", name := "onMany", desc := "(I)I" } : Jvm.MethodName)) ∈ lw_tbl := lw_at lw_m8 40 rfl
theorem q1828 : (Jvm.Cond.instanceMethod ({ cls := "PegBandsModel", name := "onMany", desc := "(I)I" } : Jvm.MethodName)) ∈ lw_all := lw_g (lw_at lw_m8 41 rfl) rfl
theorem q1829 : (Jvm.Cond.code ({ cls := "PegBandsModel", name := "onMany", desc := "(I)I" } : Jvm.MethodName) prog_18_method_58_code (4 : Nat) (Option.some Jvm.ClassFile.FieldType.int)) ∈ lw_all := lw_g (lw_at lw_m8 42 rfl) rfl
theorem q1830 : (Jvm.Cond.methodLink "PegBandsModel" (295 : Nat) ({ cls := "PegBandsModel", name := "common", desc := "(II)I" } : Jvm.MethodName)) ∈ lw_all := lw_g (lw_at lw_m8 43 rfl) rfl
theorem q1831 : (Jvm.Cond.static ({ cls := "PegBandsModel", name := "common", desc := "(II)I" } : Jvm.MethodName)) ∈ lw_all := lw_g (lw_at lw_m8 44 rfl) rfl
theorem q1832 : (Jvm.Cond.code ({ cls := "PegBandsModel", name := "common", desc := "(II)I" } : Jvm.MethodName) prog_18_method_12_code (5 : Nat) (Option.some Jvm.ClassFile.FieldType.int)) ∈ lw_all := lw_g (lw_at lw_m8 45 rfl) rfl
theorem q1833 : (Jvm.Cond.methodLink "PegBandsModel" (310 : Nat) ({ cls := "PegBandsModel", name := "within", desc := "(I)I" } : Jvm.MethodName)) ∈ lw_all := lw_g (lw_at lw_m8 46 rfl) rfl
theorem q1834 : (Jvm.Cond.privateMethod ({ cls := "PegBandsModel", name := "within", desc := "(I)I" } : Jvm.MethodName)) ∈ lw_tbl := lw_at lw_m8 47 rfl
theorem q1835 : (Jvm.Cond.instanceMethod ({ cls := "PegBandsModel", name := "within", desc := "(I)I" } : Jvm.MethodName)) ∈ lw_all := lw_g (lw_at lw_m8 48 rfl) rfl
theorem q1836 : (Jvm.Cond.code ({ cls := "PegBandsModel", name := "within", desc := "(I)I" } : Jvm.MethodName) prog_18_method_59_code (2 : Nat) (Option.some Jvm.ClassFile.FieldType.int)) ∈ lw_all := lw_g (lw_at lw_m8 49 rfl) rfl
theorem q1837 : (Jvm.Cond.methodLink "PegBandsModel" (313 : Nat) ({ cls := "PegBandsModel", name := "bent", desc := "(I)I" } : Jvm.MethodName)) ∈ lw_all := lw_g (lw_at lw_m8 50 rfl) rfl
theorem q1838 : (Jvm.Cond.privateMethod ({ cls := "PegBandsModel", name := "bent", desc := "(I)I" } : Jvm.MethodName)) ∈ lw_tbl := lw_at lw_m8 51 rfl
theorem q1839 : (Jvm.Cond.instanceMethod ({ cls := "PegBandsModel", name := "bent", desc := "(I)I" } : Jvm.MethodName)) ∈ lw_all := lw_g (lw_at lw_m8 52 rfl) rfl
theorem q1840 : (Jvm.Cond.code ({ cls := "PegBandsModel", name := "bent", desc := "(I)I" } : Jvm.MethodName) prog_18_method_60_code (5 : Nat) (Option.some Jvm.ClassFile.FieldType.int)) ∈ lw_all := lw_g (lw_at lw_m8 53 rfl) rfl
theorem q1841 : (Jvm.Cond.methodLink "PegBandsModel" (316 : Nat) ({ cls := "PegBandsModel", name := "right", desc := "(I)I" } : Jvm.MethodName)) ∈ lw_all := lw_g (lw_at lw_m8 54 rfl) rfl
theorem q1842 : (Jvm.Cond.privateMethod ({ cls := "PegBandsModel", name := "right", desc := "(I)I" } : Jvm.MethodName)) ∈ lw_tbl := lw_at lw_m8 55 rfl
theorem q1843 : (Jvm.Cond.instanceMethod ({ cls := "PegBandsModel", name := "right", desc := "(I)I" } : Jvm.MethodName)) ∈ lw_all := lw_g (lw_at lw_m8 56 rfl) rfl
theorem q1844 : (Jvm.Cond.code ({ cls := "PegBandsModel", name := "right", desc := "(I)I" } : Jvm.MethodName) prog_18_method_61_code (5 : Nat) (Option.some Jvm.ClassFile.FieldType.int)) ∈ lw_all := lw_g (lw_at lw_m8 57 rfl) rfl
theorem q1845 : (Jvm.Cond.methodLink "PegBandsModel" (319 : Nat) ({ cls := "PegBandsModel", name := "crossings", desc := "(III)I" } : Jvm.MethodName)) ∈ lw_all := lw_g (lw_at lw_m8 58 rfl) rfl
theorem q1846 : (Jvm.Cond.privateMethod ({ cls := "PegBandsModel", name := "crossings", desc := "(III)I" } : Jvm.MethodName)) ∈ lw_tbl := lw_at lw_m8 59 rfl
theorem q1847 : (Jvm.Cond.instanceMethod ({ cls := "PegBandsModel", name := "crossings", desc := "(III)I" } : Jvm.MethodName)) ∈ lw_all := lw_g (lw_at lw_m8 60 rfl) rfl
theorem q1848 : (Jvm.Cond.code ({ cls := "PegBandsModel", name := "crossings", desc := "(III)I" } : Jvm.MethodName) prog_18_method_62_code (7 : Nat) (Option.some Jvm.ClassFile.FieldType.int)) ∈ lw_all := lw_g (lw_at lw_m8 61 rfl) rfl
theorem q1849 : (Jvm.Cond.methodLink "PegBandsLaw" (59 : Nat) ({ cls := "PegBandsModel", name := "corner", desc := "(II)I" } : Jvm.MethodName)) ∈ lw_all := lw_g (lw_at lw_m8 62 rfl) rfl
theorem q1850 : (Jvm.Cond.instanceMethod ({ cls := "PegBandsModel", name := "corner", desc := "(II)I" } : Jvm.MethodName)) ∈ lw_all := lw_g (lw_at lw_m8 63 rfl) rfl
theorem q1851 : (Jvm.Cond.selects "PegBandsModel" ({ cls := "PegBandsModel", name := "corner", desc := "(II)I" } : Jvm.MethodName) ({ cls := "PegBandsModel", name := "corner", desc := "(II)I" } : Jvm.MethodName)) ∈ lw_all := lw_g (lw_at lw_m8 64 rfl) rfl
theorem q1852 : (Jvm.Cond.code ({ cls := "PegBandsModel", name := "corner", desc := "(II)I" } : Jvm.MethodName) prog_18_method_64_code (3 : Nat) (Option.some Jvm.ClassFile.FieldType.int)) ∈ lw_all := lw_g (lw_at lw_m8 65 rfl) rfl
theorem q1853 : (Jvm.Cond.methodLink "PegBandsLaw" (63 : Nat) ({ cls := "PegBandsModel", name := "side", desc := "(II)I" } : Jvm.MethodName)) ∈ lw_all := lw_g (lw_at lw_m8 66 rfl) rfl
theorem q1854 : (Jvm.Cond.instanceMethod ({ cls := "PegBandsModel", name := "side", desc := "(II)I" } : Jvm.MethodName)) ∈ lw_all := lw_g (lw_at lw_m8 67 rfl) rfl
theorem q1855 : (Jvm.Cond.selects "PegBandsModel" ({ cls := "PegBandsModel", name := "side", desc := "(II)I" } : Jvm.MethodName) ({ cls := "PegBandsModel", name := "side", desc := "(II)I" } : Jvm.MethodName)) ∈ lw_all := lw_g (lw_at lw_m8 68 rfl) rfl
theorem q1856 : (Jvm.Cond.code ({ cls := "PegBandsModel", name := "side", desc := "(II)I" } : Jvm.MethodName) prog_18_method_65_code (5 : Nat) (Option.some Jvm.ClassFile.FieldType.int)) ∈ lw_all := lw_g (lw_at lw_m8 69 rfl) rfl
theorem q1857 : (Jvm.Cond.methodLink "PegBandsLaw" (67 : Nat) ({ cls := "PegBandsModel", name := "over", desc := "(II)I" } : Jvm.MethodName)) ∈ lw_all := lw_g (lw_at lw_m8 70 rfl) rfl
theorem q1858 : (Jvm.Cond.instanceMethod ({ cls := "PegBandsModel", name := "over", desc := "(II)I" } : Jvm.MethodName)) ∈ lw_all := lw_g (lw_at lw_m8 71 rfl) rfl
theorem q1859 : (Jvm.Cond.selects "PegBandsModel" ({ cls := "PegBandsModel", name := "over", desc := "(II)I" } : Jvm.MethodName) ({ cls := "PegBandsModel", name := "over", desc := "(II)I" } : Jvm.MethodName)) ∈ lw_all := lw_g (lw_at lw_m8 72 rfl) rfl
theorem q1860 : (Jvm.Cond.code ({ cls := "PegBandsModel", name := "over", desc := "(II)I" } : Jvm.MethodName) prog_18_method_69_code (5 : Nat) (Option.some Jvm.ClassFile.FieldType.int)) ∈ lw_all := lw_g (lw_at lw_m8 73 rfl) rfl
theorem q1861 : (Jvm.Cond.methodLink "PegBandsModel" (330 : Nat) ({ cls := "PegBandsModel", name := "isWithin", desc := "(III)Z" } : Jvm.MethodName)) ∈ lw_all := lw_g (lw_at lw_m8 74 rfl) rfl
theorem q1862 : (Jvm.Cond.privateMethod ({ cls := "PegBandsModel", name := "isWithin", desc := "(III)Z" } : Jvm.MethodName)) ∈ lw_tbl := lw_at lw_m8 75 rfl
theorem q1863 : (Jvm.Cond.instanceMethod ({ cls := "PegBandsModel", name := "isWithin", desc := "(III)Z" } : Jvm.MethodName)) ∈ lw_all := lw_g (lw_at lw_m8 76 rfl) rfl
theorem q1864 : (Jvm.Cond.code ({ cls := "PegBandsModel", name := "isWithin", desc := "(III)Z" } : Jvm.MethodName) prog_18_method_68_code (4 : Nat) (Option.some Jvm.ClassFile.FieldType.boolean)) ∈ lw_all := lw_g (lw_at lw_m8 77 rfl) rfl
theorem q1865 : (Jvm.Cond.methodLink "PegBandsModel" (323 : Nat) ({ cls := "PegBandsModel", name := "isOn", desc := "(III)Z" } : Jvm.MethodName)) ∈ lw_all := lw_g (lw_at lw_m8 78 rfl) rfl
theorem q1866 : (Jvm.Cond.privateMethod ({ cls := "PegBandsModel", name := "isOn", desc := "(III)Z" } : Jvm.MethodName)) ∈ lw_tbl := lw_at lw_m8 79 rfl
theorem q1867 : (Jvm.Cond.instanceMethod ({ cls := "PegBandsModel", name := "isOn", desc := "(III)Z" } : Jvm.MethodName)) ∈ lw_all := lw_g (lw_at lw_m8 80 rfl) rfl
theorem q1868 : (Jvm.Cond.code ({ cls := "PegBandsModel", name := "isOn", desc := "(III)Z" } : Jvm.MethodName) prog_18_method_66_code (5 : Nat) (Option.some Jvm.ClassFile.FieldType.boolean)) ∈ lw_all := lw_g (lw_at lw_m8 81 rfl) rfl
theorem q1869 : (Jvm.Cond.methodLink "PegBandsModel" (326 : Nat) ({ cls := "PegBandsModel", name := "encloses", desc := "(IIII)Z" } : Jvm.MethodName)) ∈ lw_all := lw_g (lw_at lw_m8 82 rfl) rfl
theorem q1870 : (Jvm.Cond.privateMethod ({ cls := "PegBandsModel", name := "encloses", desc := "(IIII)Z" } : Jvm.MethodName)) ∈ lw_tbl := lw_at lw_m8 83 rfl
theorem q1871 : (Jvm.Cond.instanceMethod ({ cls := "PegBandsModel", name := "encloses", desc := "(IIII)Z" } : Jvm.MethodName)) ∈ lw_all := lw_g (lw_at lw_m8 84 rfl) rfl
theorem q1872 : (Jvm.Cond.code ({ cls := "PegBandsModel", name := "encloses", desc := "(IIII)Z" } : Jvm.MethodName) prog_18_method_67_code (12 : Nat) (Option.some Jvm.ClassFile.FieldType.boolean)) ∈ lw_all := lw_g (lw_at lw_m8 85 rfl) rfl
theorem q1873 : (Jvm.Cond.methodLink "PegBandsLaw" (72 : Nat) ({ cls := "PegBandsModel", name := "cross", desc := "(III)I" } : Jvm.MethodName)) ∈ lw_all := lw_g (lw_at lw_m8 86 rfl) rfl
theorem q1874 : (Jvm.Cond.instanceMethod ({ cls := "PegBandsModel", name := "cross", desc := "(III)I" } : Jvm.MethodName)) ∈ lw_all := lw_g (lw_at lw_m8 87 rfl) rfl
theorem q1875 : (Jvm.Cond.selects "PegBandsModel" ({ cls := "PegBandsModel", name := "cross", desc := "(III)I" } : Jvm.MethodName) ({ cls := "PegBandsModel", name := "cross", desc := "(III)I" } : Jvm.MethodName)) ∈ lw_all := lw_g (lw_at lw_m8 88 rfl) rfl
theorem q1876 : (Jvm.Cond.code ({ cls := "PegBandsModel", name := "cross", desc := "(III)I" } : Jvm.MethodName) prog_18_method_70_code (4 : Nat) (Option.some Jvm.ClassFile.FieldType.int)) ∈ lw_all := lw_g (lw_at lw_m8 89 rfl) rfl
theorem q1877 : (Jvm.Cond.methodLink "PegBandsLaw" (76 : Nat) ({ cls := "PegBandsModel", name := "in", desc := "(II)I" } : Jvm.MethodName)) ∈ lw_all := lw_g (lw_at lw_m8 90 rfl) rfl
theorem q1878 : (Jvm.Cond.instanceMethod ({ cls := "PegBandsModel", name := "in", desc := "(II)I" } : Jvm.MethodName)) ∈ lw_all := lw_g (lw_at lw_m8 91 rfl) rfl
theorem q1879 : (Jvm.Cond.selects "PegBandsModel" ({ cls := "PegBandsModel", name := "in", desc := "(II)I" } : Jvm.MethodName) ({ cls := "PegBandsModel", name := "in", desc := "(II)I" } : Jvm.MethodName)) ∈ lw_all := lw_g (lw_at lw_m8 92 rfl) rfl
theorem q1880 : (Jvm.Cond.code ({ cls := "PegBandsModel", name := "in", desc := "(II)I" } : Jvm.MethodName) prog_18_method_72_code (3 : Nat) (Option.some Jvm.ClassFile.FieldType.int)) ∈ lw_all := lw_g (lw_at lw_m8 93 rfl) rfl
theorem q1881 : (Jvm.Cond.methodLink "PegBandsModel" (333 : Nat) ({ cls := "PegBandsModel", name := "liesIn", desc := "(II)Z" } : Jvm.MethodName)) ∈ lw_all := lw_g (lw_at lw_m8 94 rfl) rfl
theorem q1882 : (Jvm.Cond.privateMethod ({ cls := "PegBandsModel", name := "liesIn", desc := "(II)Z" } : Jvm.MethodName)) ∈ lw_tbl := lw_at lw_m8 95 rfl
theorem q1883 : (Jvm.Cond.instanceMethod ({ cls := "PegBandsModel", name := "liesIn", desc := "(II)Z" } : Jvm.MethodName)) ∈ lw_all := lw_g (lw_at lw_m8 96 rfl) rfl
theorem q1884 : (Jvm.Cond.code ({ cls := "PegBandsModel", name := "liesIn", desc := "(II)Z" } : Jvm.MethodName) prog_18_method_71_code (3 : Nat) (Option.some Jvm.ClassFile.FieldType.boolean)) ∈ lw_all := lw_g (lw_at lw_m8 97 rfl) rfl
theorem q1885 : (Jvm.Cond.methodLink "PegBandsLaw" (112 : Nat) ({ cls := "PegBandsModel", name := "rim", desc := "(II)I" } : Jvm.MethodName)) ∈ lw_all := lw_g (lw_at lw_m8 98 rfl) rfl
theorem q1886 : (Jvm.Cond.instanceMethod ({ cls := "PegBandsModel", name := "rim", desc := "(II)I" } : Jvm.MethodName)) ∈ lw_all := lw_g (lw_at lw_m8 99 rfl) rfl
theorem q1887 : (Jvm.Cond.selects "PegBandsModel" ({ cls := "PegBandsModel", name := "rim", desc := "(II)I" } : Jvm.MethodName) ({ cls := "PegBandsModel", name := "rim", desc := "(II)I" } : Jvm.MethodName)) ∈ lw_all := lw_g (lw_at lw_m8 100 rfl) rfl
theorem q1888 : (Jvm.Cond.code ({ cls := "PegBandsModel", name := "rim", desc := "(II)I" } : Jvm.MethodName) prog_18_method_73_code (8 : Nat) (Option.some Jvm.ClassFile.FieldType.int)) ∈ lw_all := lw_g (lw_at lw_m8 101 rfl) rfl
theorem q1889 : (Jvm.Cond.methodLink "PegBandsLaw" (120 : Nat) ({ cls := "PegBandsModel", name := "wide", desc := "(I)I" } : Jvm.MethodName)) ∈ lw_all := lw_g (lw_at lw_m8 102 rfl) rfl
theorem q1890 : (Jvm.Cond.instanceMethod ({ cls := "PegBandsModel", name := "wide", desc := "(I)I" } : Jvm.MethodName)) ∈ lw_all := lw_g (lw_at lw_m8 103 rfl) rfl
theorem q1891 : (Jvm.Cond.selects "PegBandsModel" ({ cls := "PegBandsModel", name := "wide", desc := "(I)I" } : Jvm.MethodName) ({ cls := "PegBandsModel", name := "wide", desc := "(I)I" } : Jvm.MethodName)) ∈ lw_all := lw_g (lw_at lw_m8 104 rfl) rfl
theorem q1892 : (Jvm.Cond.code ({ cls := "PegBandsModel", name := "wide", desc := "(I)I" } : Jvm.MethodName) prog_18_method_74_code (7 : Nat) (Option.some Jvm.ClassFile.FieldType.int)) ∈ lw_all := lw_g (lw_at lw_m8 105 rfl) rfl
theorem q1893 : (Jvm.Cond.methodLink "PegBandsLaw" (80 : Nat) ({ cls := "PegBandsModel", name := "alike", desc := "(III)I" } : Jvm.MethodName)) ∈ lw_all := lw_g (lw_at lw_m8 106 rfl) rfl
theorem q1894 : (Jvm.Cond.instanceMethod ({ cls := "PegBandsModel", name := "alike", desc := "(III)I" } : Jvm.MethodName)) ∈ lw_all := lw_g (lw_at lw_m8 107 rfl) rfl
theorem q1895 : (Jvm.Cond.selects "PegBandsModel" ({ cls := "PegBandsModel", name := "alike", desc := "(III)I" } : Jvm.MethodName) ({ cls := "PegBandsModel", name := "alike", desc := "(III)I" } : Jvm.MethodName)) ∈ lw_all := lw_g (lw_at lw_m8 108 rfl) rfl
theorem q1896 : (Jvm.Cond.code ({ cls := "PegBandsModel", name := "alike", desc := "(III)I" } : Jvm.MethodName) prog_18_method_80_code (4 : Nat) (Option.some Jvm.ClassFile.FieldType.int)) ∈ lw_all := lw_g (lw_at lw_m8 109 rfl) rfl
theorem q1897 : (Jvm.Cond.methodLink "PegBandsModel" (352 : Nat) ({ cls := "PegBandsModel", name := "areAlike", desc := "(III)Z" } : Jvm.MethodName)) ∈ lw_all := lw_g (lw_at lw_m8 110 rfl) rfl
theorem q1898 : (Jvm.Cond.privateMethod ({ cls := "PegBandsModel", name := "areAlike", desc := "(III)Z" } : Jvm.MethodName)) ∈ lw_tbl := lw_at lw_m8 111 rfl
theorem q1899 : (Jvm.Cond.instanceMethod ({ cls := "PegBandsModel", name := "areAlike", desc := "(III)Z" } : Jvm.MethodName)) ∈ lw_all := lw_g (lw_at lw_m8 112 rfl) rfl
theorem q1900 : (Jvm.Cond.code ({ cls := "PegBandsModel", name := "areAlike", desc := "(III)Z" } : Jvm.MethodName) prog_18_method_79_code (5 : Nat) (Option.some Jvm.ClassFile.FieldType.boolean)) ∈ lw_all := lw_g (lw_at lw_m8 113 rfl) rfl
theorem q1901 : (Jvm.Cond.methodLink "PegBandsModel" (348 : Nat) ({ cls := "PegBandsModel", name := "layForm", desc := "(II)V" } : Jvm.MethodName)) ∈ lw_all := lw_g (lw_at lw_m8 114 rfl) rfl
theorem q1902 : (Jvm.Cond.privateMethod ({ cls := "PegBandsModel", name := "layForm", desc := "(II)V" } : Jvm.MethodName)) ∈ lw_tbl := lw_at lw_m8 115 rfl
theorem q1903 : (Jvm.Cond.instanceMethod ({ cls := "PegBandsModel", name := "layForm", desc := "(II)V" } : Jvm.MethodName)) ∈ lw_all := lw_g (lw_at lw_m8 116 rfl) rfl
theorem q1904 : (Jvm.Cond.code ({ cls := "PegBandsModel", name := "layForm", desc := "(II)V" } : Jvm.MethodName) prog_18_method_78_code (4 : Nat) (Option.none : Option Jvm.ClassFile.FieldType)) ∈ lw_all := lw_g (lw_at lw_m8 117 rfl) rfl
theorem q1905 : (Jvm.Cond.methodLink "PegBandsModel" (340 : Nat) ({ cls := "PegBandsModel", name := "turnBand", desc := "(IIZ)V" } : Jvm.MethodName)) ∈ lw_all := lw_g (lw_at lw_m8 118 rfl) rfl
theorem q1906 : (Jvm.Cond.privateMethod ({ cls := "PegBandsModel", name := "turnBand", desc := "(IIZ)V" } : Jvm.MethodName)) ∈ lw_tbl := lw_at lw_m8 119 rfl
theorem q1907 : (Jvm.Cond.instanceMethod ({ cls := "PegBandsModel", name := "turnBand", desc := "(IIZ)V" } : Jvm.MethodName)) ∈ lw_all := lw_g (lw_at lw_m8 120 rfl) rfl
theorem q1908 : (Jvm.Cond.code ({ cls := "PegBandsModel", name := "turnBand", desc := "(IIZ)V" } : Jvm.MethodName) prog_18_method_75_code (12 : Nat) (Option.none : Option Jvm.ClassFile.FieldType)) ∈ lw_all := lw_g (lw_at lw_m8 121 rfl) rfl
theorem q1909 : (Jvm.Cond.methodLink "PegBandsModel" (344 : Nat) ({ cls := "PegBandsModel", name := "leastRow", desc := "(IZ)V" } : Jvm.MethodName)) ∈ lw_all := lw_g (lw_at lw_m8 122 rfl) rfl
theorem q1910 : (Jvm.Cond.privateMethod ({ cls := "PegBandsModel", name := "leastRow", desc := "(IZ)V" } : Jvm.MethodName)) ∈ lw_tbl := lw_at lw_m8 123 rfl
theorem q1911 : (Jvm.Cond.instanceMethod ({ cls := "PegBandsModel", name := "leastRow", desc := "(IZ)V" } : Jvm.MethodName)) ∈ lw_all := lw_g (lw_at lw_m8 124 rfl) rfl
theorem q1912 : (Jvm.Cond.code ({ cls := "PegBandsModel", name := "leastRow", desc := "(IZ)V" } : Jvm.MethodName) prog_18_method_77_code (8 : Nat) (Option.none : Option Jvm.ClassFile.FieldType)) ∈ lw_all := lw_g (lw_at lw_m8 125 rfl) rfl
theorem q1913 : (Jvm.Cond.methodLink "PegBandsModel" (336 : Nat) ({ cls := "PegBandsModel", name := "compare", desc := "([I[II)I" } : Jvm.MethodName)) ∈ lw_all := lw_g (lw_at lw_m8 126 rfl) rfl
theorem q1914 : (Jvm.Cond.static ({ cls := "PegBandsModel", name := "compare", desc := "([I[II)I" } : Jvm.MethodName)) ∈ lw_all := lw_g (lw_at lw_m8 127 rfl) rfl
theorem q1915 : (Jvm.Cond.code ({ cls := "PegBandsModel", name := "compare", desc := "([I[II)I" } : Jvm.MethodName) prog_18_method_76_code (4 : Nat) (Option.some Jvm.ClassFile.FieldType.int)) ∈ lw_all := lw_g (lw_at lw_m8 128 rfl) rfl
theorem q1916 : (Jvm.Cond.methodLink "PegBandsLaw" (84 : Nat) ({ cls := "PegBandsModel", name := "form", desc := "(II)I" } : Jvm.MethodName)) ∈ lw_all := lw_g (lw_at lw_m8 129 rfl) rfl
theorem q1917 : (Jvm.Cond.instanceMethod ({ cls := "PegBandsModel", name := "form", desc := "(II)I" } : Jvm.MethodName)) ∈ lw_all := lw_g (lw_at lw_m8 130 rfl) rfl
theorem q1918 : (Jvm.Cond.selects "PegBandsModel" ({ cls := "PegBandsModel", name := "form", desc := "(II)I" } : Jvm.MethodName) ({ cls := "PegBandsModel", name := "form", desc := "(II)I" } : Jvm.MethodName)) ∈ lw_all := lw_g (lw_at lw_m8 131 rfl) rfl
theorem q1919 : (Jvm.Cond.code ({ cls := "PegBandsModel", name := "form", desc := "(II)I" } : Jvm.MethodName) prog_18_method_81_code (4 : Nat) (Option.some Jvm.ClassFile.FieldType.int)) ∈ lw_all := lw_g (lw_at lw_m8 132 rfl) rfl
theorem q1920 : (Jvm.Cond.methodLink "PegBandsLaw" (88 : Nat) ({ cls := "PegBandsModel", name := "formAt", desc := "(I)I" } : Jvm.MethodName)) ∈ lw_all := lw_g (lw_at lw_m8 133 rfl) rfl
theorem q1921 : (Jvm.Cond.instanceMethod ({ cls := "PegBandsModel", name := "formAt", desc := "(I)I" } : Jvm.MethodName)) ∈ lw_all := lw_g (lw_at lw_m8 134 rfl) rfl
theorem q1922 : (Jvm.Cond.selects "PegBandsModel" ({ cls := "PegBandsModel", name := "formAt", desc := "(I)I" } : Jvm.MethodName) ({ cls := "PegBandsModel", name := "formAt", desc := "(I)I" } : Jvm.MethodName)) ∈ lw_all := lw_g (lw_at lw_m8 135 rfl) rfl
theorem q1923 : (Jvm.Cond.code ({ cls := "PegBandsModel", name := "formAt", desc := "(I)I" } : Jvm.MethodName) prog_18_method_82_code (2 : Nat) (Option.some Jvm.ClassFile.FieldType.int)) ∈ lw_all := lw_g (lw_at lw_m8 136 rfl) rfl
theorem q1924 : (Jvm.Cond.methodLink "PegBandsLaw" (116 : Nat) ({ cls := "PegBandsModel", name := "even", desc := "(II)I" } : Jvm.MethodName)) ∈ lw_all := lw_g (lw_at lw_m8 137 rfl) rfl
theorem q1925 : (Jvm.Cond.instanceMethod ({ cls := "PegBandsModel", name := "even", desc := "(II)I" } : Jvm.MethodName)) ∈ lw_all := lw_g (lw_at lw_m8 138 rfl) rfl
theorem q1926 : (Jvm.Cond.selects "PegBandsModel" ({ cls := "PegBandsModel", name := "even", desc := "(II)I" } : Jvm.MethodName) ({ cls := "PegBandsModel", name := "even", desc := "(II)I" } : Jvm.MethodName)) ∈ lw_all := lw_g (lw_at lw_m8 139 rfl) rfl
theorem q1927 : (Jvm.Cond.code ({ cls := "PegBandsModel", name := "even", desc := "(II)I" } : Jvm.MethodName) prog_18_method_84_code (4 : Nat) (Option.some Jvm.ClassFile.FieldType.int)) ∈ lw_all := lw_g (lw_at lw_m8 140 rfl) rfl
theorem q1928 : (Jvm.Cond.methodLink "PegBandsModel" (358 : Nat) ({ cls := "PegBandsModel", name := "isSame", desc := "(IIZ)Z" } : Jvm.MethodName)) ∈ lw_all := lw_g (lw_at lw_m8 141 rfl) rfl
theorem q1929 : (Jvm.Cond.privateMethod ({ cls := "PegBandsModel", name := "isSame", desc := "(IIZ)Z" } : Jvm.MethodName)) ∈ lw_tbl := lw_at lw_m8 142 rfl
theorem q1930 : (Jvm.Cond.instanceMethod ({ cls := "PegBandsModel", name := "isSame", desc := "(IIZ)Z" } : Jvm.MethodName)) ∈ lw_all := lw_g (lw_at lw_m8 143 rfl) rfl
theorem q1931 : (Jvm.Cond.code ({ cls := "PegBandsModel", name := "isSame", desc := "(IIZ)Z" } : Jvm.MethodName) prog_18_method_83_code (5 : Nat) (Option.some Jvm.ClassFile.FieldType.boolean)) ∈ lw_all := lw_g (lw_at lw_m8 144 rfl) rfl
theorem q1932 : (Jvm.Cond.methodLink "PegBandsLaw" (104 : Nat) ({ cls := "PegBandsModel", name := "undo", desc := "()I" } : Jvm.MethodName)) ∈ lw_all := lw_g (lw_at lw_m8 145 rfl) rfl
theorem q1933 : (Jvm.Cond.instanceMethod ({ cls := "PegBandsModel", name := "undo", desc := "()I" } : Jvm.MethodName)) ∈ lw_all := lw_g (lw_at lw_m8 146 rfl) rfl
theorem q1934 : (Jvm.Cond.selects "PegBandsModel" ({ cls := "PegBandsModel", name := "undo", desc := "()I" } : Jvm.MethodName) ({ cls := "PegBandsModel", name := "undo", desc := "()I" } : Jvm.MethodName)) ∈ lw_all := lw_g (lw_at lw_m8 147 rfl) rfl
theorem q1935 : (Jvm.Cond.code ({ cls := "PegBandsModel", name := "undo", desc := "()I" } : Jvm.MethodName) prog_18_method_86_code (2 : Nat) (Option.some Jvm.ClassFile.FieldType.int)) ∈ lw_all := lw_g (lw_at lw_m8 148 rfl) rfl
theorem q1936 : (Jvm.Cond.methodLink "PegBandsLaw" (92 : Nat) ({ cls := "PegBandsModel", name := "move", desc := "(III)I" } : Jvm.MethodName)) ∈ lw_all := lw_g (lw_at lw_m8 149 rfl) rfl
theorem q1937 : (Jvm.Cond.instanceMethod ({ cls := "PegBandsModel", name := "move", desc := "(III)I" } : Jvm.MethodName)) ∈ lw_all := lw_g (lw_at lw_m8 150 rfl) rfl
theorem q1938 : (Jvm.Cond.selects "PegBandsModel" ({ cls := "PegBandsModel", name := "move", desc := "(III)I" } : Jvm.MethodName) ({ cls := "PegBandsModel", name := "move", desc := "(III)I" } : Jvm.MethodName)) ∈ lw_all := lw_g (lw_at lw_m8 151 rfl) rfl
theorem q1939 : (Jvm.Cond.code ({ cls := "PegBandsModel", name := "move", desc := "(III)I" } : Jvm.MethodName) prog_18_method_89_code (4 : Nat) (Option.some Jvm.ClassFile.FieldType.int)) ∈ lw_all := lw_g (lw_at lw_m8 152 rfl) rfl
theorem q1940 : (Jvm.Cond.methodLink "PegBandsModel" (365 : Nat) ({ cls := "PegBandsModel", name := "layRead", desc := "()V" } : Jvm.MethodName)) ∈ lw_all := lw_g (lw_at lw_m8 153 rfl) rfl
theorem q1941 : (Jvm.Cond.privateMethod ({ cls := "PegBandsModel", name := "layRead", desc := "()V" } : Jvm.MethodName)) ∈ lw_tbl := lw_at lw_m8 154 rfl
theorem q1942 : (Jvm.Cond.instanceMethod ({ cls := "PegBandsModel", name := "layRead", desc := "()V" } : Jvm.MethodName)) ∈ lw_all := lw_g (lw_at lw_m8 155 rfl) rfl
theorem q1943 : (Jvm.Cond.code ({ cls := "PegBandsModel", name := "layRead", desc := "()V" } : Jvm.MethodName) prog_18_method_88_code (2 : Nat) (Option.none : Option Jvm.ClassFile.FieldType)) ∈ lw_all := lw_g (lw_at lw_m8 156 rfl) rfl
theorem q1944 : (Jvm.Cond.methodLink "PegBandsModel" (368 : Nat) ({ cls := "PegBandsModel", name := "change", desc := "(I)I" } : Jvm.MethodName)) ∈ lw_all := lw_g (lw_at lw_m8 157 rfl) rfl
theorem q1945 : (Jvm.Cond.privateMethod ({ cls := "PegBandsModel", name := "change", desc := "(I)I" } : Jvm.MethodName)) ∈ lw_tbl := lw_at lw_m8 158 rfl
theorem q1946 : (Jvm.Cond.instanceMethod ({ cls := "PegBandsModel", name := "change", desc := "(I)I" } : Jvm.MethodName)) ∈ lw_all := lw_g (lw_at lw_m8 159 rfl) rfl
theorem q1947 : (Jvm.Cond.code ({ cls := "PegBandsModel", name := "change", desc := "(I)I" } : Jvm.MethodName) prog_18_method_87_code (4 : Nat) (Option.some Jvm.ClassFile.FieldType.int)) ∈ lw_all := lw_g (lw_at lw_m8 160 rfl) rfl
theorem q1948 : (Jvm.Cond.methodLink "PegBandsModel" (362 : Nat) ({ cls := "PegBandsModel", name := "snapShot", desc := "()V" } : Jvm.MethodName)) ∈ lw_all := lw_g (lw_at lw_m8 161 rfl) rfl
theorem q1949 : (Jvm.Cond.privateMethod ({ cls := "PegBandsModel", name := "snapShot", desc := "()V" } : Jvm.MethodName)) ∈ lw_tbl := lw_at lw_m8 162 rfl
theorem q1950 : (Jvm.Cond.instanceMethod ({ cls := "PegBandsModel", name := "snapShot", desc := "()V" } : Jvm.MethodName)) ∈ lw_all := lw_g (lw_at lw_m8 163 rfl) rfl
theorem q1951 : (Jvm.Cond.code ({ cls := "PegBandsModel", name := "snapShot", desc := "()V" } : Jvm.MethodName) prog_18_method_85_code (2 : Nat) (Option.none : Option Jvm.ClassFile.FieldType)) ∈ lw_all := lw_g (lw_at lw_m8 164 rfl) rfl
theorem q1952 : (Jvm.Cond.methodLink "PegBandsLaw" (96 : Nat) ({ cls := "PegBandsModel", name := "slide", desc := "(III)I" } : Jvm.MethodName)) ∈ lw_all := lw_g (lw_at lw_m8 165 rfl) rfl
theorem q1953 : (Jvm.Cond.instanceMethod ({ cls := "PegBandsModel", name := "slide", desc := "(III)I" } : Jvm.MethodName)) ∈ lw_all := lw_g (lw_at lw_m8 166 rfl) rfl
theorem q1954 : (Jvm.Cond.selects "PegBandsModel" ({ cls := "PegBandsModel", name := "slide", desc := "(III)I" } : Jvm.MethodName) ({ cls := "PegBandsModel", name := "slide", desc := "(III)I" } : Jvm.MethodName)) ∈ lw_all := lw_g (lw_at lw_m8 167 rfl) rfl
theorem q1955 : (Jvm.Cond.code ({ cls := "PegBandsModel", name := "slide", desc := "(III)I" } : Jvm.MethodName) prog_18_method_90_code (9 : Nat) (Option.some Jvm.ClassFile.FieldType.int)) ∈ lw_all := lw_g (lw_at lw_m8 168 rfl) rfl
theorem q1956 : (Jvm.Cond.methodLink "PegBandsLaw" (108 : Nat) ({ cls := "PegBandsModel", name := "free", desc := "()I" } : Jvm.MethodName)) ∈ lw_all := lw_g (lw_at lw_m8 169 rfl) rfl
theorem q1957 : (Jvm.Cond.instanceMethod ({ cls := "PegBandsModel", name := "free", desc := "()I" } : Jvm.MethodName)) ∈ lw_all := lw_g (lw_at lw_m8 170 rfl) rfl
theorem q1958 : (Jvm.Cond.selects "PegBandsModel" ({ cls := "PegBandsModel", name := "free", desc := "()I" } : Jvm.MethodName) ({ cls := "PegBandsModel", name := "free", desc := "()I" } : Jvm.MethodName)) ∈ lw_all := lw_g (lw_at lw_m8 171 rfl) rfl
theorem q1959 : (Jvm.Cond.code ({ cls := "PegBandsModel", name := "free", desc := "()I" } : Jvm.MethodName) prog_18_method_93_code (1 : Nat) (Option.some Jvm.ClassFile.FieldType.int)) ∈ lw_all := lw_g (lw_at lw_m8 172 rfl) rfl
theorem q1960 : (Jvm.Cond.methodLink "PegBandsModel" (374 : Nat) ({ cls := "PegBandsModel", name := "freeMany", desc := "()I" } : Jvm.MethodName)) ∈ lw_all := lw_g (lw_at lw_m8 173 rfl) rfl
theorem q1961 : (Jvm.Cond.privateMethod ({ cls := "PegBandsModel", name := "freeMany", desc := "()I" } : Jvm.MethodName)) ∈ lw_tbl := lw_at lw_m8 174 rfl
theorem q1962 : (Jvm.Cond.instanceMethod ({ cls := "PegBandsModel", name := "freeMany", desc := "()I" } : Jvm.MethodName)) ∈ lw_all := lw_g (lw_at lw_m8 175 rfl) rfl
theorem q1963 : (Jvm.Cond.code ({ cls := "PegBandsModel", name := "freeMany", desc := "()I" } : Jvm.MethodName) prog_18_method_92_code (3 : Nat) (Option.some Jvm.ClassFile.FieldType.int)) ∈ lw_all := lw_g (lw_at lw_m8 176 rfl) rfl
theorem q1964 : (Jvm.Cond.methodLink "PegBandsModel" (371 : Nat) ({ cls := "PegBandsModel", name := "isFree", desc := "(II)Z" } : Jvm.MethodName)) ∈ lw_all := lw_g (lw_at lw_m8 177 rfl) rfl
theorem q1965 : (Jvm.Cond.privateMethod ({ cls := "PegBandsModel", name := "isFree", desc := "(II)Z" } : Jvm.MethodName)) ∈ lw_tbl := lw_at lw_m8 178 rfl
theorem q1966 : (Jvm.Cond.instanceMethod ({ cls := "PegBandsModel", name := "isFree", desc := "(II)Z" } : Jvm.MethodName)) ∈ lw_all := lw_g (lw_at lw_m8 179 rfl) rfl
theorem q1967 : (Jvm.Cond.code ({ cls := "PegBandsModel", name := "isFree", desc := "(II)Z" } : Jvm.MethodName) prog_18_method_91_code (4 : Nat) (Option.some Jvm.ClassFile.FieldType.boolean)) ∈ lw_all := lw_g (lw_at lw_m8 180 rfl) rfl
theorem q1968 : (Jvm.Cond.methodLink "PegBandsLaw" (100 : Nat) ({ cls := "PegBandsModel", name := "snap", desc := "(I)I" } : Jvm.MethodName)) ∈ lw_all := lw_g (lw_at lw_m8 181 rfl) rfl
theorem q1969 : (Jvm.Cond.instanceMethod ({ cls := "PegBandsModel", name := "snap", desc := "(I)I" } : Jvm.MethodName)) ∈ lw_all := lw_g (lw_at lw_m8 182 rfl) rfl
theorem q1970 : (Jvm.Cond.selects "PegBandsModel" ({ cls := "PegBandsModel", name := "snap", desc := "(I)I" } : Jvm.MethodName) ({ cls := "PegBandsModel", name := "snap", desc := "(I)I" } : Jvm.MethodName)) ∈ lw_all := lw_g (lw_at lw_m8 183 rfl) rfl
theorem q1971 : (Jvm.Cond.code ({ cls := "PegBandsModel", name := "snap", desc := "(I)I" } : Jvm.MethodName) prog_18_method_94_code (5 : Nat) (Option.some Jvm.ClassFile.FieldType.int)) ∈ lw_all := lw_g (lw_at lw_m8 184 rfl) rfl
theorem q1972 : (Jvm.Cond.methodLink "PegBandsLaw" (124 : Nat) ({ cls := "PegBandsModel", name := "calls", desc := "()I" } : Jvm.MethodName)) ∈ lw_all := lw_g (lw_at lw_m8 185 rfl) rfl
theorem q1973 : (Jvm.Cond.instanceMethod ({ cls := "PegBandsModel", name := "calls", desc := "()I" } : Jvm.MethodName)) ∈ lw_all := lw_g (lw_at lw_m8 186 rfl) rfl
theorem q1974 : (Jvm.Cond.selects "PegBandsModel" ({ cls := "PegBandsModel", name := "calls", desc := "()I" } : Jvm.MethodName) ({ cls := "PegBandsModel", name := "calls", desc := "()I" } : Jvm.MethodName)) ∈ lw_all := lw_g (lw_at lw_m8 187 rfl) rfl
theorem q1975 : (Jvm.Cond.code ({ cls := "PegBandsModel", name := "calls", desc := "()I" } : Jvm.MethodName) prog_18_method_98_code (2 : Nat) (Option.some Jvm.ClassFile.FieldType.int)) ∈ lw_all := lw_g (lw_at lw_m8 188 rfl) rfl
theorem q1976 : (Jvm.Cond.methodLink "PegBandsModel" (383 : Nat) ({ cls := "PegBandsModel", name := "readAt", desc := "()Z" } : Jvm.MethodName)) ∈ lw_all := lw_g (lw_at lw_m8 189 rfl) rfl
theorem q1977 : (Jvm.Cond.privateMethod ({ cls := "PegBandsModel", name := "readAt", desc := "()Z" } : Jvm.MethodName)) ∈ lw_tbl := lw_at lw_m8 190 rfl
theorem q1978 : (Jvm.Cond.instanceMethod ({ cls := "PegBandsModel", name := "readAt", desc := "()Z" } : Jvm.MethodName)) ∈ lw_all := lw_g (lw_at lw_m8 191 rfl) rfl
theorem q1979 : (Jvm.Cond.code ({ cls := "PegBandsModel", name := "readAt", desc := "()Z" } : Jvm.MethodName) prog_18_method_97_code (1 : Nat) (Option.some Jvm.ClassFile.FieldType.boolean)) ∈ lw_all := lw_g (lw_at lw_m8 192 rfl) rfl
theorem q1980 : (Jvm.Cond.methodLink "PegBandsModel" (386 : Nat) ({ cls := "PegBandsModel", name := "readBy", desc := "()Z" } : Jvm.MethodName)) ∈ lw_all := lw_g (lw_at lw_m8 193 rfl) rfl
theorem q1981 : (Jvm.Cond.privateMethod ({ cls := "PegBandsModel", name := "readBy", desc := "()Z" } : Jvm.MethodName)) ∈ lw_tbl := lw_at lw_m8 194 rfl
theorem q1982 : (Jvm.Cond.instanceMethod ({ cls := "PegBandsModel", name := "readBy", desc := "()Z" } : Jvm.MethodName)) ∈ lw_all := lw_g (lw_at lw_m8 195 rfl) rfl
theorem q1983 : (Jvm.Cond.code ({ cls := "PegBandsModel", name := "readBy", desc := "()Z" } : Jvm.MethodName) prog_18_method_96_code (1 : Nat) (Option.some Jvm.ClassFile.FieldType.boolean)) ∈ lw_all := lw_g (lw_at lw_m8 196 rfl) rfl
theorem q1984 : (Jvm.Cond.methodLink "PegBandsModel" (380 : Nat) ({ cls := "PegBandsModel", name := "readSigned", desc := "()Z" } : Jvm.MethodName)) ∈ lw_all := lw_g (lw_at lw_m8 197 rfl) rfl
theorem q1985 : (Jvm.Cond.privateMethod ({ cls := "PegBandsModel", name := "readSigned", desc := "()Z" } : Jvm.MethodName)) ∈ lw_tbl := lw_at lw_m8 198 rfl
theorem q1986 : (Jvm.Cond.instanceMethod ({ cls := "PegBandsModel", name := "readSigned", desc := "()Z" } : Jvm.MethodName)) ∈ lw_all := lw_g (lw_at lw_m8 199 rfl) rfl
theorem q1987 : (Jvm.Cond.code ({ cls := "PegBandsModel", name := "readSigned", desc := "()Z" } : Jvm.MethodName) prog_18_method_95_code (2 : Nat) (Option.some Jvm.ClassFile.FieldType.boolean)) ∈ lw_all := lw_g (lw_at lw_m8 200 rfl) rfl
theorem q1988 : (Jvm.Cond.methodLink "PegBandsLaw" (128 : Nat) ({ cls := "PegBandsModel", name := "closes", desc := "()I" } : Jvm.MethodName)) ∈ lw_all := lw_g (lw_at lw_m8 201 rfl) rfl
theorem q1989 : (Jvm.Cond.instanceMethod ({ cls := "PegBandsModel", name := "closes", desc := "()I" } : Jvm.MethodName)) ∈ lw_all := lw_g (lw_at lw_m8 202 rfl) rfl
theorem q1990 : (Jvm.Cond.selects "PegBandsModel" ({ cls := "PegBandsModel", name := "closes", desc := "()I" } : Jvm.MethodName) ({ cls := "PegBandsModel", name := "closes", desc := "()I" } : Jvm.MethodName)) ∈ lw_all := lw_g (lw_at lw_m8 203 rfl) rfl
theorem q1991 : (Jvm.Cond.code ({ cls := "PegBandsModel", name := "closes", desc := "()I" } : Jvm.MethodName) prog_18_method_101_code (1 : Nat) (Option.some Jvm.ClassFile.FieldType.int)) ∈ lw_all := lw_g (lw_at lw_m8 204 rfl) rfl
theorem q1992 : (Jvm.Cond.methodLink "PegBandsModel" (392 : Nat) ({ cls := "PegBandsModel", name := "doClose", desc := "()Z" } : Jvm.MethodName)) ∈ lw_all := lw_g (lw_at lw_m8 205 rfl) rfl
theorem q1993 : (Jvm.Cond.privateMethod ({ cls := "PegBandsModel", name := "doClose", desc := "()Z" } : Jvm.MethodName)) ∈ lw_tbl := lw_at lw_m8 206 rfl
theorem q1994 : (Jvm.Cond.instanceMethod ({ cls := "PegBandsModel", name := "doClose", desc := "()Z" } : Jvm.MethodName)) ∈ lw_all := lw_g (lw_at lw_m8 207 rfl) rfl
theorem q1995 : (Jvm.Cond.code ({ cls := "PegBandsModel", name := "doClose", desc := "()Z" } : Jvm.MethodName) prog_18_method_100_code (1 : Nat) (Option.some Jvm.ClassFile.FieldType.boolean)) ∈ lw_all := lw_g (lw_at lw_m8 208 rfl) rfl
theorem q1996 : (Jvm.Cond.methodLink "PegBandsModel" (389 : Nat) ({ cls := "PegBandsModel", name := "sum", desc := "(I)I" } : Jvm.MethodName)) ∈ lw_all := lw_g (lw_at lw_m8 209 rfl) rfl
theorem q1997 : (Jvm.Cond.privateMethod ({ cls := "PegBandsModel", name := "sum", desc := "(I)I" } : Jvm.MethodName)) ∈ lw_tbl := lw_at lw_m8 210 rfl
theorem q1998 : (Jvm.Cond.instanceMethod ({ cls := "PegBandsModel", name := "sum", desc := "(I)I" } : Jvm.MethodName)) ∈ lw_all := lw_g (lw_at lw_m8 211 rfl) rfl
theorem q1999 : (Jvm.Cond.code ({ cls := "PegBandsModel", name := "sum", desc := "(I)I" } : Jvm.MethodName) prog_18_method_99_code (4 : Nat) (Option.some Jvm.ClassFile.FieldType.int)) ∈ lw_all := lw_g (lw_at lw_m8 212 rfl) rfl
theorem q2000 : (Jvm.Cond.methodLink "PegBandsLaw" (132 : Nat) ({ cls := "PegBandsModel", name := "mended", desc := "(I)I" } : Jvm.MethodName)) ∈ lw_all := lw_g (lw_at lw_m8 213 rfl) rfl
theorem q2001 : (Jvm.Cond.instanceMethod ({ cls := "PegBandsModel", name := "mended", desc := "(I)I" } : Jvm.MethodName)) ∈ lw_all := lw_g (lw_at lw_m8 214 rfl) rfl
theorem q2002 : (Jvm.Cond.selects "PegBandsModel" ({ cls := "PegBandsModel", name := "mended", desc := "(I)I" } : Jvm.MethodName) ({ cls := "PegBandsModel", name := "mended", desc := "(I)I" } : Jvm.MethodName)) ∈ lw_all := lw_g (lw_at lw_m8 215 rfl) rfl
theorem q2003 : (Jvm.Cond.code ({ cls := "PegBandsModel", name := "mended", desc := "(I)I" } : Jvm.MethodName) prog_18_method_103_code (6 : Nat) (Option.some Jvm.ClassFile.FieldType.int)) ∈ lw_all := lw_g (lw_at lw_m8 216 rfl) rfl
theorem q2004 : (Jvm.Cond.methodLink "PegBandsModel" (395 : Nat) ({ cls := "PegBandsModel", name := "layCalls", desc := "(IIII)V" } : Jvm.MethodName)) ∈ lw_all := lw_g (lw_at lw_m8 217 rfl) rfl
theorem q2005 : (Jvm.Cond.privateMethod ({ cls := "PegBandsModel", name := "layCalls", desc := "(IIII)V" } : Jvm.MethodName)) ∈ lw_tbl := lw_at lw_m8 218 rfl
theorem q2006 : (Jvm.Cond.instanceMethod ({ cls := "PegBandsModel", name := "layCalls", desc := "(IIII)V" } : Jvm.MethodName)) ∈ lw_all := lw_g (lw_at lw_m8 219 rfl) rfl
theorem q2007 : (Jvm.Cond.code ({ cls := "PegBandsModel", name := "layCalls", desc := "(IIII)V" } : Jvm.MethodName) prog_18_method_102_code (9 : Nat) (Option.none : Option Jvm.ClassFile.FieldType)) ∈ lw_all := lw_g (lw_at lw_m8 220 rfl) rfl
theorem q2008 : (Jvm.Cond.methodLink "PegBandsLaw" (136 : Nat) ({ cls := "PegBandsModel", name := "lay", desc := "()I" } : Jvm.MethodName)) ∈ lw_all := lw_g (lw_at lw_m8 221 rfl) rfl
theorem q2009 : (Jvm.Cond.instanceMethod ({ cls := "PegBandsModel", name := "lay", desc := "()I" } : Jvm.MethodName)) ∈ lw_all := lw_g (lw_at lw_m8 222 rfl) rfl
theorem q2010 : (Jvm.Cond.selects "PegBandsModel" ({ cls := "PegBandsModel", name := "lay", desc := "()I" } : Jvm.MethodName) ({ cls := "PegBandsModel", name := "lay", desc := "()I" } : Jvm.MethodName)) ∈ lw_all := lw_g (lw_at lw_m8 223 rfl) rfl
theorem q2011 : (Jvm.Cond.code ({ cls := "PegBandsModel", name := "lay", desc := "()I" } : Jvm.MethodName) prog_18_method_104_code (3 : Nat) (Option.some Jvm.ClassFile.FieldType.int)) ∈ lw_all := lw_g (lw_at lw_m8 224 rfl) rfl
theorem q2012 : (Jvm.Cond.methodLink "PegBandsLaw" (140 : Nat) ({ cls := "PegBandsModel", name := "write", desc := "(I)I" } : Jvm.MethodName)) ∈ lw_all := lw_g (lw_at lw_m8 225 rfl) rfl
theorem q2013 : (Jvm.Cond.instanceMethod ({ cls := "PegBandsModel", name := "write", desc := "(I)I" } : Jvm.MethodName)) ∈ lw_all := lw_g (lw_at lw_m8 226 rfl) rfl
theorem q2014 : (Jvm.Cond.selects "PegBandsModel" ({ cls := "PegBandsModel", name := "write", desc := "(I)I" } : Jvm.MethodName) ({ cls := "PegBandsModel", name := "write", desc := "(I)I" } : Jvm.MethodName)) ∈ lw_all := lw_g (lw_at lw_m8 227 rfl) rfl
theorem q2015 : (Jvm.Cond.code ({ cls := "PegBandsModel", name := "write", desc := "(I)I" } : Jvm.MethodName) prog_18_method_107_code (8 : Nat) (Option.some Jvm.ClassFile.FieldType.int)) ∈ lw_all := lw_g (lw_at lw_m8 228 rfl) rfl
theorem q2016 : (Jvm.Cond.methodLink "PegBandsModel" (402 : Nat) ({ cls := "PegBandsModel", name := "put", desc := "(I)V" } : Jvm.MethodName)) ∈ lw_all := lw_g (lw_at lw_m8 229 rfl) rfl
theorem q2017 : (Jvm.Cond.privateMethod ({ cls := "PegBandsModel", name := "put", desc := "(I)V" } : Jvm.MethodName)) ∈ lw_tbl := lw_at lw_m8 230 rfl
theorem q2018 : (Jvm.Cond.instanceMethod ({ cls := "PegBandsModel", name := "put", desc := "(I)V" } : Jvm.MethodName)) ∈ lw_all := lw_g (lw_at lw_m8 231 rfl) rfl
theorem q2019 : (Jvm.Cond.code ({ cls := "PegBandsModel", name := "put", desc := "(I)V" } : Jvm.MethodName) prog_18_method_105_code (2 : Nat) (Option.none : Option Jvm.ClassFile.FieldType)) ∈ lw_all := lw_g (lw_at lw_m8 232 rfl) rfl
theorem q2020 : (Jvm.Cond.methodLink "PegBandsModel" (405 : Nat) ({ cls := "PegBandsModel", name := "putSigned", desc := "(I)V" } : Jvm.MethodName)) ∈ lw_all := lw_g (lw_at lw_m8 233 rfl) rfl
theorem q2021 : (Jvm.Cond.privateMethod ({ cls := "PegBandsModel", name := "putSigned", desc := "(I)V" } : Jvm.MethodName)) ∈ lw_tbl := lw_at lw_m8 234 rfl
theorem q2022 : (Jvm.Cond.instanceMethod ({ cls := "PegBandsModel", name := "putSigned", desc := "(I)V" } : Jvm.MethodName)) ∈ lw_all := lw_g (lw_at lw_m8 235 rfl) rfl
theorem q2023 : (Jvm.Cond.code ({ cls := "PegBandsModel", name := "putSigned", desc := "(I)V" } : Jvm.MethodName) prog_18_method_106_code (2 : Nat) (Option.none : Option Jvm.ClassFile.FieldType)) ∈ lw_all := lw_g (lw_at lw_m8 236 rfl) rfl
theorem q2024 : (Jvm.Cond.methodLink "PegBandsLaw" (144 : Nat) ({ cls := "PegBandsModel", name := "byteAt", desc := "(I)I" } : Jvm.MethodName)) ∈ lw_all := lw_g (lw_at lw_m8 237 rfl) rfl
theorem q2025 : (Jvm.Cond.instanceMethod ({ cls := "PegBandsModel", name := "byteAt", desc := "(I)I" } : Jvm.MethodName)) ∈ lw_all := lw_g (lw_at lw_m8 238 rfl) rfl
theorem q2026 : (Jvm.Cond.selects "PegBandsModel" ({ cls := "PegBandsModel", name := "byteAt", desc := "(I)I" } : Jvm.MethodName) ({ cls := "PegBandsModel", name := "byteAt", desc := "(I)I" } : Jvm.MethodName)) ∈ lw_all := lw_g (lw_at lw_m8 239 rfl) rfl
theorem q2027 : (Jvm.Cond.code ({ cls := "PegBandsModel", name := "byteAt", desc := "(I)I" } : Jvm.MethodName) prog_18_method_108_code (2 : Nat) (Option.some Jvm.ClassFile.FieldType.int)) ∈ lw_all := lw_g (lw_at lw_m9 0 rfl) rfl
theorem q2028 : (Jvm.Cond.methodLink "PegBandsLaw" (148 : Nat) ({ cls := "PegBandsModel", name := "triangles", desc := "(III)I" } : Jvm.MethodName)) ∈ lw_all := lw_g (lw_at lw_m9 1 rfl) rfl
theorem q2029 : (Jvm.Cond.instanceMethod ({ cls := "PegBandsModel", name := "triangles", desc := "(III)I" } : Jvm.MethodName)) ∈ lw_all := lw_g (lw_at lw_m9 2 rfl) rfl
theorem q2030 : (Jvm.Cond.selects "PegBandsModel" ({ cls := "PegBandsModel", name := "triangles", desc := "(III)I" } : Jvm.MethodName) ({ cls := "PegBandsModel", name := "triangles", desc := "(III)I" } : Jvm.MethodName)) ∈ lw_all := lw_g (lw_at lw_m9 3 rfl) rfl
theorem q2031 : (Jvm.Cond.code ({ cls := "PegBandsModel", name := "triangles", desc := "(III)I" } : Jvm.MethodName) prog_18_method_110_code (4 : Nat) (Option.some Jvm.ClassFile.FieldType.int)) ∈ lw_all := lw_g (lw_at lw_m9 4 rfl) rfl
theorem q2032 : (Jvm.Cond.methodLink "PegBandsModel" (411 : Nat) ({ cls := "PegBandsModel", name := "goTriangles", desc := "(III)I" } : Jvm.MethodName)) ∈ lw_all := lw_g (lw_at lw_m9 5 rfl) rfl
theorem q2033 : (Jvm.Cond.privateMethod ({ cls := "PegBandsModel", name := "goTriangles", desc := "(III)I" } : Jvm.MethodName)) ∈ lw_tbl := lw_at lw_m9 6 rfl
theorem q2034 : (Jvm.Cond.instanceMethod ({ cls := "PegBandsModel", name := "goTriangles", desc := "(III)I" } : Jvm.MethodName)) ∈ lw_all := lw_g (lw_at lw_m9 7 rfl) rfl
theorem q2035 : (Jvm.Cond.code ({ cls := "PegBandsModel", name := "goTriangles", desc := "(III)I" } : Jvm.MethodName) prog_18_method_109_code (17 : Nat) (Option.some Jvm.ClassFile.FieldType.int)) ∈ lw_all := lw_g (lw_at lw_m9 8 rfl) rfl
theorem q2036 : (Jvm.Cond.methodLink "PegBandsLaw" (152 : Nat) ({ cls := "PegBandsModel", name := "smallest", desc := "(II)I" } : Jvm.MethodName)) ∈ lw_all := lw_g (lw_at lw_m9 9 rfl) rfl
theorem q2037 : (Jvm.Cond.instanceMethod ({ cls := "PegBandsModel", name := "smallest", desc := "(II)I" } : Jvm.MethodName)) ∈ lw_all := lw_g (lw_at lw_m9 10 rfl) rfl
theorem q2038 : (Jvm.Cond.selects "PegBandsModel" ({ cls := "PegBandsModel", name := "smallest", desc := "(II)I" } : Jvm.MethodName) ({ cls := "PegBandsModel", name := "smallest", desc := "(II)I" } : Jvm.MethodName)) ∈ lw_all := lw_g (lw_at lw_m9 11 rfl) rfl
theorem q2039 : (Jvm.Cond.code ({ cls := "PegBandsModel", name := "smallest", desc := "(II)I" } : Jvm.MethodName) prog_18_method_111_code (3 : Nat) (Option.some Jvm.ClassFile.FieldType.int)) ∈ lw_all := lw_g (lw_at lw_m9 12 rfl) rfl
theorem q2040 : (Jvm.Cond.methodLink "PegBandsLaw" (156 : Nat) ({ cls := "PegBandsModel", name := "cuts", desc := "(II)I" } : Jvm.MethodName)) ∈ lw_all := lw_g (lw_at lw_m9 13 rfl) rfl
theorem q2041 : (Jvm.Cond.instanceMethod ({ cls := "PegBandsModel", name := "cuts", desc := "(II)I" } : Jvm.MethodName)) ∈ lw_all := lw_g (lw_at lw_m9 14 rfl) rfl
theorem q2042 : (Jvm.Cond.selects "PegBandsModel" ({ cls := "PegBandsModel", name := "cuts", desc := "(II)I" } : Jvm.MethodName) ({ cls := "PegBandsModel", name := "cuts", desc := "(II)I" } : Jvm.MethodName)) ∈ lw_all := lw_g (lw_at lw_m9 15 rfl) rfl
theorem q2043 : (Jvm.Cond.code ({ cls := "PegBandsModel", name := "cuts", desc := "(II)I" } : Jvm.MethodName) prog_18_method_114_code (7 : Nat) (Option.some Jvm.ClassFile.FieldType.int)) ∈ lw_all := lw_g (lw_at lw_m9 16 rfl) rfl
theorem q2044 : (Jvm.Cond.methodLink "PegBandsModel" (414 : Nat) ({ cls := "PegBandsModel", name := "layAlong", desc := "(I)I" } : Jvm.MethodName)) ∈ lw_all := lw_g (lw_at lw_m9 17 rfl) rfl
theorem q2045 : (Jvm.Cond.privateMethod ({ cls := "PegBandsModel", name := "layAlong", desc := "(I)I" } : Jvm.MethodName)) ∈ lw_tbl := lw_at lw_m9 18 rfl
theorem q2046 : (Jvm.Cond.instanceMethod ({ cls := "PegBandsModel", name := "layAlong", desc := "(I)I" } : Jvm.MethodName)) ∈ lw_all := lw_g (lw_at lw_m9 19 rfl) rfl
theorem q2047 : (Jvm.Cond.code ({ cls := "PegBandsModel", name := "layAlong", desc := "(I)I" } : Jvm.MethodName) prog_18_method_112_code (8 : Nat) (Option.some Jvm.ClassFile.FieldType.int)) ∈ lw_all := lw_g (lw_at lw_m9 20 rfl) rfl
theorem q2048 : (Jvm.Cond.methodLink "PegBandsModel" (417 : Nat) ({ cls := "PegBandsModel", name := "isCut", desc := "(III)Z" } : Jvm.MethodName)) ∈ lw_all := lw_g (lw_at lw_m9 21 rfl) rfl
theorem q2049 : (Jvm.Cond.privateMethod ({ cls := "PegBandsModel", name := "isCut", desc := "(III)Z" } : Jvm.MethodName)) ∈ lw_tbl := lw_at lw_m9 22 rfl
theorem q2050 : (Jvm.Cond.instanceMethod ({ cls := "PegBandsModel", name := "isCut", desc := "(III)Z" } : Jvm.MethodName)) ∈ lw_all := lw_g (lw_at lw_m9 23 rfl) rfl
theorem q2051 : (Jvm.Cond.code ({ cls := "PegBandsModel", name := "isCut", desc := "(III)Z" } : Jvm.MethodName) prog_18_method_113_code (13 : Nat) (Option.some Jvm.ClassFile.FieldType.boolean)) ∈ lw_all := lw_g (lw_at lw_m9 24 rfl) rfl
theorem q2052 : (Jvm.Cond.methodLink "PegBandsLaw" (160 : Nat) ({ cls := "PegBandsModel", name := "moved", desc := "(II)I" } : Jvm.MethodName)) ∈ lw_all := lw_g (lw_at lw_m9 25 rfl) rfl
theorem q2053 : (Jvm.Cond.instanceMethod ({ cls := "PegBandsModel", name := "moved", desc := "(II)I" } : Jvm.MethodName)) ∈ lw_all := lw_g (lw_at lw_m9 26 rfl) rfl
theorem q2054 : (Jvm.Cond.selects "PegBandsModel" ({ cls := "PegBandsModel", name := "moved", desc := "(II)I" } : Jvm.MethodName) ({ cls := "PegBandsModel", name := "moved", desc := "(II)I" } : Jvm.MethodName)) ∈ lw_all := lw_g (lw_at lw_m9 27 rfl) rfl
theorem q2055 : (Jvm.Cond.code ({ cls := "PegBandsModel", name := "moved", desc := "(II)I" } : Jvm.MethodName) prog_18_method_119_code (15 : Nat) (Option.some Jvm.ClassFile.FieldType.int)) ∈ lw_all := lw_g (lw_at lw_m9 28 rfl) rfl
theorem q2056 : (Jvm.Cond.methodLink "PegBandsModel" (423 : Nat) ({ cls := "PegBandsModel", name := "stateOf", desc := "(I)I" } : Jvm.MethodName)) ∈ lw_all := lw_g (lw_at lw_m9 29 rfl) rfl
theorem q2057 : (Jvm.Cond.privateMethod ({ cls := "PegBandsModel", name := "stateOf", desc := "(I)I" } : Jvm.MethodName)) ∈ lw_tbl := lw_at lw_m9 30 rfl
theorem q2058 : (Jvm.Cond.instanceMethod ({ cls := "PegBandsModel", name := "stateOf", desc := "(I)I" } : Jvm.MethodName)) ∈ lw_all := lw_g (lw_at lw_m9 31 rfl) rfl
theorem q2059 : (Jvm.Cond.code ({ cls := "PegBandsModel", name := "stateOf", desc := "(I)I" } : Jvm.MethodName) prog_18_method_116_code (2 : Nat) (Option.some Jvm.ClassFile.FieldType.int)) ∈ lw_all := lw_g (lw_at lw_m9 32 rfl) rfl
theorem q2060 : (Jvm.Cond.methodLink "PegBandsModel" (420 : Nat) ({ cls := "PegBandsModel", name := "placeOf", desc := "(II)I" } : Jvm.MethodName)) ∈ lw_all := lw_g (lw_at lw_m9 33 rfl) rfl
theorem q2061 : (Jvm.Cond.privateMethod ({ cls := "PegBandsModel", name := "placeOf", desc := "(II)I" } : Jvm.MethodName)) ∈ lw_tbl := lw_at lw_m9 34 rfl
theorem q2062 : (Jvm.Cond.instanceMethod ({ cls := "PegBandsModel", name := "placeOf", desc := "(II)I" } : Jvm.MethodName)) ∈ lw_all := lw_g (lw_at lw_m9 35 rfl) rfl
theorem q2063 : (Jvm.Cond.code ({ cls := "PegBandsModel", name := "placeOf", desc := "(II)I" } : Jvm.MethodName) prog_18_method_115_code (3 : Nat) (Option.some Jvm.ClassFile.FieldType.int)) ∈ lw_all := lw_g (lw_at lw_m9 36 rfl) rfl
theorem q2064 : (Jvm.Cond.methodLink "PegBandsModel" (426 : Nat) ({ cls := "PegBandsModel", name := "setOf", desc := "(I)I" } : Jvm.MethodName)) ∈ lw_all := lw_g (lw_at lw_m9 37 rfl) rfl
theorem q2065 : (Jvm.Cond.static ({ cls := "PegBandsModel", name := "setOf", desc := "(I)I" } : Jvm.MethodName)) ∈ lw_all := lw_g (lw_at lw_m9 38 rfl) rfl
theorem q2066 : (Jvm.Cond.code ({ cls := "PegBandsModel", name := "setOf", desc := "(I)I" } : Jvm.MethodName) prog_18_method_117_code (6 : Nat) (Option.some Jvm.ClassFile.FieldType.int)) ∈ lw_all := lw_g (lw_at lw_m9 39 rfl) rfl
theorem q2067 : (Jvm.Cond.methodLink "PegBandsModel" (429 : Nat) ({ cls := "PegBandsModel", name := "bends", desc := "(I)Z" } : Jvm.MethodName)) ∈ lw_all := lw_g (lw_at lw_m9 40 rfl) rfl
theorem q2068 : (Jvm.Cond.privateMethod ({ cls := "PegBandsModel", name := "bends", desc := "(I)Z" } : Jvm.MethodName)) ∈ lw_tbl := lw_at lw_m9 41 rfl
theorem q2069 : (Jvm.Cond.instanceMethod ({ cls := "PegBandsModel", name := "bends", desc := "(I)Z" } : Jvm.MethodName)) ∈ lw_all := lw_g (lw_at lw_m9 42 rfl) rfl
theorem q2070 : (Jvm.Cond.code ({ cls := "PegBandsModel", name := "bends", desc := "(I)Z" } : Jvm.MethodName) prog_18_method_118_code (6 : Nat) (Option.some Jvm.ClassFile.FieldType.boolean)) ∈ lw_all := lw_g (lw_at lw_m9 43 rfl) rfl
theorem q2071 : (Jvm.Cond.methodLink "PegBandsLaw" (165 : Nat) ({ cls := "PegBandsModel", name := "line", desc := "(II)Z" } : Jvm.MethodName)) ∈ lw_all := lw_g (lw_at lw_m9 44 rfl) rfl
theorem q2072 : (Jvm.Cond.instanceMethod ({ cls := "PegBandsModel", name := "line", desc := "(II)Z" } : Jvm.MethodName)) ∈ lw_all := lw_g (lw_at lw_m9 45 rfl) rfl
theorem q2073 : (Jvm.Cond.selects "PegBandsModel" ({ cls := "PegBandsModel", name := "line", desc := "(II)Z" } : Jvm.MethodName) ({ cls := "PegBandsModel", name := "line", desc := "(II)Z" } : Jvm.MethodName)) ∈ lw_all := lw_g (lw_at lw_m9 46 rfl) rfl
theorem q2074 : (Jvm.Cond.code ({ cls := "PegBandsModel", name := "line", desc := "(II)Z" } : Jvm.MethodName) prog_18_method_124_code (3 : Nat) (Option.some Jvm.ClassFile.FieldType.boolean)) ∈ lw_all := lw_g (lw_at lw_m9 47 rfl) rfl
theorem q2075 : (Jvm.Cond.methodLink "PegBandsModel" (435 : Nat) ({ cls := "PegBandsModel", name := "isSmall", desc := "()Z" } : Jvm.MethodName)) ∈ lw_all := lw_g (lw_at lw_m9 48 rfl) rfl
theorem q2076 : (Jvm.Cond.privateMethod ({ cls := "PegBandsModel", name := "isSmall", desc := "()Z" } : Jvm.MethodName)) ∈ lw_tbl := lw_at lw_m9 49 rfl
theorem q2077 : (Jvm.Cond.instanceMethod ({ cls := "PegBandsModel", name := "isSmall", desc := "()Z" } : Jvm.MethodName)) ∈ lw_all := lw_g (lw_at lw_m9 50 rfl) rfl
theorem q2078 : (Jvm.Cond.code ({ cls := "PegBandsModel", name := "isSmall", desc := "()Z" } : Jvm.MethodName) prog_18_method_120_code (1 : Nat) (Option.some Jvm.ClassFile.FieldType.boolean)) ∈ lw_all := lw_g (lw_at lw_m9 51 rfl) rfl
theorem q2079 : (Jvm.Cond.methodLink "PegBandsModel" (438 : Nat) ({ cls := "PegBandsModel", name := "mayLay", desc := "(II)Z" } : Jvm.MethodName)) ∈ lw_all := lw_g (lw_at lw_m9 52 rfl) rfl
theorem q2080 : (Jvm.Cond.privateMethod ({ cls := "PegBandsModel", name := "mayLay", desc := "(II)Z" } : Jvm.MethodName)) ∈ lw_tbl := lw_at lw_m9 53 rfl
theorem q2081 : (Jvm.Cond.instanceMethod ({ cls := "PegBandsModel", name := "mayLay", desc := "(II)Z" } : Jvm.MethodName)) ∈ lw_all := lw_g (lw_at lw_m9 54 rfl) rfl
theorem q2082 : (Jvm.Cond.code ({ cls := "PegBandsModel", name := "mayLay", desc := "(II)Z" } : Jvm.MethodName) prog_18_method_122_code (6 : Nat) (Option.some Jvm.ClassFile.FieldType.boolean)) ∈ lw_all := lw_g (lw_at lw_m9 55 rfl) rfl
theorem q2083 : (Jvm.Cond.methodLink "PegBandsModel" (432 : Nat) ({ cls := "PegBandsModel", name := "isFreeEnd", desc := "(I)Z" } : Jvm.MethodName)) ∈ lw_all := lw_g (lw_at lw_m9 56 rfl) rfl
theorem q2084 : (Jvm.Cond.privateMethod ({ cls := "PegBandsModel", name := "isFreeEnd", desc := "(I)Z" } : Jvm.MethodName)) ∈ lw_tbl := lw_at lw_m9 57 rfl
theorem q2085 : (Jvm.Cond.instanceMethod ({ cls := "PegBandsModel", name := "isFreeEnd", desc := "(I)Z" } : Jvm.MethodName)) ∈ lw_all := lw_g (lw_at lw_m9 58 rfl) rfl
theorem q2086 : (Jvm.Cond.code ({ cls := "PegBandsModel", name := "isFreeEnd", desc := "(I)Z" } : Jvm.MethodName) prog_18_method_121_code (3 : Nat) (Option.some Jvm.ClassFile.FieldType.boolean)) ∈ lw_all := lw_g (lw_at lw_m9 59 rfl) rfl
theorem q2087 : (Jvm.Cond.methodLink "PegBandsModel" (441 : Nat) ({ cls := "PegBandsModel", name := "layLine", desc := "(II)V" } : Jvm.MethodName)) ∈ lw_all := lw_g (lw_at lw_m9 60 rfl) rfl
theorem q2088 : (Jvm.Cond.privateMethod ({ cls := "PegBandsModel", name := "layLine", desc := "(II)V" } : Jvm.MethodName)) ∈ lw_tbl := lw_at lw_m9 61 rfl
theorem q2089 : (Jvm.Cond.instanceMethod ({ cls := "PegBandsModel", name := "layLine", desc := "(II)V" } : Jvm.MethodName)) ∈ lw_all := lw_g (lw_at lw_m9 62 rfl) rfl
theorem q2090 : (Jvm.Cond.code ({ cls := "PegBandsModel", name := "layLine", desc := "(II)V" } : Jvm.MethodName) prog_18_method_123_code (3 : Nat) (Option.none : Option Jvm.ClassFile.FieldType)) ∈ lw_all := lw_g (lw_at lw_m9 63 rfl) rfl
theorem q2091 : (Jvm.Cond.methodLink "PegBandsLaw" (169 : Nat) ({ cls := "PegBandsModel", name := "lines", desc := "(I)I" } : Jvm.MethodName)) ∈ lw_all := lw_g (lw_at lw_m9 64 rfl) rfl
theorem q2092 : (Jvm.Cond.instanceMethod ({ cls := "PegBandsModel", name := "lines", desc := "(I)I" } : Jvm.MethodName)) ∈ lw_all := lw_g (lw_at lw_m9 65 rfl) rfl
theorem q2093 : (Jvm.Cond.selects "PegBandsModel" ({ cls := "PegBandsModel", name := "lines", desc := "(I)I" } : Jvm.MethodName) ({ cls := "PegBandsModel", name := "lines", desc := "(I)I" } : Jvm.MethodName)) ∈ lw_all := lw_g (lw_at lw_m9 66 rfl) rfl
theorem q2094 : (Jvm.Cond.code ({ cls := "PegBandsModel", name := "lines", desc := "(I)I" } : Jvm.MethodName) prog_18_method_125_code (5 : Nat) (Option.some Jvm.ClassFile.FieldType.int)) ∈ lw_all := lw_g (lw_at lw_m9 67 rfl) rfl
theorem q2095 : (Jvm.Cond.methodLink "PegBandsLaw" (173 : Nat) ({ cls := "PegBandsModel", name := "wins", desc := "()I" } : Jvm.MethodName)) ∈ lw_all := lw_g (lw_at lw_m9 68 rfl) rfl
theorem q2096 : (Jvm.Cond.instanceMethod ({ cls := "PegBandsModel", name := "wins", desc := "()I" } : Jvm.MethodName)) ∈ lw_all := lw_g (lw_at lw_m9 69 rfl) rfl
theorem q2097 : (Jvm.Cond.selects "PegBandsModel" ({ cls := "PegBandsModel", name := "wins", desc := "()I" } : Jvm.MethodName) ({ cls := "PegBandsModel", name := "wins", desc := "()I" } : Jvm.MethodName)) ∈ lw_all := lw_g (lw_at lw_m9 70 rfl) rfl
theorem q2098 : (Jvm.Cond.code ({ cls := "PegBandsModel", name := "wins", desc := "()I" } : Jvm.MethodName) prog_18_method_127_code (4 : Nat) (Option.some Jvm.ClassFile.FieldType.int)) ∈ lw_all := lw_g (lw_at lw_m9 71 rfl) rfl
theorem q2099 : (Jvm.Cond.methodLink "PegBandsModel" (444 : Nat) ({ cls := "PegBandsModel", name := "winning", desc := "()I" } : Jvm.MethodName)) ∈ lw_all := lw_g (lw_at lw_m9 72 rfl) rfl
theorem q2100 : (Jvm.Cond.privateMethod ({ cls := "PegBandsModel", name := "winning", desc := "()I" } : Jvm.MethodName)) ∈ lw_tbl := lw_at lw_m9 73 rfl
theorem q2101 : (Jvm.Cond.instanceMethod ({ cls := "PegBandsModel", name := "winning", desc := "()I" } : Jvm.MethodName)) ∈ lw_all := lw_g (lw_at lw_m9 74 rfl) rfl
theorem q2102 : (Jvm.Cond.code ({ cls := "PegBandsModel", name := "winning", desc := "()I" } : Jvm.MethodName) prog_18_method_126_code (4 : Nat) (Option.some Jvm.ClassFile.FieldType.int)) ∈ lw_all := lw_g (lw_at lw_m9 75 rfl) rfl
theorem q2103 : (Jvm.Cond.methodLink "PegBandsLaw" (177 : Nat) ({ cls := "PegBandsModel", name := "again", desc := "()I" } : Jvm.MethodName)) ∈ lw_all := lw_g (lw_at lw_m9 76 rfl) rfl
theorem q2104 : (Jvm.Cond.instanceMethod ({ cls := "PegBandsModel", name := "again", desc := "()I" } : Jvm.MethodName)) ∈ lw_all := lw_g (lw_at lw_m9 77 rfl) rfl
theorem q2105 : (Jvm.Cond.selects "PegBandsModel" ({ cls := "PegBandsModel", name := "again", desc := "()I" } : Jvm.MethodName) ({ cls := "PegBandsModel", name := "again", desc := "()I" } : Jvm.MethodName)) ∈ lw_all := lw_g (lw_at lw_m9 78 rfl) rfl
theorem q2106 : (Jvm.Cond.code ({ cls := "PegBandsModel", name := "again", desc := "()I" } : Jvm.MethodName) prog_18_method_128_code (2 : Nat) (Option.some Jvm.ClassFile.FieldType.int)) ∈ lw_all := lw_g (lw_at lw_m9 79 rfl) rfl
theorem q2107 : (Jvm.Cond.methodLink "PegBandsLaw" (181 : Nat) ({ cls := "PegBandsModel", name := "sentence", desc := "()I" } : Jvm.MethodName)) ∈ lw_all := lw_g (lw_at lw_m9 80 rfl) rfl
theorem q2108 : (Jvm.Cond.instanceMethod ({ cls := "PegBandsModel", name := "sentence", desc := "()I" } : Jvm.MethodName)) ∈ lw_all := lw_g (lw_at lw_m9 81 rfl) rfl
theorem q2109 : (Jvm.Cond.selects "PegBandsModel" ({ cls := "PegBandsModel", name := "sentence", desc := "()I" } : Jvm.MethodName) ({ cls := "PegBandsModel", name := "sentence", desc := "()I" } : Jvm.MethodName)) ∈ lw_all := lw_g (lw_at lw_m9 82 rfl) rfl
theorem q2110 : (Jvm.Cond.code ({ cls := "PegBandsModel", name := "sentence", desc := "()I" } : Jvm.MethodName) prog_18_method_137_code (2 : Nat) (Option.some Jvm.ClassFile.FieldType.int)) ∈ lw_all := lw_g (lw_at lw_m9 83 rfl) rfl
theorem q2111 : (Jvm.Cond.methodLink "PegBandsModel" (480 : Nat) ({ cls := "PegBandsModel", name := "readOr", desc := "()Z" } : Jvm.MethodName)) ∈ lw_all := lw_g (lw_at lw_m9 84 rfl) rfl
theorem q2112 : (Jvm.Cond.privateMethod ({ cls := "PegBandsModel", name := "readOr", desc := "()Z" } : Jvm.MethodName)) ∈ lw_tbl := lw_at lw_m9 85 rfl
theorem q2113 : (Jvm.Cond.instanceMethod ({ cls := "PegBandsModel", name := "readOr", desc := "()Z" } : Jvm.MethodName)) ∈ lw_all := lw_g (lw_at lw_m9 86 rfl) rfl
theorem q2114 : (Jvm.Cond.code ({ cls := "PegBandsModel", name := "readOr", desc := "()Z" } : Jvm.MethodName) prog_18_method_130_code (2 : Nat) (Option.some Jvm.ClassFile.FieldType.boolean)) ∈ lw_all := lw_g (lw_at lw_m9 87 rfl) rfl
theorem q2115 : (Jvm.Cond.methodLink "PegBandsModel" (450 : Nat) ({ cls := "PegBandsModel", name := "readAnd", desc := "()Z" } : Jvm.MethodName)) ∈ lw_all := lw_g (lw_at lw_m9 88 rfl) rfl
theorem q2116 : (Jvm.Cond.privateMethod ({ cls := "PegBandsModel", name := "readAnd", desc := "()Z" } : Jvm.MethodName)) ∈ lw_tbl := lw_at lw_m9 89 rfl
theorem q2117 : (Jvm.Cond.instanceMethod ({ cls := "PegBandsModel", name := "readAnd", desc := "()Z" } : Jvm.MethodName)) ∈ lw_all := lw_g (lw_at lw_m9 90 rfl) rfl
theorem q2118 : (Jvm.Cond.code ({ cls := "PegBandsModel", name := "readAnd", desc := "()Z" } : Jvm.MethodName) prog_18_method_131_code (2 : Nat) (Option.some Jvm.ClassFile.FieldType.boolean)) ∈ lw_all := lw_g (lw_at lw_m9 91 rfl) rfl
theorem q2119 : (Jvm.Cond.methodLink "PegBandsModel" (460 : Nat) ({ cls := "PegBandsModel", name := "readOne", desc := "()Z" } : Jvm.MethodName)) ∈ lw_all := lw_g (lw_at lw_m9 92 rfl) rfl
theorem q2120 : (Jvm.Cond.privateMethod ({ cls := "PegBandsModel", name := "readOne", desc := "()Z" } : Jvm.MethodName)) ∈ lw_tbl := lw_at lw_m9 93 rfl
theorem q2121 : (Jvm.Cond.instanceMethod ({ cls := "PegBandsModel", name := "readOne", desc := "()Z" } : Jvm.MethodName)) ∈ lw_all := lw_g (lw_at lw_m9 94 rfl) rfl
theorem q2122 : (Jvm.Cond.code ({ cls := "PegBandsModel", name := "readOne", desc := "()Z" } : Jvm.MethodName) prog_18_method_132_code (4 : Nat) (Option.some Jvm.ClassFile.FieldType.boolean)) ∈ lw_all := lw_g (lw_at lw_m9 95 rfl) rfl
theorem q2123 : (Jvm.Cond.methodLink "PegBandsModel" (468 : Nat) ({ cls := "PegBandsModel", name := "readBracket", desc := "()Z" } : Jvm.MethodName)) ∈ lw_all := lw_g (lw_at lw_m9 96 rfl) rfl
theorem q2124 : (Jvm.Cond.privateMethod ({ cls := "PegBandsModel", name := "readBracket", desc := "()Z" } : Jvm.MethodName)) ∈ lw_tbl := lw_at lw_m9 97 rfl
theorem q2125 : (Jvm.Cond.instanceMethod ({ cls := "PegBandsModel", name := "readBracket", desc := "()Z" } : Jvm.MethodName)) ∈ lw_all := lw_g (lw_at lw_m9 98 rfl) rfl
theorem q2126 : (Jvm.Cond.code ({ cls := "PegBandsModel", name := "readBracket", desc := "()Z" } : Jvm.MethodName) prog_18_method_134_code (1 : Nat) (Option.some Jvm.ClassFile.FieldType.boolean)) ∈ lw_all := lw_g (lw_at lw_m9 99 rfl) rfl
theorem q2127 : (Jvm.Cond.methodLink "PegBandsModel" (471 : Nat) ({ cls := "PegBandsModel", name := "readNot", desc := "()Z" } : Jvm.MethodName)) ∈ lw_all := lw_g (lw_at lw_m9 100 rfl) rfl
theorem q2128 : (Jvm.Cond.privateMethod ({ cls := "PegBandsModel", name := "readNot", desc := "()Z" } : Jvm.MethodName)) ∈ lw_tbl := lw_at lw_m9 101 rfl
theorem q2129 : (Jvm.Cond.instanceMethod ({ cls := "PegBandsModel", name := "readNot", desc := "()Z" } : Jvm.MethodName)) ∈ lw_all := lw_g (lw_at lw_m9 102 rfl) rfl
theorem q2130 : (Jvm.Cond.code ({ cls := "PegBandsModel", name := "readNot", desc := "()Z" } : Jvm.MethodName) prog_18_method_133_code (1 : Nat) (Option.some Jvm.ClassFile.FieldType.boolean)) ∈ lw_all := lw_g (lw_at lw_m9 103 rfl) rfl
theorem q2131 : (Jvm.Cond.methodLink "PegBandsModel" (456 : Nat) ({ cls := "PegBandsModel", name := "lays", desc := "(IIII)I" } : Jvm.MethodName)) ∈ lw_all := lw_g (lw_at lw_m9 104 rfl) rfl
theorem q2132 : (Jvm.Cond.privateMethod ({ cls := "PegBandsModel", name := "lays", desc := "(IIII)I" } : Jvm.MethodName)) ∈ lw_tbl := lw_at lw_m9 105 rfl
theorem q2133 : (Jvm.Cond.instanceMethod ({ cls := "PegBandsModel", name := "lays", desc := "(IIII)I" } : Jvm.MethodName)) ∈ lw_all := lw_g (lw_at lw_m9 106 rfl) rfl
theorem q2134 : (Jvm.Cond.code ({ cls := "PegBandsModel", name := "lays", desc := "(IIII)I" } : Jvm.MethodName) prog_18_method_129_code (6 : Nat) (Option.some Jvm.ClassFile.FieldType.int)) ∈ lw_all := lw_g (lw_at lw_m9 107 rfl) rfl
theorem q2135 : (Jvm.Cond.methodLink "PegBandsModel" (474 : Nat) ({ cls := "PegBandsModel", name := "readNamed", desc := "(I)Z" } : Jvm.MethodName)) ∈ lw_all := lw_g (lw_at lw_m9 108 rfl) rfl
theorem q2136 : (Jvm.Cond.privateMethod ({ cls := "PegBandsModel", name := "readNamed", desc := "(I)Z" } : Jvm.MethodName)) ∈ lw_tbl := lw_at lw_m9 109 rfl
theorem q2137 : (Jvm.Cond.instanceMethod ({ cls := "PegBandsModel", name := "readNamed", desc := "(I)Z" } : Jvm.MethodName)) ∈ lw_all := lw_g (lw_at lw_m9 110 rfl) rfl
theorem q2138 : (Jvm.Cond.code ({ cls := "PegBandsModel", name := "readNamed", desc := "(I)Z" } : Jvm.MethodName) prog_18_method_135_code (2 : Nat) (Option.some Jvm.ClassFile.FieldType.boolean)) ∈ lw_all := lw_g (lw_at lw_m9 111 rfl) rfl
theorem q2139 : (Jvm.Cond.methodLink "PegBandsModel" (477 : Nat) ({ cls := "PegBandsModel", name := "readCompare", desc := "(I)Z" } : Jvm.MethodName)) ∈ lw_all := lw_g (lw_at lw_m9 112 rfl) rfl
theorem q2140 : (Jvm.Cond.privateMethod ({ cls := "PegBandsModel", name := "readCompare", desc := "(I)Z" } : Jvm.MethodName)) ∈ lw_tbl := lw_at lw_m9 113 rfl
theorem q2141 : (Jvm.Cond.instanceMethod ({ cls := "PegBandsModel", name := "readCompare", desc := "(I)Z" } : Jvm.MethodName)) ∈ lw_all := lw_g (lw_at lw_m9 114 rfl) rfl
theorem q2142 : (Jvm.Cond.code ({ cls := "PegBandsModel", name := "readCompare", desc := "(I)Z" } : Jvm.MethodName) prog_18_method_136_code (3 : Nat) (Option.some Jvm.ClassFile.FieldType.boolean)) ∈ lw_all := lw_g (lw_at lw_m9 115 rfl) rfl
theorem q2143 : (Jvm.Cond.methodLink "PegBandsLaw" (185 : Nat) ({ cls := "PegBandsModel", name := "said", desc := "(I)I" } : Jvm.MethodName)) ∈ lw_all := lw_g (lw_at lw_m9 116 rfl) rfl
theorem q2144 : (Jvm.Cond.instanceMethod ({ cls := "PegBandsModel", name := "said", desc := "(I)I" } : Jvm.MethodName)) ∈ lw_all := lw_g (lw_at lw_m9 117 rfl) rfl
theorem q2145 : (Jvm.Cond.selects "PegBandsModel" ({ cls := "PegBandsModel", name := "said", desc := "(I)I" } : Jvm.MethodName) ({ cls := "PegBandsModel", name := "said", desc := "(I)I" } : Jvm.MethodName)) ∈ lw_all := lw_g (lw_at lw_m9 118 rfl) rfl
theorem q2146 : (Jvm.Cond.code ({ cls := "PegBandsModel", name := "said", desc := "(I)I" } : Jvm.MethodName) prog_18_method_139_code (4 : Nat) (Option.some Jvm.ClassFile.FieldType.int)) ∈ lw_all := lw_g (lw_at lw_m9 119 rfl) rfl
theorem q2147 : (Jvm.Cond.methodLink "PegBandsModel" (486 : Nat) ({ cls := "PegBandsModel", name := "holds", desc := "(II)Z" } : Jvm.MethodName)) ∈ lw_all := lw_g (lw_at lw_m9 120 rfl) rfl
theorem q2148 : (Jvm.Cond.privateMethod ({ cls := "PegBandsModel", name := "holds", desc := "(II)Z" } : Jvm.MethodName)) ∈ lw_tbl := lw_at lw_m9 121 rfl
theorem q2149 : (Jvm.Cond.instanceMethod ({ cls := "PegBandsModel", name := "holds", desc := "(II)Z" } : Jvm.MethodName)) ∈ lw_all := lw_g (lw_at lw_m9 122 rfl) rfl
theorem q2150 : (Jvm.Cond.code ({ cls := "PegBandsModel", name := "holds", desc := "(II)Z" } : Jvm.MethodName) prog_18_method_138_code (8 : Nat) (Option.some Jvm.ClassFile.FieldType.boolean)) ∈ lw_all := lw_g (lw_at lw_m9 123 rfl) rfl
theorem q2151 : (Jvm.Cond.methodLink "PegBandsLaw" (189 : Nat) ({ cls := "PegBandsModel", name := "image", desc := "(I)Z" } : Jvm.MethodName)) ∈ lw_all := lw_g (lw_at lw_m9 124 rfl) rfl
theorem q2152 : (Jvm.Cond.instanceMethod ({ cls := "PegBandsModel", name := "image", desc := "(I)Z" } : Jvm.MethodName)) ∈ lw_all := lw_g (lw_at lw_m9 125 rfl) rfl
theorem q2153 : (Jvm.Cond.selects "PegBandsModel" ({ cls := "PegBandsModel", name := "image", desc := "(I)Z" } : Jvm.MethodName) ({ cls := "PegBandsModel", name := "image", desc := "(I)Z" } : Jvm.MethodName)) ∈ lw_all := lw_g (lw_at lw_m9 126 rfl) rfl
theorem q2154 : (Jvm.Cond.code ({ cls := "PegBandsModel", name := "image", desc := "(I)Z" } : Jvm.MethodName) prog_18_method_140_code (3 : Nat) (Option.some Jvm.ClassFile.FieldType.boolean)) ∈ lw_all := lw_g (lw_at lw_m9 127 rfl) rfl
theorem q2155 : (Jvm.Cond.methodLink "PegBandsLaw" (193 : Nat) ({ cls := "PegBandsModel", name := "restore", desc := "(I)Z" } : Jvm.MethodName)) ∈ lw_all := lw_g (lw_at lw_m9 128 rfl) rfl
theorem q2156 : (Jvm.Cond.instanceMethod ({ cls := "PegBandsModel", name := "restore", desc := "(I)Z" } : Jvm.MethodName)) ∈ lw_all := lw_g (lw_at lw_m9 129 rfl) rfl
theorem q2157 : (Jvm.Cond.selects "PegBandsModel" ({ cls := "PegBandsModel", name := "restore", desc := "(I)Z" } : Jvm.MethodName) ({ cls := "PegBandsModel", name := "restore", desc := "(I)Z" } : Jvm.MethodName)) ∈ lw_all := lw_g (lw_at lw_m9 130 rfl) rfl
theorem q2158 : (Jvm.Cond.code ({ cls := "PegBandsModel", name := "restore", desc := "(I)Z" } : Jvm.MethodName) prog_18_method_141_code (3 : Nat) (Option.some Jvm.ClassFile.FieldType.boolean)) ∈ lw_all := lw_g (lw_at lw_m9 131 rfl) rfl
theorem q2159 : (Jvm.Cond.methodLink "PegBandsLaw" (197 : Nat) ({ cls := "PegBandsModel", name := "count", desc := "(I)I" } : Jvm.MethodName)) ∈ lw_all := lw_g (lw_at lw_m9 132 rfl) rfl
theorem q2160 : (Jvm.Cond.instanceMethod ({ cls := "PegBandsModel", name := "count", desc := "(I)I" } : Jvm.MethodName)) ∈ lw_all := lw_g (lw_at lw_m9 133 rfl) rfl
theorem q2161 : (Jvm.Cond.selects "PegBandsModel" ({ cls := "PegBandsModel", name := "count", desc := "(I)I" } : Jvm.MethodName) ({ cls := "PegBandsModel", name := "count", desc := "(I)I" } : Jvm.MethodName)) ∈ lw_all := lw_g (lw_at lw_m9 134 rfl) rfl
theorem q2162 : (Jvm.Cond.code ({ cls := "PegBandsModel", name := "count", desc := "(I)I" } : Jvm.MethodName) prog_18_method_142_code (2 : Nat) (Option.some Jvm.ClassFile.FieldType.int)) ∈ lw_all := lw_g (lw_at lw_m9 135 rfl) rfl
theorem q2163 : (Jvm.Cond.sameMethod "java/lang/Throwable" "java/lang/Throwable" "fillInStackTrace" "(I)Ljava/lang/Throwable;") ∈ lw_all := lw_g (lw_at lw_m9 136 rfl) rfl
theorem q2164 : (Jvm.Cond.sameMethod "PegBands$Reader" "PegBands$Reader" "peek" "()I") ∈ lw_all := lw_g (lw_at lw_m9 137 rfl) rfl
theorem q2165 : (Jvm.Cond.sameMethod "PegBands$Reader" "PegBands$Reader" "isLetter" "(I)Z") ∈ lw_all := lw_g (lw_at lw_m9 138 rfl) rfl
theorem q2166 : (Jvm.Cond.sameMethod "PegBands$Reader" "PegBands$Reader" "isDigit" "(I)Z") ∈ lw_all := lw_g (lw_at lw_m9 139 rfl) rfl
theorem q2167 : (Jvm.Cond.sameMethod "PegBands$Reader" "PegBands$Reader" "run" "(Z)V") ∈ lw_all := lw_g (lw_at lw_m9 140 rfl) rfl
theorem q2168 : (Jvm.Cond.castable "PegBands" "java/lang/Object") ∈ lw_tbl := lw_at lw_m9 141 rfl
theorem q2169 : (Jvm.Cond.castable "PegBands$Fault" "java/lang/Object") ∈ lw_tbl := lw_at lw_m9 142 rfl
theorem q2170 : (Jvm.Cond.castable "PegBands$Board" "java/lang/Object") ∈ lw_tbl := lw_at lw_m9 143 rfl
theorem q2171 : (Jvm.Cond.castable "PegBands$Calls" "java/lang/Object") ∈ lw_tbl := lw_at lw_m9 144 rfl
theorem q2172 : (Jvm.Cond.castable "PegBands$BoardReader" "java/lang/Object") ∈ lw_tbl := lw_at lw_m9 145 rfl
theorem q2173 : (Jvm.Cond.castable "PegBands$CallsReader" "java/lang/Object") ∈ lw_tbl := lw_at lw_m9 146 rfl
theorem q2174 : (Jvm.Cond.castable "PegBands$Band" "java/lang/Object") ∈ lw_tbl := lw_at lw_m9 147 rfl
theorem q2175 : (Jvm.Cond.castable "PegBands$SentenceReader" "java/lang/Object") ∈ lw_tbl := lw_at lw_m9 148 rfl
theorem q2176 : (Jvm.Cond.castable "PegBandsModel" "java/lang/Object") ∈ lw_tbl := lw_at lw_m9 149 rfl
theorem q2177 : (Jvm.Cond.castable "java/util/NoSuchElementException" "java/lang/Object") ∈ lw_tbl := lw_at lw_m9 150 rfl
theorem q2178 : (Jvm.Cond.castable "PegBands$Not" "java/lang/Object") ∈ lw_tbl := lw_at lw_m9 151 rfl
theorem q2179 : (Jvm.Cond.castable "PegBands$Counts" "java/lang/Object") ∈ lw_tbl := lw_at lw_m9 152 rfl
theorem q2180 : (Jvm.Cond.castable "PegBands$Like" "java/lang/Object") ∈ lw_tbl := lw_at lw_m9 153 rfl
theorem q2181 : (Jvm.Cond.castable "PegBands$Both" "java/lang/Object") ∈ lw_tbl := lw_at lw_m9 154 rfl
theorem q2182 : (Jvm.Cond.castable "PegBands$Any" "java/lang/Object") ∈ lw_tbl := lw_at lw_m9 155 rfl
theorem q2183 : (Jvm.Cond.castable "PegBands$Kept" "java/lang/Object") ∈ lw_tbl := lw_at lw_m9 156 rfl
theorem q2184 : (Jvm.Cond.castable "java/lang/Throwable" "java/lang/Object") ∈ lw_tbl := lw_at lw_m9 157 rfl
theorem q2185 : (Jvm.Cond.castable "java/lang/String" "java/lang/Object") ∈ lw_tbl := lw_at lw_m9 158 rfl
theorem q2186 : (Jvm.Cond.fieldLink "java/lang/String" (9 : Nat) "java/lang/String" "value" "[B") ∈ lw_all := lw_g (lw_at lw_m9 159 rfl) rfl
theorem q2187 : (Jvm.Cond.fieldLink "java/lang/String" (15 : Nat) "java/lang/String" "coder" "B") ∈ lw_all := lw_g (lw_at lw_m9 160 rfl) rfl
theorem in_X1 : ∀ w ∈ wsX10, w ∈ lw_all := lw_in wsX10 [495, 497, 499, 501, 503, 505, 507, 509, 511, 513, 515, 517, 519, 521, 523, 525, 527, 529, 531, 533, 535, 537, 539, 541, 543, 545, 547, 549, 551, 553, 555, 557, 559, 561, 563, 565, 567] (by decide +kernel) (by decide +kernel)
theorem in_X2 : ∀ w ∈ wsX20, w ∈ lw_all := lw_in wsX20 [152, 154, 156, 158, 160, 207, 199, 201] (by decide +kernel) (by decide +kernel)
theorem in_X3 : ∀ w ∈ wsX30, w ∈ lw_all := lw_in wsX30 [267, 269, 271, 273, 275, 277, 279] (by decide +kernel) (by decide +kernel)
theorem in_X4 : ∀ w ∈ wsX40, w ∈ lw_all := lw_in wsX40 [300, 302, 304, 306, 308] (by decide +kernel) (by decide +kernel)
theorem in_X6 : ∀ w ∈ wsX60, w ∈ lw_all := lw_in wsX60 [349, 351, 353, 355, 357, 359, 361, 363, 345, 347] (by decide +kernel) (by decide +kernel)
theorem in_X7 : ∀ w ∈ wsX70, w ∈ lw_all := lw_in wsX70 [375, 376, 377, 378, 379, 380, 381, 382, 373] (by decide +kernel) (by decide +kernel)
theorem in_X8 : ∀ w ∈ wsX80, w ∈ lw_all := lw_in wsX80 [407, 409, 411, 413] (by decide +kernel) (by decide +kernel)
theorem in_X9 : ∀ w ∈ wsX90, w ∈ lw_all := lw_in wsX90 [439, 440, 441, 442, 443, 444, 445, 446, 433, 435, 437] (by decide +kernel) (by decide +kernel)
theorem in_X10 : ∀ w ∈ wsX100, w ∈ lw_all := lw_in wsX100 [1522, 1524, 1526, 1528, 1530, 1532, 1534, 1536, 1538, 1540, 1542, 1544, 1546, 1548, 1550, 1552, 1554, 1556, 1558, 1560, 1562, 1564, 1566, 1568, 1570, 1572, 1574, 1576, 1578, 1580, 1582, 1584, 1586, 1588, 1590, 1592, 1594, 1596, 1598, 1600, 1602, 1604, 1606, 1608, 1610, 1612, 1614, 1616, 1618, 1620, 1622] (by decide +kernel) (by decide +kernel)
theorem in_X12 : ∀ w ∈ wsX120, w ∈ lw_all := lw_in wsX120 [1270] (by decide +kernel) (by decide +kernel)
theorem in_X13 : ∀ w ∈ wsX130, w ∈ lw_all := lw_in wsX130 [1285, 1287, 1289] (by decide +kernel) (by decide +kernel)
theorem in_X14 : ∀ w ∈ wsX140, w ∈ lw_all := lw_in wsX140 [1306, 1308] (by decide +kernel) (by decide +kernel)
theorem in_X15 : ∀ w ∈ wsX150, w ∈ lw_all := lw_in wsX150 [1320, 1322] (by decide +kernel) (by decide +kernel)
theorem in_X16 : ∀ w ∈ wsX160, w ∈ lw_all := lw_in wsX160 [1334, 1336] (by decide +kernel) (by decide +kernel)
theorem in_X17 : ∀ w ∈ wsX170, w ∈ lw_all := lw_in wsX170 [1403, 1405, 1407, 1409, 1411, 1413, 1415, 1417] (by decide +kernel) (by decide +kernel)
theorem in_J0 : ∀ w ∈ wsJ00, w ∈ lw_all := lw_in wsJ00 [153, 155, 157, 159, 161] (by decide +kernel) (by decide +kernel)
theorem in_J8 : ∀ w ∈ wsJ80, w ∈ lw_all := lw_in wsJ80 [1445, 1446, 1447, 1448, 1449, 1460] (by decide +kernel) (by decide +kernel)
