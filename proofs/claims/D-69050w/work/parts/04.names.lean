def am_F0 : u_T := fun k => match k with
  | 0 => ("FlowSession", "reader", "LFlowSession$FlowReader;", true)
  | 1 => ("FlowSession", "compiler", "LFlowSession$Compiler;", true)
  | 2 => ("FlowSession", "machine", "LFlowSession$FlowMachine;", true)
  | 3 => ("FlowSession", "left", "LFlowSession$FlowMachine;", true)
  | 4 => ("FlowSession", "right", "LFlowSession$FlowMachine;", true)
  | 5 => ("FlowSession", "ends", "LFlowSession$Ends;", true)
  | 6 => ("FlowSession", "schedule", "LFlowSession$Schedule;", true)
  | 7 => ("FlowSession", "other", "LFlowSession$Schedule;", true)
  | 8 => ("FlowSession", "tape", "[B", true)
  | 9 => ("FlowSession", "taped", "I", false)
  | 10 => ("FlowSession", "said", "[B", true)
  | 11 => ("FlowSession", "saying", "I", false)
  | 12 => ("FlowSession", "digits", "[B", true)
  | 13 => ("FlowSession", "good", "Z", false)
  | 14 => ("FlowSession", "line", "I", false)
  | 15 => ("FlowSession", "column", "I", false)
  | 16 => ("FlowSession", "slot", "I", false)
  | _ => ("FlowSession", "locals", "I", false)
def am_t0 : Nat → FieldType := fun k => match k with
  | 0 => .object "FlowSession$FlowReader"
  | 1 => .object "FlowSession$Compiler"
  | 2 => .object "FlowSession$FlowMachine"
  | 3 => .object "FlowSession$FlowMachine"
  | 4 => .object "FlowSession$FlowMachine"
  | 5 => .object "FlowSession$Ends"
  | 6 => .object "FlowSession$Schedule"
  | 7 => .object "FlowSession$Schedule"
  | 8 => .array (.byte)
  | 9 => .int
  | 10 => .array (.byte)
  | 11 => .int
  | 12 => .array (.byte)
  | 13 => .boolean
  | 14 => .int
  | 15 => .int
  | 16 => .int
  | _ => .int
def am_R0 : vw_C := ("FlowSession", am_F0, 18)
def am_F1 : u_T := fun k => match k with
  | 0 => ("FlowSession$FlowReader", "tokens", "LFlowSession$FlowReader$Tokens;", true)
  | 1 => ("FlowSession$FlowReader", "reader", "LFlowSession$FlowReader$Reader;", true)
  | 2 => ("FlowSession$FlowReader", "maker", "LFlowSession$FlowReader$Maker;", true)
  | 3 => ("FlowSession$FlowReader", "uses", "I", false)
  | 4 => ("FlowSession$FlowReader", "faultLine", "I", false)
  | _ => ("FlowSession$FlowReader", "faultColumn", "I", false)
def am_t1 : Nat → FieldType := fun k => match k with
  | 0 => .object "FlowSession$FlowReader$Tokens"
  | 1 => .object "FlowSession$FlowReader$Reader"
  | 2 => .object "FlowSession$FlowReader$Maker"
  | 3 => .int
  | 4 => .int
  | _ => .int
def am_R1 : vw_C := ("FlowSession$FlowReader", am_F1, 6)
def am_F2 : u_T := fun k => match k with
  | 0 => ("FlowSession$FlowReader$Tokens", "text", "[B", true)
  | 1 => ("FlowSession$FlowReader$Tokens", "size", "I", false)
  | 2 => ("FlowSession$FlowReader$Tokens", "words", "LFlowSession$FlowReader$Names;", true)
  | 3 => ("FlowSession$FlowReader$Tokens", "atoms", "LFlowSession$FlowReader$Names;", true)
  | 4 => ("FlowSession$FlowReader$Tokens", "variables", "LFlowSession$FlowReader$Names;", true)
  | 5 => ("FlowSession$FlowReader$Tokens", "kind", "I", false)
  | 6 => ("FlowSession$FlowReader$Tokens", "value", "I", false)
  | 7 => ("FlowSession$FlowReader$Tokens", "place", "I", false)
  | 8 => ("FlowSession$FlowReader$Tokens", "behind", "I", false)
  | 9 => ("FlowSession$FlowReader$Tokens", "count", "I", false)
  | 10 => ("FlowSession$FlowReader$Tokens", "fault", "I", false)
  | _ => ("FlowSession$FlowReader$Tokens", "faultPlace", "I", false)
def am_t2 : Nat → FieldType := fun k => match k with
  | 0 => .array (.byte)
  | 1 => .int
  | 2 => .object "FlowSession$FlowReader$Names"
  | 3 => .object "FlowSession$FlowReader$Names"
  | 4 => .object "FlowSession$FlowReader$Names"
  | 5 => .int
  | 6 => .int
  | 7 => .int
  | 8 => .int
  | 9 => .int
  | 10 => .int
  | _ => .int
def am_R2 : vw_C := ("FlowSession$FlowReader$Tokens", am_F2, 12)
def am_F3 : u_T := fun k => match k with
  | 0 => ("FlowSession$FlowReader$Names", "bytes", "[B", false)
  | 1 => ("FlowSession$FlowReader$Names", "filled", "I", false)
  | 2 => ("FlowSession$FlowReader$Names", "end", "I", false)
  | _ => ("FlowSession$FlowReader$Names", "begins", "LFlowSession$FlowReader$Row;", true)
def am_t3 : Nat → FieldType := fun k => match k with
  | 0 => .array (.byte)
  | 1 => .int
  | 2 => .int
  | _ => .object "FlowSession$FlowReader$Row"
def am_R3 : vw_C := ("FlowSession$FlowReader$Names", am_F3, 4)
def am_F4 : u_T := fun k => match k with
  | 0 => ("FlowSession$FlowReader$Row", "cells", "[I", false)
  | _ => ("FlowSession$FlowReader$Row", "size", "I", false)
def am_t4 : Nat → FieldType := fun k => match k with
  | 0 => .array (.int)
  | _ => .int
def am_R4 : vw_C := ("FlowSession$FlowReader$Row", am_F4, 2)
def am_F5 : u_T := fun k => match k with
  | 0 => ("FlowSession$FlowReader$Reader", "t", "LFlowSession$FlowReader$Tokens;", true)
  | 1 => ("FlowSession$FlowReader$Reader", "kinds", "LFlowSession$FlowReader$Row;", true)
  | 2 => ("FlowSession$FlowReader$Reader", "parts", "LFlowSession$FlowReader$Row;", true)
  | 3 => ("FlowSession$FlowReader$Reader", "nexts", "LFlowSession$FlowReader$Row;", true)
  | 4 => ("FlowSession$FlowReader$Reader", "values", "LFlowSession$FlowReader$Row;", true)
  | 5 => ("FlowSession$FlowReader$Reader", "names", "LFlowSession$FlowReader$Row;", true)
  | 6 => ("FlowSession$FlowReader$Reader", "binders", "LFlowSession$FlowReader$Row;", true)
  | 7 => ("FlowSession$FlowReader$Reader", "open", "I", false)
  | 8 => ("FlowSession$FlowReader$Reader", "uses", "I", false)
  | 9 => ("FlowSession$FlowReader$Reader", "given", "I", false)
  | _ => ("FlowSession$FlowReader$Reader", "feature", "I", false)
def am_t5 : Nat → FieldType := fun k => match k with
  | 0 => .object "FlowSession$FlowReader$Tokens"
  | 1 => .object "FlowSession$FlowReader$Row"
  | 2 => .object "FlowSession$FlowReader$Row"
  | 3 => .object "FlowSession$FlowReader$Row"
  | 4 => .object "FlowSession$FlowReader$Row"
  | 5 => .object "FlowSession$FlowReader$Row"
  | 6 => .object "FlowSession$FlowReader$Row"
  | 7 => .int
  | 8 => .int
  | 9 => .int
  | _ => .int
def am_R5 : vw_C := ("FlowSession$FlowReader$Reader", am_F5, 11)
def am_F6 : u_T := fun k => match k with
  | 0 => ("FlowSession$FlowReader$Maker", "tree", "LFlowSession$FlowReader$Reader;", true)
  | 1 => ("FlowSession$FlowReader$Maker", "t", "LFlowSession$FlowReader$Tokens;", true)
  | 2 => ("FlowSession$FlowReader$Maker", "kinds", "LFlowSession$FlowReader$Row;", true)
  | 3 => ("FlowSession$FlowReader$Maker", "xs", "LFlowSession$FlowReader$Row;", true)
  | 4 => ("FlowSession$FlowReader$Maker", "as", "LFlowSession$FlowReader$Row;", true)
  | 5 => ("FlowSession$FlowReader$Maker", "bs", "LFlowSession$FlowReader$Row;", true)
  | 6 => ("FlowSession$FlowReader$Maker", "nexts", "LFlowSession$FlowReader$Row;", true)
  | 7 => ("FlowSession$FlowReader$Maker", "begins", "LFlowSession$FlowReader$Row;", true)
  | 8 => ("FlowSession$FlowReader$Maker", "counts", "LFlowSession$FlowReader$Row;", true)
  | 9 => ("FlowSession$FlowReader$Maker", "items", "LFlowSession$FlowReader$Row;", true)
  | 10 => ("FlowSession$FlowReader$Maker", "nameOf", "LFlowSession$FlowReader$Row;", true)
  | 11 => ("FlowSession$FlowReader$Maker", "numberOf", "LFlowSession$FlowReader$Row;", true)
  | 12 => ("FlowSession$FlowReader$Maker", "fresh", "LFlowSession$FlowReader$Row;", true)
  | 13 => ("FlowSession$FlowReader$Maker", "first", "I", false)
  | 14 => ("FlowSession$FlowReader$Maker", "last", "I", false)
  | 15 => ("FlowSession$FlowReader$Maker", "waiting", "LFlowSession$FlowReader$Row;", true)
  | _ => ("FlowSession$FlowReader$Maker", "features", "LFlowSession$FlowReader$Row;", true)
def am_t6 : Nat → FieldType := fun k => match k with
  | 0 => .object "FlowSession$FlowReader$Reader"
  | 1 => .object "FlowSession$FlowReader$Tokens"
  | 2 => .object "FlowSession$FlowReader$Row"
  | 3 => .object "FlowSession$FlowReader$Row"
  | 4 => .object "FlowSession$FlowReader$Row"
  | 5 => .object "FlowSession$FlowReader$Row"
  | 6 => .object "FlowSession$FlowReader$Row"
  | 7 => .object "FlowSession$FlowReader$Row"
  | 8 => .object "FlowSession$FlowReader$Row"
  | 9 => .object "FlowSession$FlowReader$Row"
  | 10 => .object "FlowSession$FlowReader$Row"
  | 11 => .object "FlowSession$FlowReader$Row"
  | 12 => .object "FlowSession$FlowReader$Row"
  | 13 => .int
  | 14 => .int
  | 15 => .object "FlowSession$FlowReader$Row"
  | _ => .object "FlowSession$FlowReader$Row"
def am_R6 : vw_C := ("FlowSession$FlowReader$Maker", am_F6, 17)
def am_F7 : u_T := fun k => match k with
  | 0 => ("FlowSession$Compiler", "reader", "LFlowSession$FlowReader;", true)
  | 1 => ("FlowSession$Compiler", "owners", "LFlowSession$Compiler$Words;", true)
  | 2 => ("FlowSession$Compiler", "slots", "LFlowSession$Compiler$Words;", true)
  | 3 => ("FlowSession$Compiler", "makers", "LFlowSession$Compiler$Words;", true)
  | 4 => ("FlowSession$Compiler", "around", "LFlowSession$Compiler$Words;", true)
  | 5 => ("FlowSession$Compiler", "parameters", "LFlowSession$Compiler$Words;", true)
  | 6 => ("FlowSession$Compiler", "owns", "LFlowSession$Compiler$Words;", true)
  | 7 => ("FlowSession$Compiler", "freeCounts", "LFlowSession$Compiler$Words;", true)
  | 8 => ("FlowSession$Compiler", "lastFree", "LFlowSession$Compiler$Words;", true)
  | 9 => ("FlowSession$Compiler", "free", "LFlowSession$Compiler$Words;", true)
  | 10 => ("FlowSession$Compiler", "before", "LFlowSession$Compiler$Words;", true)
  | 11 => ("FlowSession$Compiler", "bodyOf", "LFlowSession$Compiler$Words;", true)
  | 12 => ("FlowSession$Compiler", "made", "LFlowSession$Compiler$Words;", true)
  | 13 => ("FlowSession$Compiler", "pile", "LFlowSession$Compiler$Words;", true)
  | 14 => ("FlowSession$Compiler", "code", "LFlowSession$Compiler$Words;", true)
  | 15 => ("FlowSession$Compiler", "patches", "LFlowSession$Compiler$Words;", true)
  | 16 => ("FlowSession$Compiler", "places", "LFlowSession$Compiler$Words;", true)
  | _ => ("FlowSession$Compiler", "body", "I", false)
def am_t7 : Nat → FieldType := fun k => match k with
  | 0 => .object "FlowSession$FlowReader"
  | 1 => .object "FlowSession$Compiler$Words"
  | 2 => .object "FlowSession$Compiler$Words"
  | 3 => .object "FlowSession$Compiler$Words"
  | 4 => .object "FlowSession$Compiler$Words"
  | 5 => .object "FlowSession$Compiler$Words"
  | 6 => .object "FlowSession$Compiler$Words"
  | 7 => .object "FlowSession$Compiler$Words"
  | 8 => .object "FlowSession$Compiler$Words"
  | 9 => .object "FlowSession$Compiler$Words"
  | 10 => .object "FlowSession$Compiler$Words"
  | 11 => .object "FlowSession$Compiler$Words"
  | 12 => .object "FlowSession$Compiler$Words"
  | 13 => .object "FlowSession$Compiler$Words"
  | 14 => .object "FlowSession$Compiler$Words"
  | 15 => .object "FlowSession$Compiler$Words"
  | 16 => .object "FlowSession$Compiler$Words"
  | _ => .int
def am_R7 : vw_C := ("FlowSession$Compiler", am_F7, 18)
def am_F8 : u_T := fun k => match k with
  | 0 => ("FlowSession$Compiler$Words", "row", "[I", false)
  | _ => ("FlowSession$Compiler$Words", "size", "I", false)
def am_t8 : Nat → FieldType := fun k => match k with
  | 0 => .array (.int)
  | _ => .int
def am_R8 : vw_C := ("FlowSession$Compiler$Words", am_F8, 2)
def am_F9 : u_T := fun k => match k with
  | 0 => ("FlowSession$FlowMachine", "store", "LFlowSession$FlowMachine$TreeStore;", true)
  | 1 => ("FlowSession$FlowMachine", "blocks", "LFlowSession$FlowMachine$Blocks;", true)
  | 2 => ("FlowSession$FlowMachine", "frames", "LFlowSession$FlowMachine$Frames;", true)
  | 3 => ("FlowSession$FlowMachine", "code", "[I", true)
  | 4 => ("FlowSession$FlowMachine", "size", "I", false)
  | 5 => ("FlowSession$FlowMachine", "begun", "Z", false)
  | 6 => ("FlowSession$FlowMachine", "state", "I", false)
  | 7 => ("FlowSession$FlowMachine", "steps", "I", false)
  | 8 => ("FlowSession$FlowMachine", "first", "I", false)
  | 9 => ("FlowSession$FlowMachine", "basis", "[I", true)
  | 10 => ("FlowSession$FlowMachine", "raised", "I", false)
  | 11 => ("FlowSession$FlowMachine", "shown", "I", false)
  | 12 => ("FlowSession$FlowMachine", "threads", "I", false)
  | 13 => ("FlowSession$FlowMachine", "tops", "[I", true)
  | 14 => ("FlowSession$FlowMachine", "applications", "[I", true)
  | 15 => ("FlowSession$FlowMachine", "procedures", "[I", true)
  | 16 => ("FlowSession$FlowMachine", "subjects", "[I", true)
  | 17 => ("FlowSession$FlowMachine", "done", "[I", true)
  | 18 => ("FlowSession$FlowMachine", "from", "[I", true)
  | 19 => ("FlowSession$FlowMachine", "nth", "[I", true)
  | 20 => ("FlowSession$FlowMachine", "children", "[I", true)
  | 21 => ("FlowSession$FlowMachine", "open", "[I", true)
  | 22 => ("FlowSession$FlowMachine", "openOnes", "[I", true)
  | 23 => ("FlowSession$FlowMachine", "openOthers", "[I", true)
  | 24 => ("FlowSession$FlowMachine", "triggers", "I", false)
  | 25 => ("FlowSession$FlowMachine", "triggerProcedures", "[I", true)
  | 26 => ("FlowSession$FlowMachine", "triggerSubjects", "[I", true)
  | 27 => ("FlowSession$FlowMachine", "triggerFrom", "[I", true)
  | 28 => ("FlowSession$FlowMachine", "triggerNth", "[I", true)
  | 29 => ("FlowSession$FlowMachine", "limit", "I", false)
  | 30 => ("FlowSession$FlowMachine", "every", "I", false)
  | 31 => ("FlowSession$FlowMachine", "made", "I", false)
  | 32 => ("FlowSession$FlowMachine", "waits", "[I", true)
  | 33 => ("FlowSession$FlowMachine", "block", "I", false)
  | _ => ("FlowSession$FlowMachine", "place", "I", false)
def am_t9 : Nat → FieldType := fun k => match k with
  | 0 => .object "FlowSession$FlowMachine$TreeStore"
  | 1 => .object "FlowSession$FlowMachine$Blocks"
  | 2 => .object "FlowSession$FlowMachine$Frames"
  | 3 => .array (.int)
  | 4 => .int
  | 5 => .boolean
  | 6 => .int
  | 7 => .int
  | 8 => .int
  | 9 => .array (.int)
  | 10 => .int
  | 11 => .int
  | 12 => .int
  | 13 => .array (.int)
  | 14 => .array (.int)
  | 15 => .array (.int)
  | 16 => .array (.int)
  | 17 => .array (.int)
  | 18 => .array (.int)
  | 19 => .array (.int)
  | 20 => .array (.int)
  | 21 => .array (.int)
  | 22 => .array (.int)
  | 23 => .array (.int)
  | 24 => .int
  | 25 => .array (.int)
  | 26 => .array (.int)
  | 27 => .array (.int)
  | 28 => .array (.int)
  | 29 => .int
  | 30 => .int
  | 31 => .int
  | 32 => .array (.int)
  | 33 => .int
  | _ => .int
def am_R9 : vw_C := ("FlowSession$FlowMachine", am_F9, 35)
def am_F10 : u_T := fun k => match k with
  | 0 => ("FlowSession$FlowMachine$TreeStore", "there", "[Z", true)
  | 1 => ("FlowSession$FlowMachine$TreeStore", "hung", "[Z", true)
  | 2 => ("FlowSession$FlowMachine$TreeStore", "turns", "I", false)
  | 3 => ("FlowSession$FlowMachine$TreeStore", "kinds", "[B", true)
  | 4 => ("FlowSession$FlowMachine$TreeStore", "values", "[I", true)
  | 5 => ("FlowSession$FlowMachine$TreeStore", "firsts", "[I", true)
  | 6 => ("FlowSession$FlowMachine$TreeStore", "counts", "[S", true)
  | 7 => ("FlowSession$FlowMachine$TreeStore", "links", "[S", true)
  | 8 => ("FlowSession$FlowMachine$TreeStore", "leasts", "[S", true)
  | 9 => ("FlowSession$FlowMachine$TreeStore", "weights", "[I", true)
  | 10 => ("FlowSession$FlowMachine$TreeStore", "needs", "[Z", true)
  | 11 => ("FlowSession$FlowMachine$TreeStore", "nodes", "I", false)
  | 12 => ("FlowSession$FlowMachine$TreeStore", "lowest", "I", false)
  | 13 => ("FlowSession$FlowMachine$TreeStore", "variables", "I", false)
  | 14 => ("FlowSession$FlowMachine$TreeStore", "fields", "LFlowSession$FlowMachine$TreeStore$Fields;", false)
  | 15 => ("FlowSession$FlowMachine$TreeStore", "kept", "LFlowSession$FlowMachine$TreeStore$Fields;", false)
  | 16 => ("FlowSession$FlowMachine$TreeStore", "pushedFeatures", "[I", true)
  | 17 => ("FlowSession$FlowMachine$TreeStore", "pushedParts", "[I", true)
  | 18 => ("FlowSession$FlowMachine$TreeStore", "pushed", "I", false)
  | 19 => ("FlowSession$FlowMachine$TreeStore", "trail", "LFlowSession$FlowMachine$TreeStore$Ints;", true)
  | 20 => ("FlowSession$FlowMachine$TreeStore", "pile", "LFlowSession$FlowMachine$TreeStore$Ints;", true)
  | 21 => ("FlowSession$FlowMachine$TreeStore", "noted", "LFlowSession$FlowMachine$TreeStore$Ints;", true)
  | 22 => ("FlowSession$FlowMachine$TreeStore", "stamps", "[I", true)
  | 23 => ("FlowSession$FlowMachine$TreeStore", "stamp", "I", false)
  | 24 => ("FlowSession$FlowMachine$TreeStore", "hits", "[Z", true)
  | 25 => ("FlowSession$FlowMachine$TreeStore", "touched", "LFlowSession$FlowMachine$TreeStore$Ints;", true)
  | 26 => ("FlowSession$FlowMachine$TreeStore", "marked", "[Z", true)
  | 27 => ("FlowSession$FlowMachine$TreeStore", "marks", "I", false)
  | 28 => ("FlowSession$FlowMachine$TreeStore", "ups", "[I", true)
  | 29 => ("FlowSession$FlowMachine$TreeStore", "lefts", "[I", true)
  | 30 => ("FlowSession$FlowMachine$TreeStore", "rights", "[I", true)
  | 31 => ("FlowSession$FlowMachine$TreeStore", "sides", "[I", true)
  | _ => ("FlowSession$FlowMachine$TreeStore", "side", "I", false)
def am_t10 : Nat → FieldType := fun k => match k with
  | 0 => .array (.boolean)
  | 1 => .array (.boolean)
  | 2 => .int
  | 3 => .array (.byte)
  | 4 => .array (.int)
  | 5 => .array (.int)
  | 6 => .array (.short)
  | 7 => .array (.short)
  | 8 => .array (.short)
  | 9 => .array (.int)
  | 10 => .array (.boolean)
  | 11 => .int
  | 12 => .int
  | 13 => .int
  | 14 => .object "FlowSession$FlowMachine$TreeStore$Fields"
  | 15 => .object "FlowSession$FlowMachine$TreeStore$Fields"
  | 16 => .array (.int)
  | 17 => .array (.int)
  | 18 => .int
  | 19 => .object "FlowSession$FlowMachine$TreeStore$Ints"
  | 20 => .object "FlowSession$FlowMachine$TreeStore$Ints"
  | 21 => .object "FlowSession$FlowMachine$TreeStore$Ints"
  | 22 => .array (.int)
  | 23 => .int
  | 24 => .array (.boolean)
  | 25 => .object "FlowSession$FlowMachine$TreeStore$Ints"
  | 26 => .array (.boolean)
  | 27 => .int
  | 28 => .array (.int)
  | 29 => .array (.int)
  | 30 => .array (.int)
  | 31 => .array (.int)
  | _ => .int
def am_R10 : vw_C := ("FlowSession$FlowMachine$TreeStore", am_F10, 33)
def am_F11 : u_T := fun k => match k with
  | 0 => ("FlowSession$FlowMachine$TreeStore$Fields", "features", "LFlowSession$FlowMachine$TreeStore$Ints;", true)
  | _ => ("FlowSession$FlowMachine$TreeStore$Fields", "parts", "LFlowSession$FlowMachine$TreeStore$Ints;", true)
def am_t11 : Nat → FieldType := fun k => match k with
  | 0 => .object "FlowSession$FlowMachine$TreeStore$Ints"
  | _ => .object "FlowSession$FlowMachine$TreeStore$Ints"
def am_R11 : vw_C := ("FlowSession$FlowMachine$TreeStore$Fields", am_F11, 2)
def am_F12 : u_T := fun k => match k with
  | 0 => ("FlowSession$FlowMachine$TreeStore$Ints", "row", "[I", false)
  | _ => ("FlowSession$FlowMachine$TreeStore$Ints", "size", "I", false)
def am_t12 : Nat → FieldType := fun k => match k with
  | 0 => .array (.int)
  | _ => .int
def am_R12 : vw_C := ("FlowSession$FlowMachine$TreeStore$Ints", am_F12, 2)
def am_F13 : u_T := fun k => match k with
  | 0 => ("FlowSession$FlowMachine$Blocks", "cells", "[I", true)
  | 1 => ("FlowSession$FlowMachine$Blocks", "top", "I", false)
  | 2 => ("FlowSession$FlowMachine$Blocks", "starts", "[I", true)
  | 3 => ("FlowSession$FlowMachine$Blocks", "sizes", "[I", true)
  | 4 => ("FlowSession$FlowMachine$Blocks", "owners", "[I", true)
  | 5 => ("FlowSession$FlowMachine$Blocks", "free", "[I", true)
  | 6 => ("FlowSession$FlowMachine$Blocks", "frees", "I", false)
  | 7 => ("FlowSession$FlowMachine$Blocks", "order", "[I", true)
  | 8 => ("FlowSession$FlowMachine$Blocks", "ordered", "I", false)
  | _ => ("FlowSession$FlowMachine$Blocks", "used", "I", false)
def am_t13 : Nat → FieldType := fun k => match k with
  | 0 => .array (.int)
  | 1 => .int
  | 2 => .array (.int)
  | 3 => .array (.int)
  | 4 => .array (.int)
  | 5 => .array (.int)
  | 6 => .int
  | 7 => .array (.int)
  | 8 => .int
  | _ => .int
def am_R13 : vw_C := ("FlowSession$FlowMachine$Blocks", am_F13, 10)
def am_F14 : u_T := fun k => match k with
  | 0 => ("FlowSession$FlowMachine$Frames", "tries", "[Z", true)
  | 1 => ("FlowSession$FlowMachine$Frames", "places", "[I", true)
  | 2 => ("FlowSession$FlowMachine$Frames", "blocks", "[I", true)
  | 3 => ("FlowSession$FlowMachine$Frames", "applications", "[I", true)
  | 4 => ("FlowSession$FlowMachine$Frames", "below", "[I", true)
  | 5 => ("FlowSession$FlowMachine$Frames", "free", "I", false)
  | _ => ("FlowSession$FlowMachine$Frames", "count", "I", false)
def am_t14 : Nat → FieldType := fun k => match k with
  | 0 => .array (.boolean)
  | 1 => .array (.int)
  | 2 => .array (.int)
  | 3 => .array (.int)
  | 4 => .array (.int)
  | 5 => .int
  | _ => .int
def am_R14 : vw_C := ("FlowSession$FlowMachine$Frames", am_F14, 7)
def am_F15 : u_T := fun k => match k with
  | 0 => ("FlowSession$Ends", "one", "LFlowSession$FlowMachine;", true)
  | 1 => ("FlowSession$Ends", "two", "LFlowSession$FlowMachine;", true)
  | 2 => ("FlowSession$Ends", "partners", "[I", false)
  | 3 => ("FlowSession$Ends", "pairs", "[I", false)
  | _ => ("FlowSession$Ends", "size", "I", false)
def am_t15 : Nat → FieldType := fun k => match k with
  | 0 => .object "FlowSession$FlowMachine"
  | 1 => .object "FlowSession$FlowMachine"
  | 2 => .array (.int)
  | 3 => .array (.int)
  | _ => .int
def am_R15 : vw_C := ("FlowSession$Ends", am_F15, 5)
def am_F16 : u_T := fun k => match k with
  | 0 => ("FlowSession$Schedule", "kind", "I", false)
  | 1 => ("FlowSession$Schedule", "first", "I", false)
  | 2 => ("FlowSession$Schedule", "h", "I", false)
  | _ => ("FlowSession$Schedule", "last", "I", false)
def am_t16 : Nat → FieldType := fun k => match k with
  | 0 => .int
  | 1 => .int
  | 2 => .int
  | _ => .int
def am_R16 : vw_C := ("FlowSession$Schedule", am_F16, 4)
def am_F17 : u_T := fun k => match k with
  | 0 => ("FlowSessionModel", "tape", "[B", true)
  | 1 => ("FlowSessionModel", "fed", "I", false)
  | 2 => ("FlowSessionModel", "reader", "LFlowSessionModel$FlowReaderModel;", true)
  | 3 => ("FlowSessionModel", "walk", "LFlowSessionModel$Walk;", true)
  | 4 => ("FlowSessionModel", "twin", "LFlowSessionModel$Walk;", true)
  | 5 => ("FlowSessionModel", "rule", "LFlowSessionModel$Rule;", true)
  | 6 => ("FlowSessionModel", "other", "LFlowSessionModel$Rule;", true)
  | 7 => ("FlowSessionModel", "first", "I", false)
  | 8 => ("FlowSessionModel", "runs", "Z", false)
  | 9 => ("FlowSessionModel", "over", "Z", false)
  | 10 => ("FlowSessionModel", "line", "I", false)
  | 11 => ("FlowSessionModel", "column", "I", false)
  | 12 => ("FlowSessionModel", "told", "[B", true)
  | 13 => ("FlowSessionModel", "toldSize", "I", false)
  | _ => ("FlowSessionModel", "every", "I", false)
def am_t17 : Nat → FieldType := fun k => match k with
  | 0 => .array (.byte)
  | 1 => .int
  | 2 => .object "FlowSessionModel$FlowReaderModel"
  | 3 => .object "FlowSessionModel$Walk"
  | 4 => .object "FlowSessionModel$Walk"
  | 5 => .object "FlowSessionModel$Rule"
  | 6 => .object "FlowSessionModel$Rule"
  | 7 => .int
  | 8 => .boolean
  | 9 => .boolean
  | 10 => .int
  | 11 => .int
  | 12 => .array (.byte)
  | 13 => .int
  | _ => .int
def am_R17 : vw_C := ("FlowSessionModel", am_F17, 15)
def am_F18 : u_T := fun k => match k with
  | 0 => ("FlowSessionModel$FlowReaderModel", "text", "[B", true)
  | 1 => ("FlowSessionModel$FlowReaderModel", "size", "I", false)
  | 2 => ("FlowSessionModel$FlowReaderModel", "tokens", "I", false)
  | 3 => ("FlowSessionModel$FlowReaderModel", "kinds", "[I", true)
  | 4 => ("FlowSessionModel$FlowReaderModel", "numbers", "[I", true)
  | 5 => ("FlowSessionModel$FlowReaderModel", "places", "[I", true)
  | 6 => ("FlowSessionModel$FlowReaderModel", "ends", "[I", true)
  | 7 => ("FlowSessionModel$FlowReaderModel", "bad", "I", false)
  | 8 => ("FlowSessionModel$FlowReaderModel", "atoms", "I", false)
  | 9 => ("FlowSessionModel$FlowReaderModel", "atomAt", "[I", true)
  | 10 => ("FlowSessionModel$FlowReaderModel", "atomBytes", "[B", true)
  | 11 => ("FlowSessionModel$FlowReaderModel", "names", "I", false)
  | 12 => ("FlowSessionModel$FlowReaderModel", "nameAt", "[I", true)
  | 13 => ("FlowSessionModel$FlowReaderModel", "nameBytes", "[B", true)
  | 14 => ("FlowSessionModel$FlowReaderModel", "treeKinds", "LFlowSessionModel$FlowReaderModel$Row;", true)
  | 15 => ("FlowSessionModel$FlowReaderModel", "as", "LFlowSessionModel$FlowReaderModel$Row;", true)
  | 16 => ("FlowSessionModel$FlowReaderModel", "bs", "LFlowSessionModel$FlowReaderModel$Row;", true)
  | 17 => ("FlowSessionModel$FlowReaderModel", "cs", "LFlowSessionModel$FlowReaderModel$Row;", true)
  | 18 => ("FlowSessionModel$FlowReaderModel", "nexts", "LFlowSessionModel$FlowReaderModel$Row;", true)
  | 19 => ("FlowSessionModel$FlowReaderModel", "bindNames", "LFlowSessionModel$FlowReaderModel$Row;", true)
  | 20 => ("FlowSessionModel$FlowReaderModel", "bindNumbers", "LFlowSessionModel$FlowReaderModel$Row;", true)
  | 21 => ("FlowSessionModel$FlowReaderModel", "scope", "LFlowSessionModel$FlowReaderModel$Row;", true)
  | 22 => ("FlowSessionModel$FlowReaderModel", "at", "I", false)
  | 23 => ("FlowSessionModel$FlowReaderModel", "open", "I", false)
  | 24 => ("FlowSessionModel$FlowReaderModel", "uses", "I", false)
  | 25 => ("FlowSessionModel$FlowReaderModel", "stopped", "Ljava/lang/IllegalStateException;", true)
  | 26 => ("FlowSessionModel$FlowReaderModel", "faultKind", "I", false)
  | 27 => ("FlowSessionModel$FlowReaderModel", "faultPlace", "I", false)
  | 28 => ("FlowSessionModel$FlowReaderModel", "line", "I", false)
  | 29 => ("FlowSessionModel$FlowReaderModel", "column", "I", false)
  | 30 => ("FlowSessionModel$FlowReaderModel", "variableNames", "LFlowSessionModel$FlowReaderModel$Row;", true)
  | 31 => ("FlowSessionModel$FlowReaderModel", "stateKinds", "LFlowSessionModel$FlowReaderModel$Row;", true)
  | 32 => ("FlowSessionModel$FlowReaderModel", "xs", "LFlowSessionModel$FlowReaderModel$Row;", true)
  | 33 => ("FlowSessionModel$FlowReaderModel", "firsts", "LFlowSessionModel$FlowReaderModel$Row;", true)
  | 34 => ("FlowSessionModel$FlowReaderModel", "seconds", "LFlowSessionModel$FlowReaderModel$Row;", true)
  | 35 => ("FlowSessionModel$FlowReaderModel", "behind", "LFlowSessionModel$FlowReaderModel$Row;", true)
  | 36 => ("FlowSessionModel$FlowReaderModel", "itemAt", "LFlowSessionModel$FlowReaderModel$Row;", true)
  | 37 => ("FlowSessionModel$FlowReaderModel", "itemCounts", "LFlowSessionModel$FlowReaderModel$Row;", true)
  | 38 => ("FlowSessionModel$FlowReaderModel", "items", "LFlowSessionModel$FlowReaderModel$Row;", true)
  | 39 => ("FlowSessionModel$FlowReaderModel", "pile", "LFlowSessionModel$FlowReaderModel$Row;", true)
  | 40 => ("FlowSessionModel$FlowReaderModel", "made", "LFlowSessionModel$FlowReaderModel$Row;", true)
  | 41 => ("FlowSessionModel$FlowReaderModel", "chain", "LFlowSessionModel$FlowReaderModel$Row;", true)
  | _ => ("FlowSessionModel$FlowReaderModel", "links", "LFlowSessionModel$FlowReaderModel$Row;", true)
def am_t18 : Nat → FieldType := fun k => match k with
  | 0 => .array (.byte)
  | 1 => .int
  | 2 => .int
  | 3 => .array (.int)
  | 4 => .array (.int)
  | 5 => .array (.int)
  | 6 => .array (.int)
  | 7 => .int
  | 8 => .int
  | 9 => .array (.int)
  | 10 => .array (.byte)
  | 11 => .int
  | 12 => .array (.int)
  | 13 => .array (.byte)
  | 14 => .object "FlowSessionModel$FlowReaderModel$Row"
  | 15 => .object "FlowSessionModel$FlowReaderModel$Row"
  | 16 => .object "FlowSessionModel$FlowReaderModel$Row"
  | 17 => .object "FlowSessionModel$FlowReaderModel$Row"
  | 18 => .object "FlowSessionModel$FlowReaderModel$Row"
  | 19 => .object "FlowSessionModel$FlowReaderModel$Row"
  | 20 => .object "FlowSessionModel$FlowReaderModel$Row"
  | 21 => .object "FlowSessionModel$FlowReaderModel$Row"
  | 22 => .int
  | 23 => .int
  | 24 => .int
  | 25 => .object "java/lang/IllegalStateException"
  | 26 => .int
  | 27 => .int
  | 28 => .int
  | 29 => .int
  | 30 => .object "FlowSessionModel$FlowReaderModel$Row"
  | 31 => .object "FlowSessionModel$FlowReaderModel$Row"
  | 32 => .object "FlowSessionModel$FlowReaderModel$Row"
  | 33 => .object "FlowSessionModel$FlowReaderModel$Row"
  | 34 => .object "FlowSessionModel$FlowReaderModel$Row"
  | 35 => .object "FlowSessionModel$FlowReaderModel$Row"
  | 36 => .object "FlowSessionModel$FlowReaderModel$Row"
  | 37 => .object "FlowSessionModel$FlowReaderModel$Row"
  | 38 => .object "FlowSessionModel$FlowReaderModel$Row"
  | 39 => .object "FlowSessionModel$FlowReaderModel$Row"
  | 40 => .object "FlowSessionModel$FlowReaderModel$Row"
  | 41 => .object "FlowSessionModel$FlowReaderModel$Row"
  | _ => .object "FlowSessionModel$FlowReaderModel$Row"
def am_R18 : vw_C := ("FlowSessionModel$FlowReaderModel", am_F18, 43)
def am_F19 : u_T := fun k => match k with
  | 0 => ("FlowSessionModel$FlowReaderModel$Row", "all", "[I", false)
  | _ => ("FlowSessionModel$FlowReaderModel$Row", "size", "I", false)
def am_t19 : Nat → FieldType := fun k => match k with
  | 0 => .array (.int)
  | _ => .int
def am_R19 : vw_C := ("FlowSessionModel$FlowReaderModel$Row", am_F19, 2)
def am_F20 : u_T := fun k => match k with
  | 0 => ("FlowSessionModel$Walk", "text", "LFlowSessionModel$FlowReaderModel;", true)
  | 1 => ("FlowSessionModel$Walk", "kinds", "[B", true)
  | 2 => ("FlowSessionModel$Walk", "values", "[I", true)
  | 3 => ("FlowSessionModel$Walk", "firsts", "[I", true)
  | 4 => ("FlowSessionModel$Walk", "manies", "[I", true)
  | 5 => ("FlowSessionModel$Walk", "to", "[I", true)
  | 6 => ("FlowSessionModel$Walk", "needed", "[Z", true)
  | 7 => ("FlowSessionModel$Walk", "nodes", "I", false)
  | 8 => ("FlowSessionModel$Walk", "features", "[I", true)
  | 9 => ("FlowSessionModel$Walk", "parts", "[I", true)
  | 10 => ("FlowSessionModel$Walk", "fields", "I", false)
  | 11 => ("FlowSessionModel$Walk", "marks", "[I", true)
  | 12 => ("FlowSessionModel$Walk", "trail", "[I", true)
  | 13 => ("FlowSessionModel$Walk", "trailNeeds", "[Z", true)
  | 14 => ("FlowSessionModel$Walk", "bound", "I", false)
  | 15 => ("FlowSessionModel$Walk", "boundVariables", "I", false)
  | 16 => ("FlowSessionModel$Walk", "pile", "LFlowSessionModel$FlowReaderModel$Row;", true)
  | 17 => ("FlowSessionModel$Walk", "owners", "LFlowSessionModel$FlowReaderModel$Row;", true)
  | 18 => ("FlowSessionModel$Walk", "around", "LFlowSessionModel$FlowReaderModel$Row;", true)
  | 19 => ("FlowSessionModel$Walk", "freeAt", "LFlowSessionModel$FlowReaderModel$Row;", true)
  | 20 => ("FlowSessionModel$Walk", "freeCounts", "LFlowSessionModel$FlowReaderModel$Row;", true)
  | 21 => ("FlowSessionModel$Walk", "freeNames", "LFlowSessionModel$FlowReaderModel$Row;", true)
  | 22 => ("FlowSessionModel$Walk", "blockSizes", "LFlowSessionModel$FlowReaderModel$Row;", true)
  | 23 => ("FlowSessionModel$Walk", "programSize", "I", false)
  | 24 => ("FlowSessionModel$Walk", "procedures", "[I", true)
  | 25 => ("FlowSessionModel$Walk", "lists", "[I", true)
  | 26 => ("FlowSessionModel$Walk", "holders", "[I", true)
  | 27 => ("FlowSessionModel$Walk", "freeApplication", "I", false)
  | 28 => ("FlowSessionModel$Walk", "pairNames", "[I", true)
  | 29 => ("FlowSessionModel$Walk", "pairNodes", "[I", true)
  | 30 => ("FlowSessionModel$Walk", "pairNext", "[I", true)
  | 31 => ("FlowSessionModel$Walk", "freePair", "I", false)
  | 32 => ("FlowSessionModel$Walk", "blockCells", "I", false)
  | 33 => ("FlowSessionModel$Walk", "program", "I", false)
  | 34 => ("FlowSessionModel$Walk", "statements", "[I", true)
  | 35 => ("FlowSessionModel$Walk", "applications", "[I", true)
  | 36 => ("FlowSessionModel$Walk", "below", "[I", true)
  | 37 => ("FlowSessionModel$Walk", "tries", "[Z", true)
  | 38 => ("FlowSessionModel$Walk", "freeEntry", "I", false)
  | 39 => ("FlowSessionModel$Walk", "frames", "I", false)
  | 40 => ("FlowSessionModel$Walk", "threads", "I", false)
  | 41 => ("FlowSessionModel$Walk", "tops", "[I", true)
  | 42 => ("FlowSessionModel$Walk", "pending", "[I", true)
  | 43 => ("FlowSessionModel$Walk", "subjects", "[I", true)
  | 44 => ("FlowSessionModel$Walk", "done", "[I", true)
  | 45 => ("FlowSessionModel$Walk", "triggers", "I", false)
  | 46 => ("FlowSessionModel$Walk", "triggerProcedures", "[I", true)
  | 47 => ("FlowSessionModel$Walk", "triggerSubjects", "[I", true)
  | 48 => ("FlowSessionModel$Walk", "basis", "[I", true)
  | 49 => ("FlowSessionModel$Walk", "begun", "Z", false)
  | 50 => ("FlowSessionModel$Walk", "state", "I", false)
  | 51 => ("FlowSessionModel$Walk", "steps", "I", false)
  | 52 => ("FlowSessionModel$Walk", "raised", "I", false)
  | 53 => ("FlowSessionModel$Walk", "shown", "I", false)
  | 54 => ("FlowSessionModel$Walk", "counted", "I", false)
  | 55 => ("FlowSessionModel$Walk", "since", "I", false)
  | 56 => ("FlowSessionModel$Walk", "waits", "[I", true)
  | 57 => ("FlowSessionModel$Walk", "met", "[Z", true)
  | 58 => ("FlowSessionModel$Walk", "metTold", "I", false)
  | 59 => ("FlowSessionModel$Walk", "openAt", "[I", true)
  | _ => ("FlowSessionModel$Walk", "stamp", "I", false)
def am_t20 : Nat → FieldType := fun k => match k with
  | 0 => .object "FlowSessionModel$FlowReaderModel"
  | 1 => .array (.byte)
  | 2 => .array (.int)
  | 3 => .array (.int)
  | 4 => .array (.int)
  | 5 => .array (.int)
  | 6 => .array (.boolean)
  | 7 => .int
  | 8 => .array (.int)
  | 9 => .array (.int)
  | 10 => .int
  | 11 => .array (.int)
  | 12 => .array (.int)
  | 13 => .array (.boolean)
  | 14 => .int
  | 15 => .int
  | 16 => .object "FlowSessionModel$FlowReaderModel$Row"
  | 17 => .object "FlowSessionModel$FlowReaderModel$Row"
  | 18 => .object "FlowSessionModel$FlowReaderModel$Row"
  | 19 => .object "FlowSessionModel$FlowReaderModel$Row"
  | 20 => .object "FlowSessionModel$FlowReaderModel$Row"
  | 21 => .object "FlowSessionModel$FlowReaderModel$Row"
  | 22 => .object "FlowSessionModel$FlowReaderModel$Row"
  | 23 => .int
  | 24 => .array (.int)
  | 25 => .array (.int)
  | 26 => .array (.int)
  | 27 => .int
  | 28 => .array (.int)
  | 29 => .array (.int)
  | 30 => .array (.int)
  | 31 => .int
  | 32 => .int
  | 33 => .int
  | 34 => .array (.int)
  | 35 => .array (.int)
  | 36 => .array (.int)
  | 37 => .array (.boolean)
  | 38 => .int
  | 39 => .int
  | 40 => .int
  | 41 => .array (.int)
  | 42 => .array (.int)
  | 43 => .array (.int)
  | 44 => .array (.int)
  | 45 => .int
  | 46 => .array (.int)
  | 47 => .array (.int)
  | 48 => .array (.int)
  | 49 => .boolean
  | 50 => .int
  | 51 => .int
  | 52 => .int
  | 53 => .int
  | 54 => .int
  | 55 => .int
  | 56 => .array (.int)
  | 57 => .array (.boolean)
  | 58 => .int
  | 59 => .array (.int)
  | _ => .int
def am_R20 : vw_C := ("FlowSessionModel$Walk", am_F20, 61)
def am_F21 : u_T := fun k => match k with
  | 0 => ("FlowSessionModel$Rule", "kind", "I", false)
  | 1 => ("FlowSessionModel$Rule", "number", "I", false)
  | 2 => ("FlowSessionModel$Rule", "hash", "I", false)
  | _ => ("FlowSessionModel$Rule", "last", "I", false)
def am_t21 : Nat → FieldType := fun k => match k with
  | 0 => .int
  | 1 => .int
  | 2 => .int
  | _ => .int
def am_R21 : vw_C := ("FlowSessionModel$Rule", am_F21, 4)
def am_F22 : u_T := fun _ => ("", "", "", false)
def am_t22 : Nat → FieldType := fun _ => .int
def am_R22 : vw_C := ("java/lang/IllegalStateException", am_F22, 0)
/-- the classes by their numbers -/
def am_cl : List vw_C := [am_R0, am_R1, am_R2, am_R3, am_R4, am_R5, am_R6, am_R7, am_R8, am_R9, am_R10, am_R11, am_R12, am_R13, am_R14, am_R15, am_R16, am_R17, am_R18, am_R19, am_R20, am_R21, am_R22]
def am_ty (ci : Nat) : Nat → FieldType := match ci with
  | 0 => am_t0
  | 1 => am_t1
  | 2 => am_t2
  | 3 => am_t3
  | 4 => am_t4
  | 5 => am_t5
  | 6 => am_t6
  | 7 => am_t7
  | 8 => am_t8
  | 9 => am_t9
  | 10 => am_t10
  | 11 => am_t11
  | 12 => am_t12
  | 13 => am_t13
  | 14 => am_t14
  | 15 => am_t15
  | 16 => am_t16
  | 17 => am_t17
  | 18 => am_t18
  | 19 => am_t19
  | 20 => am_t20
  | 21 => am_t21
  | _ => am_t22
def am_sz (ci : Nat) : Nat := match ci with
  | 0 => 18
  | 1 => 6
  | 2 => 12
  | 3 => 4
  | 4 => 2
  | 5 => 11
  | 6 => 17
  | 7 => 18
  | 8 => 2
  | 9 => 35
  | 10 => 33
  | 11 => 2
  | 12 => 2
  | 13 => 10
  | 14 => 7
  | 15 => 5
  | 16 => 4
  | 17 => 15
  | 18 => 43
  | 19 => 2
  | 20 => 61
  | 21 => 4
  | _ => 6
/-- what a field has at first -/
def am_dv (t : FieldType) : am_V := .inl (defaultValue t)
def am_dfl (ci k : Nat) : am_V := am_dv (am_ty ci k)
/-- words that stay true under warmer tables -/
def am_gw (w : Cond) : Bool := (w.onTables && w.keeps) || (match w with
  | .arrayClass _ => true
  | .fieldLinkNest .. => true
  | .methodLinkNest .. => true
  | _ => false)
def am_tbl : List Cond := Cond.code x code maxLocals ret :: lw_tbl.filter am_gw
theorem am_in1 : ∀ w ∈ tables_1_1, am_gw w = true → w ∈ am_tbl := fun w hw hg => List.mem_cons_of_mem _ (List.mem_filter.mpr ⟨List.mem_append.mpr (.inr (List.mem_append.mpr (.inl hw))), hg⟩)
theorem am_in2 : ∀ w ∈ tables_1_2, am_gw w = true → w ∈ am_tbl := fun w hw hg => List.mem_cons_of_mem _ (List.mem_filter.mpr ⟨List.mem_append.mpr (.inr (List.mem_append.mpr (.inr (List.mem_append.mpr (.inl hw))))), hg⟩)
theorem am_in3 : ∀ w ∈ tables_1_3, am_gw w = true → w ∈ am_tbl := fun w hw hg => List.mem_cons_of_mem _ (List.mem_filter.mpr ⟨List.mem_append.mpr (.inr (List.mem_append.mpr (.inr (List.mem_append.mpr (.inr (List.mem_append.mpr (.inl hw))))))), hg⟩)
theorem am_in4 : ∀ w ∈ tables_1_4, am_gw w = true → w ∈ am_tbl := fun w hw hg => List.mem_cons_of_mem _ (List.mem_filter.mpr ⟨List.mem_append.mpr (.inr (List.mem_append.mpr (.inr (List.mem_append.mpr (.inr (List.mem_append.mpr (.inr (List.mem_append.mpr (.inl hw))))))))), hg⟩)
theorem am_in5 : ∀ w ∈ tables_1_5, am_gw w = true → w ∈ am_tbl := fun w hw hg => List.mem_cons_of_mem _ (List.mem_filter.mpr ⟨List.mem_append.mpr (.inr (List.mem_append.mpr (.inr (List.mem_append.mpr (.inr (List.mem_append.mpr (.inr (List.mem_append.mpr (.inr (List.mem_append.mpr (.inl hw))))))))))), hg⟩)
theorem am_in6 : ∀ w ∈ tables_1_6, am_gw w = true → w ∈ am_tbl := fun w hw hg => List.mem_cons_of_mem _ (List.mem_filter.mpr ⟨List.mem_append.mpr (.inr (List.mem_append.mpr (.inr (List.mem_append.mpr (.inr (List.mem_append.mpr (.inr (List.mem_append.mpr (.inr (List.mem_append.mpr (.inr (List.mem_append.mpr (.inl hw))))))))))))), hg⟩)
theorem am_in7 : ∀ w ∈ tables_1_7, am_gw w = true → w ∈ am_tbl := fun w hw hg => List.mem_cons_of_mem _ (List.mem_filter.mpr ⟨List.mem_append.mpr (.inr (List.mem_append.mpr (.inr (List.mem_append.mpr (.inr (List.mem_append.mpr (.inr (List.mem_append.mpr (.inr (List.mem_append.mpr (.inr (List.mem_append.mpr (.inr (List.mem_append.mpr (.inl hw))))))))))))))), hg⟩)
theorem am_in8 : ∀ w ∈ tables_1_8, am_gw w = true → w ∈ am_tbl := fun w hw hg => List.mem_cons_of_mem _ (List.mem_filter.mpr ⟨List.mem_append.mpr (.inr (List.mem_append.mpr (.inr (List.mem_append.mpr (.inr (List.mem_append.mpr (.inr (List.mem_append.mpr (.inr (List.mem_append.mpr (.inr (List.mem_append.mpr (.inr (List.mem_append.mpr (.inr (List.mem_append.mpr (.inl hw))))))))))))))))), hg⟩)
theorem am_in9 : ∀ w ∈ tables_1_9, am_gw w = true → w ∈ am_tbl := fun w hw hg => List.mem_cons_of_mem _ (List.mem_filter.mpr ⟨List.mem_append.mpr (.inr (List.mem_append.mpr (.inr (List.mem_append.mpr (.inr (List.mem_append.mpr (.inr (List.mem_append.mpr (.inr (List.mem_append.mpr (.inr (List.mem_append.mpr (.inr (List.mem_append.mpr (.inr (List.mem_append.mpr (.inr (List.mem_append.mpr (.inl hw))))))))))))))))))), hg⟩)
theorem am_in10 : ∀ w ∈ tables_1_10, am_gw w = true → w ∈ am_tbl := fun w hw hg => List.mem_cons_of_mem _ (List.mem_filter.mpr ⟨List.mem_append.mpr (.inr (List.mem_append.mpr (.inr (List.mem_append.mpr (.inr (List.mem_append.mpr (.inr (List.mem_append.mpr (.inr (List.mem_append.mpr (.inr (List.mem_append.mpr (.inr (List.mem_append.mpr (.inr (List.mem_append.mpr (.inr (List.mem_append.mpr (.inr (List.mem_append.mpr (.inl hw))))))))))))))))))))), hg⟩)
theorem am_in11 : ∀ w ∈ tables_1_11, am_gw w = true → w ∈ am_tbl := fun w hw hg => List.mem_cons_of_mem _ (List.mem_filter.mpr ⟨List.mem_append.mpr (.inr (List.mem_append.mpr (.inr (List.mem_append.mpr (.inr (List.mem_append.mpr (.inr (List.mem_append.mpr (.inr (List.mem_append.mpr (.inr (List.mem_append.mpr (.inr (List.mem_append.mpr (.inr (List.mem_append.mpr (.inr (List.mem_append.mpr (.inr (List.mem_append.mpr (.inr (List.mem_append.mpr (.inl hw))))))))))))))))))))))), hg⟩)
theorem am_in12 : ∀ w ∈ tables_1_12, am_gw w = true → w ∈ am_tbl := fun w hw hg => List.mem_cons_of_mem _ (List.mem_filter.mpr ⟨List.mem_append.mpr (.inr (List.mem_append.mpr (.inr (List.mem_append.mpr (.inr (List.mem_append.mpr (.inr (List.mem_append.mpr (.inr (List.mem_append.mpr (.inr (List.mem_append.mpr (.inr (List.mem_append.mpr (.inr (List.mem_append.mpr (.inr (List.mem_append.mpr (.inr (List.mem_append.mpr (.inr (List.mem_append.mpr (.inr (List.mem_append.mpr (.inl hw))))))))))))))))))))))))), hg⟩)
theorem am_in13 : ∀ w ∈ tables_1_13, am_gw w = true → w ∈ am_tbl := fun w hw hg => List.mem_cons_of_mem _ (List.mem_filter.mpr ⟨List.mem_append.mpr (.inr (List.mem_append.mpr (.inr (List.mem_append.mpr (.inr (List.mem_append.mpr (.inr (List.mem_append.mpr (.inr (List.mem_append.mpr (.inr (List.mem_append.mpr (.inr (List.mem_append.mpr (.inr (List.mem_append.mpr (.inr (List.mem_append.mpr (.inr (List.mem_append.mpr (.inr (List.mem_append.mpr (.inr (List.mem_append.mpr (.inr (List.mem_append.mpr (.inl hw))))))))))))))))))))))))))), hg⟩)
theorem am_in14 : ∀ w ∈ tables_1_14, am_gw w = true → w ∈ am_tbl := fun w hw hg => List.mem_cons_of_mem _ (List.mem_filter.mpr ⟨List.mem_append.mpr (.inr (List.mem_append.mpr (.inr (List.mem_append.mpr (.inr (List.mem_append.mpr (.inr (List.mem_append.mpr (.inr (List.mem_append.mpr (.inr (List.mem_append.mpr (.inr (List.mem_append.mpr (.inr (List.mem_append.mpr (.inr (List.mem_append.mpr (.inr (List.mem_append.mpr (.inr (List.mem_append.mpr (.inr (List.mem_append.mpr (.inr (List.mem_append.mpr (.inr (List.mem_append.mpr (.inl hw))))))))))))))))))))))))))))), hg⟩)
theorem am_in15 : ∀ w ∈ tables_1_15, am_gw w = true → w ∈ am_tbl := fun w hw hg => List.mem_cons_of_mem _ (List.mem_filter.mpr ⟨List.mem_append.mpr (.inr (List.mem_append.mpr (.inr (List.mem_append.mpr (.inr (List.mem_append.mpr (.inr (List.mem_append.mpr (.inr (List.mem_append.mpr (.inr (List.mem_append.mpr (.inr (List.mem_append.mpr (.inr (List.mem_append.mpr (.inr (List.mem_append.mpr (.inr (List.mem_append.mpr (.inr (List.mem_append.mpr (.inr (List.mem_append.mpr (.inr (List.mem_append.mpr (.inr (List.mem_append.mpr (.inr (hw)))))))))))))))))))))))))))))), hg⟩)
set_option maxRecDepth 20000 in
theorem am_w0 : ∀ w ∈ u_ws "FlowSession" am_F0 18, w ∈ am_tbl := List.forall_mem_cons.mpr ⟨(am_in4 _ (List.mem_of_getElem? (i := 142) rfl) rfl), List.forall_mem_cons.mpr ⟨(am_in4 _ (List.mem_of_getElem? (i := 144) rfl) rfl), List.forall_mem_cons.mpr ⟨(am_in4 _ (List.mem_of_getElem? (i := 146) rfl) rfl), List.forall_mem_cons.mpr ⟨(am_in4 _ (List.mem_of_getElem? (i := 148) rfl) rfl), List.forall_mem_cons.mpr ⟨(am_in4 _ (List.mem_of_getElem? (i := 150) rfl) rfl), List.forall_mem_cons.mpr ⟨(am_in4 _ (List.mem_of_getElem? (i := 152) rfl) rfl), List.forall_mem_cons.mpr ⟨(am_in4 _ (List.mem_of_getElem? (i := 154) rfl) rfl), List.forall_mem_cons.mpr ⟨(am_in4 _ (List.mem_of_getElem? (i := 156) rfl) rfl), List.forall_mem_cons.mpr ⟨(am_in4 _ (List.mem_of_getElem? (i := 158) rfl) rfl), List.forall_mem_cons.mpr ⟨(am_in4 _ (List.mem_of_getElem? (i := 160) rfl) rfl), List.forall_mem_cons.mpr ⟨(am_in4 _ (List.mem_of_getElem? (i := 162) rfl) rfl), List.forall_mem_cons.mpr ⟨(am_in4 _ (List.mem_of_getElem? (i := 164) rfl) rfl), List.forall_mem_cons.mpr ⟨(am_in4 _ (List.mem_of_getElem? (i := 166) rfl) rfl), List.forall_mem_cons.mpr ⟨(am_in4 _ (List.mem_of_getElem? (i := 168) rfl) rfl), List.forall_mem_cons.mpr ⟨(am_in4 _ (List.mem_of_getElem? (i := 170) rfl) rfl), List.forall_mem_cons.mpr ⟨(am_in4 _ (List.mem_of_getElem? (i := 172) rfl) rfl), List.forall_mem_cons.mpr ⟨(am_in4 _ (List.mem_of_getElem? (i := 174) rfl) rfl), List.forall_mem_cons.mpr ⟨(am_in4 _ (List.mem_of_getElem? (i := 176) rfl) rfl), fun _ h => absurd h List.not_mem_nil⟩⟩⟩⟩⟩⟩⟩⟩⟩⟩⟩⟩⟩⟩⟩⟩⟩⟩
theorem am_n0 : ∀ a, a < 18 → ∀ b, b < 18 → a ≠ b → (am_F0 a).2.1 ≠ (am_F0 b).2.1 := by decide +kernel
theorem am_p0 : ∀ k, k < 18 → parseFieldDescriptor (am_F0 k).2.2.1 = some (am_t0 k) := by decide +kernel
theorem am_z0 : Cond.instantiable "FlowSession" 18 ∈ am_tbl ∧ Cond.initialized "FlowSession" ∈ am_tbl := ⟨(am_in1 _ (List.mem_of_getElem? (i := 34) rfl) rfl), (am_in1 _ (List.mem_of_getElem? (i := 1) rfl) rfl)⟩
set_option maxRecDepth 20000 in
theorem am_w1 : ∀ w ∈ u_ws "FlowSession$FlowReader" am_F1 6, w ∈ am_tbl := List.forall_mem_cons.mpr ⟨(am_in2 _ (List.mem_of_getElem? (i := 109) rfl) rfl), List.forall_mem_cons.mpr ⟨(am_in2 _ (List.mem_of_getElem? (i := 111) rfl) rfl), List.forall_mem_cons.mpr ⟨(am_in2 _ (List.mem_of_getElem? (i := 113) rfl) rfl), List.forall_mem_cons.mpr ⟨(am_in2 _ (List.mem_of_getElem? (i := 115) rfl) rfl), List.forall_mem_cons.mpr ⟨(am_in2 _ (List.mem_of_getElem? (i := 117) rfl) rfl), List.forall_mem_cons.mpr ⟨(am_in2 _ (List.mem_of_getElem? (i := 119) rfl) rfl), fun _ h => absurd h List.not_mem_nil⟩⟩⟩⟩⟩⟩
theorem am_n1 : ∀ a, a < 6 → ∀ b, b < 6 → a ≠ b → (am_F1 a).2.1 ≠ (am_F1 b).2.1 := by decide +kernel
theorem am_p1 : ∀ k, k < 6 → parseFieldDescriptor (am_F1 k).2.2.1 = some (am_t1 k) := by decide +kernel
theorem am_z1 : Cond.instantiable "FlowSession$FlowReader" 6 ∈ am_tbl ∧ Cond.initialized "FlowSession$FlowReader" ∈ am_tbl := ⟨(am_in1 _ (List.mem_of_getElem? (i := 42) rfl) rfl), (am_in1 _ (List.mem_of_getElem? (i := 2) rfl) rfl)⟩
set_option maxRecDepth 20000 in
theorem am_w2 : ∀ w ∈ u_ws "FlowSession$FlowReader$Tokens" am_F2 12, w ∈ am_tbl := List.forall_mem_cons.mpr ⟨(am_in1 _ (List.mem_of_getElem? (i := 197) rfl) rfl), List.forall_mem_cons.mpr ⟨(am_in1 _ (List.mem_of_getElem? (i := 199) rfl) rfl), List.forall_mem_cons.mpr ⟨(am_in1 _ (List.mem_of_getElem? (i := 201) rfl) rfl), List.forall_mem_cons.mpr ⟨(am_in1 _ (List.mem_of_getElem? (i := 203) rfl) rfl), List.forall_mem_cons.mpr ⟨(am_in1 _ (List.mem_of_getElem? (i := 205) rfl) rfl), List.forall_mem_cons.mpr ⟨(am_in1 _ (List.mem_of_getElem? (i := 207) rfl) rfl), List.forall_mem_cons.mpr ⟨(am_in1 _ (List.mem_of_getElem? (i := 209) rfl) rfl), List.forall_mem_cons.mpr ⟨(am_in1 _ (List.mem_of_getElem? (i := 211) rfl) rfl), List.forall_mem_cons.mpr ⟨(am_in1 _ (List.mem_of_getElem? (i := 213) rfl) rfl), List.forall_mem_cons.mpr ⟨(am_in1 _ (List.mem_of_getElem? (i := 215) rfl) rfl), List.forall_mem_cons.mpr ⟨(am_in1 _ (List.mem_of_getElem? (i := 217) rfl) rfl), List.forall_mem_cons.mpr ⟨(am_in1 _ (List.mem_of_getElem? (i := 219) rfl) rfl), fun _ h => absurd h List.not_mem_nil⟩⟩⟩⟩⟩⟩⟩⟩⟩⟩⟩⟩
theorem am_n2 : ∀ a, a < 12 → ∀ b, b < 12 → a ≠ b → (am_F2 a).2.1 ≠ (am_F2 b).2.1 := by decide +kernel
theorem am_p2 : ∀ k, k < 12 → parseFieldDescriptor (am_F2 k).2.2.1 = some (am_t2 k) := by decide +kernel
theorem am_z2 : Cond.instantiable "FlowSession$FlowReader$Tokens" 12 ∈ am_tbl ∧ Cond.initialized "FlowSession$FlowReader$Tokens" ∈ am_tbl := ⟨(am_in1 _ (List.mem_of_getElem? (i := 48) rfl) rfl), (am_in1 _ (List.mem_of_getElem? (i := 3) rfl) rfl)⟩
set_option maxRecDepth 20000 in
theorem am_w3 : ∀ w ∈ u_ws "FlowSession$FlowReader$Names" am_F3 4, w ∈ am_tbl := List.forall_mem_cons.mpr ⟨(am_in1 _ (List.mem_of_getElem? (i := 87) rfl) rfl), List.forall_mem_cons.mpr ⟨(am_in1 _ (List.mem_of_getElem? (i := 89) rfl) rfl), List.forall_mem_cons.mpr ⟨(am_in1 _ (List.mem_of_getElem? (i := 91) rfl) rfl), List.forall_mem_cons.mpr ⟨(am_in1 _ (List.mem_of_getElem? (i := 93) rfl) rfl), fun _ h => absurd h List.not_mem_nil⟩⟩⟩⟩
theorem am_n3 : ∀ a, a < 4 → ∀ b, b < 4 → a ≠ b → (am_F3 a).2.1 ≠ (am_F3 b).2.1 := by decide +kernel
theorem am_p3 : ∀ k, k < 4 → parseFieldDescriptor (am_F3 k).2.2.1 = some (am_t3 k) := by decide +kernel
theorem am_z3 : Cond.instantiable "FlowSession$FlowReader$Names" 4 ∈ am_tbl ∧ Cond.initialized "FlowSession$FlowReader$Names" ∈ am_tbl := ⟨(am_in1 _ (List.mem_of_getElem? (i := 54) rfl) rfl), (am_in1 _ (List.mem_of_getElem? (i := 4) rfl) rfl)⟩
set_option maxRecDepth 20000 in
theorem am_w4 : ∀ w ∈ u_ws "FlowSession$FlowReader$Row" am_F4 2, w ∈ am_tbl := List.forall_mem_cons.mpr ⟨(am_in1 _ (List.mem_of_getElem? (i := 75) rfl) rfl), List.forall_mem_cons.mpr ⟨(am_in1 _ (List.mem_of_getElem? (i := 77) rfl) rfl), fun _ h => absurd h List.not_mem_nil⟩⟩
theorem am_n4 : ∀ a, a < 2 → ∀ b, b < 2 → a ≠ b → (am_F4 a).2.1 ≠ (am_F4 b).2.1 := by decide +kernel
theorem am_p4 : ∀ k, k < 2 → parseFieldDescriptor (am_F4 k).2.2.1 = some (am_t4 k) := by decide +kernel
theorem am_z4 : Cond.instantiable "FlowSession$FlowReader$Row" 2 ∈ am_tbl ∧ Cond.initialized "FlowSession$FlowReader$Row" ∈ am_tbl := ⟨(am_in1 _ (List.mem_of_getElem? (i := 60) rfl) rfl), (am_in1 _ (List.mem_of_getElem? (i := 5) rfl) rfl)⟩
set_option maxRecDepth 20000 in
theorem am_w5 : ∀ w ∈ u_ws "FlowSession$FlowReader$Reader" am_F5 11, w ∈ am_tbl := List.forall_mem_cons.mpr ⟨(am_in2 _ (List.mem_of_getElem? (i := 6) rfl) rfl), List.forall_mem_cons.mpr ⟨(am_in2 _ (List.mem_of_getElem? (i := 8) rfl) rfl), List.forall_mem_cons.mpr ⟨(am_in2 _ (List.mem_of_getElem? (i := 10) rfl) rfl), List.forall_mem_cons.mpr ⟨(am_in2 _ (List.mem_of_getElem? (i := 12) rfl) rfl), List.forall_mem_cons.mpr ⟨(am_in2 _ (List.mem_of_getElem? (i := 14) rfl) rfl), List.forall_mem_cons.mpr ⟨(am_in2 _ (List.mem_of_getElem? (i := 16) rfl) rfl), List.forall_mem_cons.mpr ⟨(am_in2 _ (List.mem_of_getElem? (i := 18) rfl) rfl), List.forall_mem_cons.mpr ⟨(am_in2 _ (List.mem_of_getElem? (i := 20) rfl) rfl), List.forall_mem_cons.mpr ⟨(am_in2 _ (List.mem_of_getElem? (i := 22) rfl) rfl), List.forall_mem_cons.mpr ⟨(am_in2 _ (List.mem_of_getElem? (i := 24) rfl) rfl), List.forall_mem_cons.mpr ⟨(am_in2 _ (List.mem_of_getElem? (i := 26) rfl) rfl), fun _ h => absurd h List.not_mem_nil⟩⟩⟩⟩⟩⟩⟩⟩⟩⟩⟩
theorem am_n5 : ∀ a, a < 11 → ∀ b, b < 11 → a ≠ b → (am_F5 a).2.1 ≠ (am_F5 b).2.1 := by decide +kernel
theorem am_p5 : ∀ k, k < 11 → parseFieldDescriptor (am_F5 k).2.2.1 = some (am_t5 k) := by decide +kernel
theorem am_z5 : Cond.instantiable "FlowSession$FlowReader$Reader" 11 ∈ am_tbl ∧ Cond.initialized "FlowSession$FlowReader$Reader" ∈ am_tbl := ⟨(am_in1 _ (List.mem_of_getElem? (i := 223) rfl) rfl), (am_in1 _ (List.mem_of_getElem? (i := 11) rfl) rfl)⟩
set_option maxRecDepth 20000 in
theorem am_w6 : ∀ w ∈ u_ws "FlowSession$FlowReader$Maker" am_F6 17, w ∈ am_tbl := List.forall_mem_cons.mpr ⟨(am_in2 _ (List.mem_of_getElem? (i := 68) rfl) rfl), List.forall_mem_cons.mpr ⟨(am_in2 _ (List.mem_of_getElem? (i := 70) rfl) rfl), List.forall_mem_cons.mpr ⟨(am_in2 _ (List.mem_of_getElem? (i := 72) rfl) rfl), List.forall_mem_cons.mpr ⟨(am_in2 _ (List.mem_of_getElem? (i := 74) rfl) rfl), List.forall_mem_cons.mpr ⟨(am_in2 _ (List.mem_of_getElem? (i := 76) rfl) rfl), List.forall_mem_cons.mpr ⟨(am_in2 _ (List.mem_of_getElem? (i := 78) rfl) rfl), List.forall_mem_cons.mpr ⟨(am_in2 _ (List.mem_of_getElem? (i := 80) rfl) rfl), List.forall_mem_cons.mpr ⟨(am_in2 _ (List.mem_of_getElem? (i := 82) rfl) rfl), List.forall_mem_cons.mpr ⟨(am_in2 _ (List.mem_of_getElem? (i := 84) rfl) rfl), List.forall_mem_cons.mpr ⟨(am_in2 _ (List.mem_of_getElem? (i := 86) rfl) rfl), List.forall_mem_cons.mpr ⟨(am_in2 _ (List.mem_of_getElem? (i := 88) rfl) rfl), List.forall_mem_cons.mpr ⟨(am_in2 _ (List.mem_of_getElem? (i := 90) rfl) rfl), List.forall_mem_cons.mpr ⟨(am_in2 _ (List.mem_of_getElem? (i := 92) rfl) rfl), List.forall_mem_cons.mpr ⟨(am_in2 _ (List.mem_of_getElem? (i := 94) rfl) rfl), List.forall_mem_cons.mpr ⟨(am_in2 _ (List.mem_of_getElem? (i := 96) rfl) rfl), List.forall_mem_cons.mpr ⟨(am_in2 _ (List.mem_of_getElem? (i := 98) rfl) rfl), List.forall_mem_cons.mpr ⟨(am_in2 _ (List.mem_of_getElem? (i := 100) rfl) rfl), fun _ h => absurd h List.not_mem_nil⟩⟩⟩⟩⟩⟩⟩⟩⟩⟩⟩⟩⟩⟩⟩⟩⟩
theorem am_n6 : ∀ a, a < 17 → ∀ b, b < 17 → a ≠ b → (am_F6 a).2.1 ≠ (am_F6 b).2.1 := by decide +kernel
theorem am_p6 : ∀ k, k < 17 → parseFieldDescriptor (am_F6 k).2.2.1 = some (am_t6 k) := by decide +kernel
theorem am_z6 : Cond.instantiable "FlowSession$FlowReader$Maker" 17 ∈ am_tbl ∧ Cond.initialized "FlowSession$FlowReader$Maker" ∈ am_tbl := ⟨(am_in2 _ (List.mem_of_getElem? (i := 30) rfl) rfl), (am_in1 _ (List.mem_of_getElem? (i := 12) rfl) rfl)⟩
set_option maxRecDepth 20000 in
theorem am_w7 : ∀ w ∈ u_ws "FlowSession$Compiler" am_F7 18, w ∈ am_tbl := List.forall_mem_cons.mpr ⟨(am_in2 _ (List.mem_of_getElem? (i := 164) rfl) rfl), List.forall_mem_cons.mpr ⟨(am_in2 _ (List.mem_of_getElem? (i := 166) rfl) rfl), List.forall_mem_cons.mpr ⟨(am_in2 _ (List.mem_of_getElem? (i := 168) rfl) rfl), List.forall_mem_cons.mpr ⟨(am_in2 _ (List.mem_of_getElem? (i := 170) rfl) rfl), List.forall_mem_cons.mpr ⟨(am_in2 _ (List.mem_of_getElem? (i := 172) rfl) rfl), List.forall_mem_cons.mpr ⟨(am_in2 _ (List.mem_of_getElem? (i := 174) rfl) rfl), List.forall_mem_cons.mpr ⟨(am_in2 _ (List.mem_of_getElem? (i := 176) rfl) rfl), List.forall_mem_cons.mpr ⟨(am_in2 _ (List.mem_of_getElem? (i := 178) rfl) rfl), List.forall_mem_cons.mpr ⟨(am_in2 _ (List.mem_of_getElem? (i := 180) rfl) rfl), List.forall_mem_cons.mpr ⟨(am_in2 _ (List.mem_of_getElem? (i := 182) rfl) rfl), List.forall_mem_cons.mpr ⟨(am_in2 _ (List.mem_of_getElem? (i := 184) rfl) rfl), List.forall_mem_cons.mpr ⟨(am_in2 _ (List.mem_of_getElem? (i := 186) rfl) rfl), List.forall_mem_cons.mpr ⟨(am_in2 _ (List.mem_of_getElem? (i := 188) rfl) rfl), List.forall_mem_cons.mpr ⟨(am_in2 _ (List.mem_of_getElem? (i := 190) rfl) rfl), List.forall_mem_cons.mpr ⟨(am_in2 _ (List.mem_of_getElem? (i := 192) rfl) rfl), List.forall_mem_cons.mpr ⟨(am_in2 _ (List.mem_of_getElem? (i := 194) rfl) rfl), List.forall_mem_cons.mpr ⟨(am_in2 _ (List.mem_of_getElem? (i := 196) rfl) rfl), List.forall_mem_cons.mpr ⟨(am_in2 _ (List.mem_of_getElem? (i := 198) rfl) rfl), fun _ h => absurd h List.not_mem_nil⟩⟩⟩⟩⟩⟩⟩⟩⟩⟩⟩⟩⟩⟩⟩⟩⟩⟩
theorem am_n7 : ∀ a, a < 18 → ∀ b, b < 18 → a ≠ b → (am_F7 a).2.1 ≠ (am_F7 b).2.1 := by decide +kernel
theorem am_p7 : ∀ k, k < 18 → parseFieldDescriptor (am_F7 k).2.2.1 = some (am_t7 k) := by decide +kernel
theorem am_z7 : Cond.instantiable "FlowSession$Compiler" 18 ∈ am_tbl ∧ Cond.initialized "FlowSession$Compiler" ∈ am_tbl := ⟨(am_in2 _ (List.mem_of_getElem? (i := 123) rfl) rfl), (am_in1 _ (List.mem_of_getElem? (i := 13) rfl) rfl)⟩
set_option maxRecDepth 20000 in
theorem am_w8 : ∀ w ∈ u_ws "FlowSession$Compiler$Words" am_F8 2, w ∈ am_tbl := List.forall_mem_cons.mpr ⟨(am_in2 _ (List.mem_of_getElem? (i := 140) rfl) rfl), List.forall_mem_cons.mpr ⟨(am_in2 _ (List.mem_of_getElem? (i := 142) rfl) rfl), fun _ h => absurd h List.not_mem_nil⟩⟩
theorem am_n8 : ∀ a, a < 2 → ∀ b, b < 2 → a ≠ b → (am_F8 a).2.1 ≠ (am_F8 b).2.1 := by decide +kernel
theorem am_p8 : ∀ k, k < 2 → parseFieldDescriptor (am_F8 k).2.2.1 = some (am_t8 k) := by decide +kernel
theorem am_z8 : Cond.instantiable "FlowSession$Compiler$Words" 2 ∈ am_tbl ∧ Cond.initialized "FlowSession$Compiler$Words" ∈ am_tbl := ⟨(am_in2 _ (List.mem_of_getElem? (i := 129) rfl) rfl), (am_in1 _ (List.mem_of_getElem? (i := 14) rfl) rfl)⟩
set_option maxRecDepth 20000 in
theorem am_w9 : ∀ w ∈ u_ws "FlowSession$FlowMachine" am_F9 35, w ∈ am_tbl := List.forall_mem_cons.mpr ⟨(am_in4 _ (List.mem_of_getElem? (i := 7) rfl) rfl), List.forall_mem_cons.mpr ⟨(am_in4 _ (List.mem_of_getElem? (i := 9) rfl) rfl), List.forall_mem_cons.mpr ⟨(am_in4 _ (List.mem_of_getElem? (i := 11) rfl) rfl), List.forall_mem_cons.mpr ⟨(am_in4 _ (List.mem_of_getElem? (i := 13) rfl) rfl), List.forall_mem_cons.mpr ⟨(am_in4 _ (List.mem_of_getElem? (i := 15) rfl) rfl), List.forall_mem_cons.mpr ⟨(am_in4 _ (List.mem_of_getElem? (i := 17) rfl) rfl), List.forall_mem_cons.mpr ⟨(am_in4 _ (List.mem_of_getElem? (i := 19) rfl) rfl), List.forall_mem_cons.mpr ⟨(am_in4 _ (List.mem_of_getElem? (i := 21) rfl) rfl), List.forall_mem_cons.mpr ⟨(am_in4 _ (List.mem_of_getElem? (i := 23) rfl) rfl), List.forall_mem_cons.mpr ⟨(am_in4 _ (List.mem_of_getElem? (i := 25) rfl) rfl), List.forall_mem_cons.mpr ⟨(am_in4 _ (List.mem_of_getElem? (i := 27) rfl) rfl), List.forall_mem_cons.mpr ⟨(am_in4 _ (List.mem_of_getElem? (i := 29) rfl) rfl), List.forall_mem_cons.mpr ⟨(am_in4 _ (List.mem_of_getElem? (i := 31) rfl) rfl), List.forall_mem_cons.mpr ⟨(am_in4 _ (List.mem_of_getElem? (i := 33) rfl) rfl), List.forall_mem_cons.mpr ⟨(am_in4 _ (List.mem_of_getElem? (i := 35) rfl) rfl), List.forall_mem_cons.mpr ⟨(am_in4 _ (List.mem_of_getElem? (i := 37) rfl) rfl), List.forall_mem_cons.mpr ⟨(am_in4 _ (List.mem_of_getElem? (i := 39) rfl) rfl), List.forall_mem_cons.mpr ⟨(am_in4 _ (List.mem_of_getElem? (i := 41) rfl) rfl), List.forall_mem_cons.mpr ⟨(am_in4 _ (List.mem_of_getElem? (i := 43) rfl) rfl), List.forall_mem_cons.mpr ⟨(am_in4 _ (List.mem_of_getElem? (i := 45) rfl) rfl), List.forall_mem_cons.mpr ⟨(am_in4 _ (List.mem_of_getElem? (i := 47) rfl) rfl), List.forall_mem_cons.mpr ⟨(am_in4 _ (List.mem_of_getElem? (i := 49) rfl) rfl), List.forall_mem_cons.mpr ⟨(am_in4 _ (List.mem_of_getElem? (i := 51) rfl) rfl), List.forall_mem_cons.mpr ⟨(am_in4 _ (List.mem_of_getElem? (i := 53) rfl) rfl), List.forall_mem_cons.mpr ⟨(am_in4 _ (List.mem_of_getElem? (i := 55) rfl) rfl), List.forall_mem_cons.mpr ⟨(am_in4 _ (List.mem_of_getElem? (i := 57) rfl) rfl), List.forall_mem_cons.mpr ⟨(am_in4 _ (List.mem_of_getElem? (i := 59) rfl) rfl), List.forall_mem_cons.mpr ⟨(am_in4 _ (List.mem_of_getElem? (i := 61) rfl) rfl), List.forall_mem_cons.mpr ⟨(am_in4 _ (List.mem_of_getElem? (i := 63) rfl) rfl), List.forall_mem_cons.mpr ⟨(am_in4 _ (List.mem_of_getElem? (i := 65) rfl) rfl), List.forall_mem_cons.mpr ⟨(am_in4 _ (List.mem_of_getElem? (i := 67) rfl) rfl), List.forall_mem_cons.mpr ⟨(am_in4 _ (List.mem_of_getElem? (i := 69) rfl) rfl), List.forall_mem_cons.mpr ⟨(am_in4 _ (List.mem_of_getElem? (i := 71) rfl) rfl), List.forall_mem_cons.mpr ⟨(am_in4 _ (List.mem_of_getElem? (i := 73) rfl) rfl), List.forall_mem_cons.mpr ⟨(am_in4 _ (List.mem_of_getElem? (i := 75) rfl) rfl), fun _ h => absurd h List.not_mem_nil⟩⟩⟩⟩⟩⟩⟩⟩⟩⟩⟩⟩⟩⟩⟩⟩⟩⟩⟩⟩⟩⟩⟩⟩⟩⟩⟩⟩⟩⟩⟩⟩⟩⟩⟩
theorem am_n9 : ∀ a, a < 35 → ∀ b, b < 35 → a ≠ b → (am_F9 a).2.1 ≠ (am_F9 b).2.1 := by decide +kernel
theorem am_p9 : ∀ k, k < 35 → parseFieldDescriptor (am_F9 k).2.2.1 = some (am_t9 k) := by decide +kernel
theorem am_z9 : Cond.instantiable "FlowSession$FlowMachine" 35 ∈ am_tbl ∧ Cond.initialized "FlowSession$FlowMachine" ∈ am_tbl := ⟨(am_in2 _ (List.mem_of_getElem? (i := 202) rfl) rfl), (am_in1 _ (List.mem_of_getElem? (i := 15) rfl) rfl)⟩
set_option maxRecDepth 20000 in
theorem am_w10 : ∀ w ∈ u_ws "FlowSession$FlowMachine$TreeStore" am_F10 33, w ∈ am_tbl := List.forall_mem_cons.mpr ⟨(am_in3 _ (List.mem_of_getElem? (i := 62) rfl) rfl), List.forall_mem_cons.mpr ⟨(am_in3 _ (List.mem_of_getElem? (i := 64) rfl) rfl), List.forall_mem_cons.mpr ⟨(am_in3 _ (List.mem_of_getElem? (i := 66) rfl) rfl), List.forall_mem_cons.mpr ⟨(am_in3 _ (List.mem_of_getElem? (i := 68) rfl) rfl), List.forall_mem_cons.mpr ⟨(am_in3 _ (List.mem_of_getElem? (i := 70) rfl) rfl), List.forall_mem_cons.mpr ⟨(am_in3 _ (List.mem_of_getElem? (i := 72) rfl) rfl), List.forall_mem_cons.mpr ⟨(am_in3 _ (List.mem_of_getElem? (i := 74) rfl) rfl), List.forall_mem_cons.mpr ⟨(am_in3 _ (List.mem_of_getElem? (i := 76) rfl) rfl), List.forall_mem_cons.mpr ⟨(am_in3 _ (List.mem_of_getElem? (i := 78) rfl) rfl), List.forall_mem_cons.mpr ⟨(am_in3 _ (List.mem_of_getElem? (i := 80) rfl) rfl), List.forall_mem_cons.mpr ⟨(am_in3 _ (List.mem_of_getElem? (i := 82) rfl) rfl), List.forall_mem_cons.mpr ⟨(am_in3 _ (List.mem_of_getElem? (i := 84) rfl) rfl), List.forall_mem_cons.mpr ⟨(am_in3 _ (List.mem_of_getElem? (i := 86) rfl) rfl), List.forall_mem_cons.mpr ⟨(am_in3 _ (List.mem_of_getElem? (i := 88) rfl) rfl), List.forall_mem_cons.mpr ⟨(am_in3 _ (List.mem_of_getElem? (i := 90) rfl) rfl), List.forall_mem_cons.mpr ⟨(am_in3 _ (List.mem_of_getElem? (i := 92) rfl) rfl), List.forall_mem_cons.mpr ⟨(am_in3 _ (List.mem_of_getElem? (i := 94) rfl) rfl), List.forall_mem_cons.mpr ⟨(am_in3 _ (List.mem_of_getElem? (i := 96) rfl) rfl), List.forall_mem_cons.mpr ⟨(am_in3 _ (List.mem_of_getElem? (i := 98) rfl) rfl), List.forall_mem_cons.mpr ⟨(am_in3 _ (List.mem_of_getElem? (i := 100) rfl) rfl), List.forall_mem_cons.mpr ⟨(am_in3 _ (List.mem_of_getElem? (i := 102) rfl) rfl), List.forall_mem_cons.mpr ⟨(am_in3 _ (List.mem_of_getElem? (i := 104) rfl) rfl), List.forall_mem_cons.mpr ⟨(am_in3 _ (List.mem_of_getElem? (i := 106) rfl) rfl), List.forall_mem_cons.mpr ⟨(am_in3 _ (List.mem_of_getElem? (i := 108) rfl) rfl), List.forall_mem_cons.mpr ⟨(am_in3 _ (List.mem_of_getElem? (i := 110) rfl) rfl), List.forall_mem_cons.mpr ⟨(am_in3 _ (List.mem_of_getElem? (i := 112) rfl) rfl), List.forall_mem_cons.mpr ⟨(am_in3 _ (List.mem_of_getElem? (i := 114) rfl) rfl), List.forall_mem_cons.mpr ⟨(am_in3 _ (List.mem_of_getElem? (i := 116) rfl) rfl), List.forall_mem_cons.mpr ⟨(am_in3 _ (List.mem_of_getElem? (i := 118) rfl) rfl), List.forall_mem_cons.mpr ⟨(am_in3 _ (List.mem_of_getElem? (i := 120) rfl) rfl), List.forall_mem_cons.mpr ⟨(am_in3 _ (List.mem_of_getElem? (i := 122) rfl) rfl), List.forall_mem_cons.mpr ⟨(am_in3 _ (List.mem_of_getElem? (i := 124) rfl) rfl), List.forall_mem_cons.mpr ⟨(am_in3 _ (List.mem_of_getElem? (i := 126) rfl) rfl), fun _ h => absurd h List.not_mem_nil⟩⟩⟩⟩⟩⟩⟩⟩⟩⟩⟩⟩⟩⟩⟩⟩⟩⟩⟩⟩⟩⟩⟩⟩⟩⟩⟩⟩⟩⟩⟩⟩⟩
theorem am_n10 : ∀ a, a < 33 → ∀ b, b < 33 → a ≠ b → (am_F10 a).2.1 ≠ (am_F10 b).2.1 := by decide +kernel
theorem am_p10 : ∀ k, k < 33 → parseFieldDescriptor (am_F10 k).2.2.1 = some (am_t10 k) := by decide +kernel
theorem am_z10 : Cond.instantiable "FlowSession$FlowMachine$TreeStore" 33 ∈ am_tbl ∧ Cond.initialized "FlowSession$FlowMachine$TreeStore" ∈ am_tbl := ⟨(am_in2 _ (List.mem_of_getElem? (i := 208) rfl) rfl), (am_in1 _ (List.mem_of_getElem? (i := 16) rfl) rfl)⟩
set_option maxRecDepth 20000 in
theorem am_w11 : ∀ w ∈ u_ws "FlowSession$FlowMachine$TreeStore$Fields" am_F11 2, w ∈ am_tbl := List.forall_mem_cons.mpr ⟨(am_in3 _ (List.mem_of_getElem? (i := 3) rfl) rfl), List.forall_mem_cons.mpr ⟨(am_in3 _ (List.mem_of_getElem? (i := 5) rfl) rfl), fun _ h => absurd h List.not_mem_nil⟩⟩
theorem am_n11 : ∀ a, a < 2 → ∀ b, b < 2 → a ≠ b → (am_F11 a).2.1 ≠ (am_F11 b).2.1 := by decide +kernel
theorem am_p11 : ∀ k, k < 2 → parseFieldDescriptor (am_F11 k).2.2.1 = some (am_t11 k) := by decide +kernel
theorem am_z11 : Cond.instantiable "FlowSession$FlowMachine$TreeStore$Fields" 2 ∈ am_tbl ∧ Cond.initialized "FlowSession$FlowMachine$TreeStore$Fields" ∈ am_tbl := ⟨(am_in2 _ (List.mem_of_getElem? (i := 215) rfl) rfl), (am_in1 _ (List.mem_of_getElem? (i := 17) rfl) rfl)⟩
set_option maxRecDepth 20000 in
theorem am_w12 : ∀ w ∈ u_ws "FlowSession$FlowMachine$TreeStore$Ints" am_F12 2, w ∈ am_tbl := List.forall_mem_cons.mpr ⟨(am_in2 _ (List.mem_of_getElem? (i := 230) rfl) rfl), List.forall_mem_cons.mpr ⟨(am_in2 _ (List.mem_of_getElem? (i := 232) rfl) rfl), fun _ h => absurd h List.not_mem_nil⟩⟩
theorem am_n12 : ∀ a, a < 2 → ∀ b, b < 2 → a ≠ b → (am_F12 a).2.1 ≠ (am_F12 b).2.1 := by decide +kernel
theorem am_p12 : ∀ k, k < 2 → parseFieldDescriptor (am_F12 k).2.2.1 = some (am_t12 k) := by decide +kernel
theorem am_z12 : Cond.instantiable "FlowSession$FlowMachine$TreeStore$Ints" 2 ∈ am_tbl ∧ Cond.initialized "FlowSession$FlowMachine$TreeStore$Ints" ∈ am_tbl := ⟨(am_in2 _ (List.mem_of_getElem? (i := 221) rfl) rfl), (am_in1 _ (List.mem_of_getElem? (i := 18) rfl) rfl)⟩
set_option maxRecDepth 20000 in
theorem am_w13 : ∀ w ∈ u_ws "FlowSession$FlowMachine$Blocks" am_F13 10, w ∈ am_tbl := List.forall_mem_cons.mpr ⟨(am_in3 _ (List.mem_of_getElem? (i := 151) rfl) rfl), List.forall_mem_cons.mpr ⟨(am_in3 _ (List.mem_of_getElem? (i := 153) rfl) rfl), List.forall_mem_cons.mpr ⟨(am_in3 _ (List.mem_of_getElem? (i := 155) rfl) rfl), List.forall_mem_cons.mpr ⟨(am_in3 _ (List.mem_of_getElem? (i := 157) rfl) rfl), List.forall_mem_cons.mpr ⟨(am_in3 _ (List.mem_of_getElem? (i := 159) rfl) rfl), List.forall_mem_cons.mpr ⟨(am_in3 _ (List.mem_of_getElem? (i := 161) rfl) rfl), List.forall_mem_cons.mpr ⟨(am_in3 _ (List.mem_of_getElem? (i := 163) rfl) rfl), List.forall_mem_cons.mpr ⟨(am_in3 _ (List.mem_of_getElem? (i := 165) rfl) rfl), List.forall_mem_cons.mpr ⟨(am_in3 _ (List.mem_of_getElem? (i := 167) rfl) rfl), List.forall_mem_cons.mpr ⟨(am_in3 _ (List.mem_of_getElem? (i := 169) rfl) rfl), fun _ h => absurd h List.not_mem_nil⟩⟩⟩⟩⟩⟩⟩⟩⟩⟩
theorem am_n13 : ∀ a, a < 10 → ∀ b, b < 10 → a ≠ b → (am_F13 a).2.1 ≠ (am_F13 b).2.1 := by decide +kernel
theorem am_p13 : ∀ k, k < 10 → parseFieldDescriptor (am_F13 k).2.2.1 = some (am_t13 k) := by decide +kernel
theorem am_z13 : Cond.instantiable "FlowSession$FlowMachine$Blocks" 10 ∈ am_tbl ∧ Cond.initialized "FlowSession$FlowMachine$Blocks" ∈ am_tbl := ⟨(am_in3 _ (List.mem_of_getElem? (i := 130) rfl) rfl), (am_in1 _ (List.mem_of_getElem? (i := 19) rfl) rfl)⟩
set_option maxRecDepth 20000 in
theorem am_w14 : ∀ w ∈ u_ws "FlowSession$FlowMachine$Frames" am_F14 7, w ∈ am_tbl := List.forall_mem_cons.mpr ⟨(am_in3 _ (List.mem_of_getElem? (i := 190) rfl) rfl), List.forall_mem_cons.mpr ⟨(am_in3 _ (List.mem_of_getElem? (i := 192) rfl) rfl), List.forall_mem_cons.mpr ⟨(am_in3 _ (List.mem_of_getElem? (i := 194) rfl) rfl), List.forall_mem_cons.mpr ⟨(am_in3 _ (List.mem_of_getElem? (i := 196) rfl) rfl), List.forall_mem_cons.mpr ⟨(am_in3 _ (List.mem_of_getElem? (i := 198) rfl) rfl), List.forall_mem_cons.mpr ⟨(am_in3 _ (List.mem_of_getElem? (i := 200) rfl) rfl), List.forall_mem_cons.mpr ⟨(am_in3 _ (List.mem_of_getElem? (i := 202) rfl) rfl), fun _ h => absurd h List.not_mem_nil⟩⟩⟩⟩⟩⟩⟩
theorem am_n14 : ∀ a, a < 7 → ∀ b, b < 7 → a ≠ b → (am_F14 a).2.1 ≠ (am_F14 b).2.1 := by decide +kernel
theorem am_p14 : ∀ k, k < 7 → parseFieldDescriptor (am_F14 k).2.2.1 = some (am_t14 k) := by decide +kernel
theorem am_z14 : Cond.instantiable "FlowSession$FlowMachine$Frames" 7 ∈ am_tbl ∧ Cond.initialized "FlowSession$FlowMachine$Frames" ∈ am_tbl := ⟨(am_in3 _ (List.mem_of_getElem? (i := 173) rfl) rfl), (am_in1 _ (List.mem_of_getElem? (i := 20) rfl) rfl)⟩
set_option maxRecDepth 20000 in
theorem am_w15 : ∀ w ∈ u_ws "FlowSession$Ends" am_F15 5, w ∈ am_tbl := List.forall_mem_cons.mpr ⟨(am_in4 _ (List.mem_of_getElem? (i := 89) rfl) rfl), List.forall_mem_cons.mpr ⟨(am_in4 _ (List.mem_of_getElem? (i := 91) rfl) rfl), List.forall_mem_cons.mpr ⟨(am_in4 _ (List.mem_of_getElem? (i := 93) rfl) rfl), List.forall_mem_cons.mpr ⟨(am_in4 _ (List.mem_of_getElem? (i := 95) rfl) rfl), List.forall_mem_cons.mpr ⟨(am_in4 _ (List.mem_of_getElem? (i := 97) rfl) rfl), fun _ h => absurd h List.not_mem_nil⟩⟩⟩⟩⟩
theorem am_n15 : ∀ a, a < 5 → ∀ b, b < 5 → a ≠ b → (am_F15 a).2.1 ≠ (am_F15 b).2.1 := by decide +kernel
theorem am_p15 : ∀ k, k < 5 → parseFieldDescriptor (am_F15 k).2.2.1 = some (am_t15 k) := by decide +kernel
theorem am_z15 : Cond.instantiable "FlowSession$Ends" 5 ∈ am_tbl ∧ Cond.initialized "FlowSession$Ends" ∈ am_tbl := ⟨(am_in4 _ (List.mem_of_getElem? (i := 79) rfl) rfl), (am_in1 _ (List.mem_of_getElem? (i := 21) rfl) rfl)⟩
set_option maxRecDepth 20000 in
theorem am_w16 : ∀ w ∈ u_ws "FlowSession$Schedule" am_F16 4, w ∈ am_tbl := List.forall_mem_cons.mpr ⟨(am_in4 _ (List.mem_of_getElem? (i := 111) rfl) rfl), List.forall_mem_cons.mpr ⟨(am_in4 _ (List.mem_of_getElem? (i := 113) rfl) rfl), List.forall_mem_cons.mpr ⟨(am_in4 _ (List.mem_of_getElem? (i := 115) rfl) rfl), List.forall_mem_cons.mpr ⟨(am_in4 _ (List.mem_of_getElem? (i := 117) rfl) rfl), fun _ h => absurd h List.not_mem_nil⟩⟩⟩⟩
theorem am_n16 : ∀ a, a < 4 → ∀ b, b < 4 → a ≠ b → (am_F16 a).2.1 ≠ (am_F16 b).2.1 := by decide +kernel
theorem am_p16 : ∀ k, k < 4 → parseFieldDescriptor (am_F16 k).2.2.1 = some (am_t16 k) := by decide +kernel
theorem am_z16 : Cond.instantiable "FlowSession$Schedule" 4 ∈ am_tbl ∧ Cond.initialized "FlowSession$Schedule" ∈ am_tbl := ⟨(am_in4 _ (List.mem_of_getElem? (i := 101) rfl) rfl), (am_in1 _ (List.mem_of_getElem? (i := 22) rfl) rfl)⟩
set_option maxRecDepth 20000 in
theorem am_w17 : ∀ w ∈ u_ws "FlowSessionModel" am_F17 15, w ∈ am_tbl := List.forall_mem_cons.mpr ⟨(am_in12 _ (List.mem_of_getElem? (i := 19) rfl) rfl), List.forall_mem_cons.mpr ⟨(am_in12 _ (List.mem_of_getElem? (i := 21) rfl) rfl), List.forall_mem_cons.mpr ⟨(am_in12 _ (List.mem_of_getElem? (i := 23) rfl) rfl), List.forall_mem_cons.mpr ⟨(am_in12 _ (List.mem_of_getElem? (i := 25) rfl) rfl), List.forall_mem_cons.mpr ⟨(am_in12 _ (List.mem_of_getElem? (i := 27) rfl) rfl), List.forall_mem_cons.mpr ⟨(am_in12 _ (List.mem_of_getElem? (i := 29) rfl) rfl), List.forall_mem_cons.mpr ⟨(am_in12 _ (List.mem_of_getElem? (i := 31) rfl) rfl), List.forall_mem_cons.mpr ⟨(am_in12 _ (List.mem_of_getElem? (i := 33) rfl) rfl), List.forall_mem_cons.mpr ⟨(am_in12 _ (List.mem_of_getElem? (i := 35) rfl) rfl), List.forall_mem_cons.mpr ⟨(am_in12 _ (List.mem_of_getElem? (i := 37) rfl) rfl), List.forall_mem_cons.mpr ⟨(am_in12 _ (List.mem_of_getElem? (i := 39) rfl) rfl), List.forall_mem_cons.mpr ⟨(am_in12 _ (List.mem_of_getElem? (i := 41) rfl) rfl), List.forall_mem_cons.mpr ⟨(am_in12 _ (List.mem_of_getElem? (i := 43) rfl) rfl), List.forall_mem_cons.mpr ⟨(am_in12 _ (List.mem_of_getElem? (i := 45) rfl) rfl), List.forall_mem_cons.mpr ⟨(am_in12 _ (List.mem_of_getElem? (i := 47) rfl) rfl), fun _ h => absurd h List.not_mem_nil⟩⟩⟩⟩⟩⟩⟩⟩⟩⟩⟩⟩⟩⟩⟩
theorem am_n17 : ∀ a, a < 15 → ∀ b, b < 15 → a ≠ b → (am_F17 a).2.1 ≠ (am_F17 b).2.1 := by decide +kernel
theorem am_p17 : ∀ k, k < 15 → parseFieldDescriptor (am_F17 k).2.2.1 = some (am_t17 k) := by decide +kernel
theorem am_z17 : Cond.instantiable "FlowSessionModel" 15 ∈ am_tbl ∧ Cond.initialized "FlowSessionModel" ∈ am_tbl := ⟨(am_in10 _ (List.mem_of_getElem? (i := 83) rfl) rfl), (am_in1 _ (List.mem_of_getElem? (i := 23) rfl) rfl)⟩
set_option maxRecDepth 20000 in
theorem am_w18 : ∀ w ∈ u_ws "FlowSessionModel$FlowReaderModel" am_F18 43, w ∈ am_tbl := List.forall_mem_cons.mpr ⟨(am_in10 _ (List.mem_of_getElem? (i := 169) rfl) rfl), List.forall_mem_cons.mpr ⟨(am_in10 _ (List.mem_of_getElem? (i := 171) rfl) rfl), List.forall_mem_cons.mpr ⟨(am_in10 _ (List.mem_of_getElem? (i := 173) rfl) rfl), List.forall_mem_cons.mpr ⟨(am_in10 _ (List.mem_of_getElem? (i := 175) rfl) rfl), List.forall_mem_cons.mpr ⟨(am_in10 _ (List.mem_of_getElem? (i := 177) rfl) rfl), List.forall_mem_cons.mpr ⟨(am_in10 _ (List.mem_of_getElem? (i := 179) rfl) rfl), List.forall_mem_cons.mpr ⟨(am_in10 _ (List.mem_of_getElem? (i := 181) rfl) rfl), List.forall_mem_cons.mpr ⟨(am_in10 _ (List.mem_of_getElem? (i := 183) rfl) rfl), List.forall_mem_cons.mpr ⟨(am_in10 _ (List.mem_of_getElem? (i := 185) rfl) rfl), List.forall_mem_cons.mpr ⟨(am_in10 _ (List.mem_of_getElem? (i := 187) rfl) rfl), List.forall_mem_cons.mpr ⟨(am_in10 _ (List.mem_of_getElem? (i := 189) rfl) rfl), List.forall_mem_cons.mpr ⟨(am_in10 _ (List.mem_of_getElem? (i := 191) rfl) rfl), List.forall_mem_cons.mpr ⟨(am_in10 _ (List.mem_of_getElem? (i := 193) rfl) rfl), List.forall_mem_cons.mpr ⟨(am_in10 _ (List.mem_of_getElem? (i := 195) rfl) rfl), List.forall_mem_cons.mpr ⟨(am_in10 _ (List.mem_of_getElem? (i := 197) rfl) rfl), List.forall_mem_cons.mpr ⟨(am_in10 _ (List.mem_of_getElem? (i := 199) rfl) rfl), List.forall_mem_cons.mpr ⟨(am_in10 _ (List.mem_of_getElem? (i := 201) rfl) rfl), List.forall_mem_cons.mpr ⟨(am_in10 _ (List.mem_of_getElem? (i := 203) rfl) rfl), List.forall_mem_cons.mpr ⟨(am_in10 _ (List.mem_of_getElem? (i := 205) rfl) rfl), List.forall_mem_cons.mpr ⟨(am_in10 _ (List.mem_of_getElem? (i := 207) rfl) rfl), List.forall_mem_cons.mpr ⟨(am_in10 _ (List.mem_of_getElem? (i := 209) rfl) rfl), List.forall_mem_cons.mpr ⟨(am_in10 _ (List.mem_of_getElem? (i := 211) rfl) rfl), List.forall_mem_cons.mpr ⟨(am_in10 _ (List.mem_of_getElem? (i := 213) rfl) rfl), List.forall_mem_cons.mpr ⟨(am_in10 _ (List.mem_of_getElem? (i := 215) rfl) rfl), List.forall_mem_cons.mpr ⟨(am_in10 _ (List.mem_of_getElem? (i := 217) rfl) rfl), List.forall_mem_cons.mpr ⟨(am_in10 _ (List.mem_of_getElem? (i := 219) rfl) rfl), List.forall_mem_cons.mpr ⟨(am_in10 _ (List.mem_of_getElem? (i := 221) rfl) rfl), List.forall_mem_cons.mpr ⟨(am_in10 _ (List.mem_of_getElem? (i := 223) rfl) rfl), List.forall_mem_cons.mpr ⟨(am_in10 _ (List.mem_of_getElem? (i := 225) rfl) rfl), List.forall_mem_cons.mpr ⟨(am_in10 _ (List.mem_of_getElem? (i := 227) rfl) rfl), List.forall_mem_cons.mpr ⟨(am_in10 _ (List.mem_of_getElem? (i := 229) rfl) rfl), List.forall_mem_cons.mpr ⟨(am_in10 _ (List.mem_of_getElem? (i := 231) rfl) rfl), List.forall_mem_cons.mpr ⟨(am_in10 _ (List.mem_of_getElem? (i := 233) rfl) rfl), List.forall_mem_cons.mpr ⟨(am_in10 _ (List.mem_of_getElem? (i := 235) rfl) rfl), List.forall_mem_cons.mpr ⟨(am_in10 _ (List.mem_of_getElem? (i := 237) rfl) rfl), List.forall_mem_cons.mpr ⟨(am_in10 _ (List.mem_of_getElem? (i := 239) rfl) rfl), List.forall_mem_cons.mpr ⟨(am_in11 _ (List.mem_of_getElem? (i := 1) rfl) rfl), List.forall_mem_cons.mpr ⟨(am_in11 _ (List.mem_of_getElem? (i := 3) rfl) rfl), List.forall_mem_cons.mpr ⟨(am_in11 _ (List.mem_of_getElem? (i := 5) rfl) rfl), List.forall_mem_cons.mpr ⟨(am_in11 _ (List.mem_of_getElem? (i := 7) rfl) rfl), List.forall_mem_cons.mpr ⟨(am_in11 _ (List.mem_of_getElem? (i := 9) rfl) rfl), List.forall_mem_cons.mpr ⟨(am_in11 _ (List.mem_of_getElem? (i := 11) rfl) rfl), List.forall_mem_cons.mpr ⟨(am_in11 _ (List.mem_of_getElem? (i := 13) rfl) rfl), fun _ h => absurd h List.not_mem_nil⟩⟩⟩⟩⟩⟩⟩⟩⟩⟩⟩⟩⟩⟩⟩⟩⟩⟩⟩⟩⟩⟩⟩⟩⟩⟩⟩⟩⟩⟩⟩⟩⟩⟩⟩⟩⟩⟩⟩⟩⟩⟩⟩
theorem am_n18 : ∀ a, a < 43 → ∀ b, b < 43 → a ≠ b → (am_F18 a).2.1 ≠ (am_F18 b).2.1 := by decide +kernel
theorem am_p18 : ∀ k, k < 43 → parseFieldDescriptor (am_F18 k).2.2.1 = some (am_t18 k) := by decide +kernel
theorem am_z18 : Cond.instantiable "FlowSessionModel$FlowReaderModel" 43 ∈ am_tbl ∧ Cond.initialized "FlowSessionModel$FlowReaderModel" ∈ am_tbl := ⟨(am_in10 _ (List.mem_of_getElem? (i := 89) rfl) rfl), (am_in1 _ (List.mem_of_getElem? (i := 24) rfl) rfl)⟩
set_option maxRecDepth 20000 in
theorem am_w19 : ∀ w ∈ u_ws "FlowSessionModel$FlowReaderModel$Row" am_F19 2, w ∈ am_tbl := List.forall_mem_cons.mpr ⟨(am_in10 _ (List.mem_of_getElem? (i := 106) rfl) rfl), List.forall_mem_cons.mpr ⟨(am_in10 _ (List.mem_of_getElem? (i := 108) rfl) rfl), fun _ h => absurd h List.not_mem_nil⟩⟩
theorem am_n19 : ∀ a, a < 2 → ∀ b, b < 2 → a ≠ b → (am_F19 a).2.1 ≠ (am_F19 b).2.1 := by decide +kernel
theorem am_p19 : ∀ k, k < 2 → parseFieldDescriptor (am_F19 k).2.2.1 = some (am_t19 k) := by decide +kernel
theorem am_z19 : Cond.instantiable "FlowSessionModel$FlowReaderModel$Row" 2 ∈ am_tbl ∧ Cond.initialized "FlowSessionModel$FlowReaderModel$Row" ∈ am_tbl := ⟨(am_in10 _ (List.mem_of_getElem? (i := 95) rfl) rfl), (am_in1 _ (List.mem_of_getElem? (i := 25) rfl) rfl)⟩
set_option maxRecDepth 20000 in
theorem am_w20 : ∀ w ∈ u_ws "FlowSessionModel$Walk" am_F20 61, w ∈ am_tbl := List.forall_mem_cons.mpr ⟨(am_in11 _ (List.mem_of_getElem? (i := 101) rfl) rfl), List.forall_mem_cons.mpr ⟨(am_in11 _ (List.mem_of_getElem? (i := 103) rfl) rfl), List.forall_mem_cons.mpr ⟨(am_in11 _ (List.mem_of_getElem? (i := 105) rfl) rfl), List.forall_mem_cons.mpr ⟨(am_in11 _ (List.mem_of_getElem? (i := 107) rfl) rfl), List.forall_mem_cons.mpr ⟨(am_in11 _ (List.mem_of_getElem? (i := 109) rfl) rfl), List.forall_mem_cons.mpr ⟨(am_in11 _ (List.mem_of_getElem? (i := 111) rfl) rfl), List.forall_mem_cons.mpr ⟨(am_in11 _ (List.mem_of_getElem? (i := 113) rfl) rfl), List.forall_mem_cons.mpr ⟨(am_in11 _ (List.mem_of_getElem? (i := 115) rfl) rfl), List.forall_mem_cons.mpr ⟨(am_in11 _ (List.mem_of_getElem? (i := 117) rfl) rfl), List.forall_mem_cons.mpr ⟨(am_in11 _ (List.mem_of_getElem? (i := 119) rfl) rfl), List.forall_mem_cons.mpr ⟨(am_in11 _ (List.mem_of_getElem? (i := 121) rfl) rfl), List.forall_mem_cons.mpr ⟨(am_in11 _ (List.mem_of_getElem? (i := 123) rfl) rfl), List.forall_mem_cons.mpr ⟨(am_in11 _ (List.mem_of_getElem? (i := 125) rfl) rfl), List.forall_mem_cons.mpr ⟨(am_in11 _ (List.mem_of_getElem? (i := 127) rfl) rfl), List.forall_mem_cons.mpr ⟨(am_in11 _ (List.mem_of_getElem? (i := 129) rfl) rfl), List.forall_mem_cons.mpr ⟨(am_in11 _ (List.mem_of_getElem? (i := 131) rfl) rfl), List.forall_mem_cons.mpr ⟨(am_in11 _ (List.mem_of_getElem? (i := 133) rfl) rfl), List.forall_mem_cons.mpr ⟨(am_in11 _ (List.mem_of_getElem? (i := 135) rfl) rfl), List.forall_mem_cons.mpr ⟨(am_in11 _ (List.mem_of_getElem? (i := 137) rfl) rfl), List.forall_mem_cons.mpr ⟨(am_in11 _ (List.mem_of_getElem? (i := 139) rfl) rfl), List.forall_mem_cons.mpr ⟨(am_in11 _ (List.mem_of_getElem? (i := 141) rfl) rfl), List.forall_mem_cons.mpr ⟨(am_in11 _ (List.mem_of_getElem? (i := 143) rfl) rfl), List.forall_mem_cons.mpr ⟨(am_in11 _ (List.mem_of_getElem? (i := 145) rfl) rfl), List.forall_mem_cons.mpr ⟨(am_in11 _ (List.mem_of_getElem? (i := 147) rfl) rfl), List.forall_mem_cons.mpr ⟨(am_in11 _ (List.mem_of_getElem? (i := 149) rfl) rfl), List.forall_mem_cons.mpr ⟨(am_in11 _ (List.mem_of_getElem? (i := 151) rfl) rfl), List.forall_mem_cons.mpr ⟨(am_in11 _ (List.mem_of_getElem? (i := 153) rfl) rfl), List.forall_mem_cons.mpr ⟨(am_in11 _ (List.mem_of_getElem? (i := 155) rfl) rfl), List.forall_mem_cons.mpr ⟨(am_in11 _ (List.mem_of_getElem? (i := 157) rfl) rfl), List.forall_mem_cons.mpr ⟨(am_in11 _ (List.mem_of_getElem? (i := 159) rfl) rfl), List.forall_mem_cons.mpr ⟨(am_in11 _ (List.mem_of_getElem? (i := 161) rfl) rfl), List.forall_mem_cons.mpr ⟨(am_in11 _ (List.mem_of_getElem? (i := 163) rfl) rfl), List.forall_mem_cons.mpr ⟨(am_in11 _ (List.mem_of_getElem? (i := 165) rfl) rfl), List.forall_mem_cons.mpr ⟨(am_in11 _ (List.mem_of_getElem? (i := 167) rfl) rfl), List.forall_mem_cons.mpr ⟨(am_in11 _ (List.mem_of_getElem? (i := 169) rfl) rfl), List.forall_mem_cons.mpr ⟨(am_in11 _ (List.mem_of_getElem? (i := 171) rfl) rfl), List.forall_mem_cons.mpr ⟨(am_in11 _ (List.mem_of_getElem? (i := 173) rfl) rfl), List.forall_mem_cons.mpr ⟨(am_in11 _ (List.mem_of_getElem? (i := 175) rfl) rfl), List.forall_mem_cons.mpr ⟨(am_in11 _ (List.mem_of_getElem? (i := 177) rfl) rfl), List.forall_mem_cons.mpr ⟨(am_in11 _ (List.mem_of_getElem? (i := 179) rfl) rfl), List.forall_mem_cons.mpr ⟨(am_in11 _ (List.mem_of_getElem? (i := 181) rfl) rfl), List.forall_mem_cons.mpr ⟨(am_in11 _ (List.mem_of_getElem? (i := 183) rfl) rfl), List.forall_mem_cons.mpr ⟨(am_in11 _ (List.mem_of_getElem? (i := 185) rfl) rfl), List.forall_mem_cons.mpr ⟨(am_in11 _ (List.mem_of_getElem? (i := 187) rfl) rfl), List.forall_mem_cons.mpr ⟨(am_in11 _ (List.mem_of_getElem? (i := 189) rfl) rfl), List.forall_mem_cons.mpr ⟨(am_in11 _ (List.mem_of_getElem? (i := 191) rfl) rfl), List.forall_mem_cons.mpr ⟨(am_in11 _ (List.mem_of_getElem? (i := 193) rfl) rfl), List.forall_mem_cons.mpr ⟨(am_in11 _ (List.mem_of_getElem? (i := 195) rfl) rfl), List.forall_mem_cons.mpr ⟨(am_in11 _ (List.mem_of_getElem? (i := 197) rfl) rfl), List.forall_mem_cons.mpr ⟨(am_in11 _ (List.mem_of_getElem? (i := 199) rfl) rfl), List.forall_mem_cons.mpr ⟨(am_in11 _ (List.mem_of_getElem? (i := 201) rfl) rfl), List.forall_mem_cons.mpr ⟨(am_in11 _ (List.mem_of_getElem? (i := 203) rfl) rfl), List.forall_mem_cons.mpr ⟨(am_in11 _ (List.mem_of_getElem? (i := 205) rfl) rfl), List.forall_mem_cons.mpr ⟨(am_in11 _ (List.mem_of_getElem? (i := 207) rfl) rfl), List.forall_mem_cons.mpr ⟨(am_in11 _ (List.mem_of_getElem? (i := 209) rfl) rfl), List.forall_mem_cons.mpr ⟨(am_in11 _ (List.mem_of_getElem? (i := 211) rfl) rfl), List.forall_mem_cons.mpr ⟨(am_in11 _ (List.mem_of_getElem? (i := 213) rfl) rfl), List.forall_mem_cons.mpr ⟨(am_in11 _ (List.mem_of_getElem? (i := 215) rfl) rfl), List.forall_mem_cons.mpr ⟨(am_in11 _ (List.mem_of_getElem? (i := 217) rfl) rfl), List.forall_mem_cons.mpr ⟨(am_in11 _ (List.mem_of_getElem? (i := 219) rfl) rfl), List.forall_mem_cons.mpr ⟨(am_in11 _ (List.mem_of_getElem? (i := 221) rfl) rfl), fun _ h => absurd h List.not_mem_nil⟩⟩⟩⟩⟩⟩⟩⟩⟩⟩⟩⟩⟩⟩⟩⟩⟩⟩⟩⟩⟩⟩⟩⟩⟩⟩⟩⟩⟩⟩⟩⟩⟩⟩⟩⟩⟩⟩⟩⟩⟩⟩⟩⟩⟩⟩⟩⟩⟩⟩⟩⟩⟩⟩⟩⟩⟩⟩⟩⟩⟩
theorem am_n20 : ∀ a, a < 61 → ∀ b, b < 61 → a ≠ b → (am_F20 a).2.1 ≠ (am_F20 b).2.1 := by decide +kernel
theorem am_p20 : ∀ k, k < 61 → parseFieldDescriptor (am_F20 k).2.2.1 = some (am_t20 k) := by decide +kernel
theorem am_z20 : Cond.instantiable "FlowSessionModel$Walk" 61 ∈ am_tbl ∧ Cond.initialized "FlowSessionModel$Walk" ∈ am_tbl := ⟨(am_in11 _ (List.mem_of_getElem? (i := 17) rfl) rfl), (am_in1 _ (List.mem_of_getElem? (i := 30) rfl) rfl)⟩
set_option maxRecDepth 20000 in
theorem am_w21 : ∀ w ∈ u_ws "FlowSessionModel$Rule" am_F21 4, w ∈ am_tbl := List.forall_mem_cons.mpr ⟨(am_in11 _ (List.mem_of_getElem? (i := 235) rfl) rfl), List.forall_mem_cons.mpr ⟨(am_in11 _ (List.mem_of_getElem? (i := 237) rfl) rfl), List.forall_mem_cons.mpr ⟨(am_in11 _ (List.mem_of_getElem? (i := 239) rfl) rfl), List.forall_mem_cons.mpr ⟨(am_in12 _ (List.mem_of_getElem? (i := 1) rfl) rfl), fun _ h => absurd h List.not_mem_nil⟩⟩⟩⟩
theorem am_n21 : ∀ a, a < 4 → ∀ b, b < 4 → a ≠ b → (am_F21 a).2.1 ≠ (am_F21 b).2.1 := by decide +kernel
theorem am_p21 : ∀ k, k < 4 → parseFieldDescriptor (am_F21 k).2.2.1 = some (am_t21 k) := by decide +kernel
theorem am_z21 : Cond.instantiable "FlowSessionModel$Rule" 4 ∈ am_tbl ∧ Cond.initialized "FlowSessionModel$Rule" ∈ am_tbl := ⟨(am_in11 _ (List.mem_of_getElem? (i := 225) rfl) rfl), (am_in1 _ (List.mem_of_getElem? (i := 31) rfl) rfl)⟩
set_option maxRecDepth 20000 in
theorem am_w22 : ∀ w ∈ u_ws "java/lang/IllegalStateException" am_F22 0, w ∈ am_tbl := fun _ h => absurd h List.not_mem_nil
theorem am_n22 : ∀ a, a < 0 → ∀ b, b < 0 → a ≠ b → (am_F22 a).2.1 ≠ (am_F22 b).2.1 := by decide +kernel
theorem am_p22 : ∀ k, k < 0 → parseFieldDescriptor (am_F22 k).2.2.1 = some (am_t22 k) := by decide +kernel
theorem am_z22 : Cond.instantiable "java/lang/IllegalStateException" 6 ∈ am_tbl ∧ Cond.initialized "java/lang/IllegalStateException" ∈ am_tbl := ⟨(am_in5 _ (List.mem_of_getElem? (i := 32) rfl) rfl), (am_in1 _ (List.mem_of_getElem? (i := 29) rfl) rfl)⟩
/-- what the tables say of every class -/
theorem am_cls {ci : Nat} {C : String} {T : u_T} {N : Nat} (h : am_cl[ci]? = some (C, T, N)) : (∀ w ∈ u_ws C T N, w ∈ am_tbl) ∧ (∀ a, a < N → ∀ b, b < N → a ≠ b → (T a).2.1 ≠ (T b).2.1) ∧ (∀ k, k < N → parseFieldDescriptor (T k).2.2.1 = some (am_ty ci k)) ∧ Cond.instantiable C (am_sz ci) ∈ am_tbl ∧ Cond.initialized C ∈ am_tbl := by
  match ci, h with
  | 0, h =>
    obtain ⟨rfl, rfl, rfl⟩ : C = am_R0.1 ∧ T = am_R0.2.1 ∧ N = am_R0.2.2 := by
      have := Option.some.inj h
      exact ⟨congrArg (·.1) this.symm, congrArg (·.2.1) this.symm, congrArg (·.2.2) this.symm⟩
    exact ⟨am_w0, am_n0, am_p0, am_z0⟩
  | 1, h =>
    obtain ⟨rfl, rfl, rfl⟩ : C = am_R1.1 ∧ T = am_R1.2.1 ∧ N = am_R1.2.2 := by
      have := Option.some.inj h
      exact ⟨congrArg (·.1) this.symm, congrArg (·.2.1) this.symm, congrArg (·.2.2) this.symm⟩
    exact ⟨am_w1, am_n1, am_p1, am_z1⟩
  | 2, h =>
    obtain ⟨rfl, rfl, rfl⟩ : C = am_R2.1 ∧ T = am_R2.2.1 ∧ N = am_R2.2.2 := by
      have := Option.some.inj h
      exact ⟨congrArg (·.1) this.symm, congrArg (·.2.1) this.symm, congrArg (·.2.2) this.symm⟩
    exact ⟨am_w2, am_n2, am_p2, am_z2⟩
  | 3, h =>
    obtain ⟨rfl, rfl, rfl⟩ : C = am_R3.1 ∧ T = am_R3.2.1 ∧ N = am_R3.2.2 := by
      have := Option.some.inj h
      exact ⟨congrArg (·.1) this.symm, congrArg (·.2.1) this.symm, congrArg (·.2.2) this.symm⟩
    exact ⟨am_w3, am_n3, am_p3, am_z3⟩
  | 4, h =>
    obtain ⟨rfl, rfl, rfl⟩ : C = am_R4.1 ∧ T = am_R4.2.1 ∧ N = am_R4.2.2 := by
      have := Option.some.inj h
      exact ⟨congrArg (·.1) this.symm, congrArg (·.2.1) this.symm, congrArg (·.2.2) this.symm⟩
    exact ⟨am_w4, am_n4, am_p4, am_z4⟩
  | 5, h =>
    obtain ⟨rfl, rfl, rfl⟩ : C = am_R5.1 ∧ T = am_R5.2.1 ∧ N = am_R5.2.2 := by
      have := Option.some.inj h
      exact ⟨congrArg (·.1) this.symm, congrArg (·.2.1) this.symm, congrArg (·.2.2) this.symm⟩
    exact ⟨am_w5, am_n5, am_p5, am_z5⟩
  | 6, h =>
    obtain ⟨rfl, rfl, rfl⟩ : C = am_R6.1 ∧ T = am_R6.2.1 ∧ N = am_R6.2.2 := by
      have := Option.some.inj h
      exact ⟨congrArg (·.1) this.symm, congrArg (·.2.1) this.symm, congrArg (·.2.2) this.symm⟩
    exact ⟨am_w6, am_n6, am_p6, am_z6⟩
  | 7, h =>
    obtain ⟨rfl, rfl, rfl⟩ : C = am_R7.1 ∧ T = am_R7.2.1 ∧ N = am_R7.2.2 := by
      have := Option.some.inj h
      exact ⟨congrArg (·.1) this.symm, congrArg (·.2.1) this.symm, congrArg (·.2.2) this.symm⟩
    exact ⟨am_w7, am_n7, am_p7, am_z7⟩
  | 8, h =>
    obtain ⟨rfl, rfl, rfl⟩ : C = am_R8.1 ∧ T = am_R8.2.1 ∧ N = am_R8.2.2 := by
      have := Option.some.inj h
      exact ⟨congrArg (·.1) this.symm, congrArg (·.2.1) this.symm, congrArg (·.2.2) this.symm⟩
    exact ⟨am_w8, am_n8, am_p8, am_z8⟩
  | 9, h =>
    obtain ⟨rfl, rfl, rfl⟩ : C = am_R9.1 ∧ T = am_R9.2.1 ∧ N = am_R9.2.2 := by
      have := Option.some.inj h
      exact ⟨congrArg (·.1) this.symm, congrArg (·.2.1) this.symm, congrArg (·.2.2) this.symm⟩
    exact ⟨am_w9, am_n9, am_p9, am_z9⟩
  | 10, h =>
    obtain ⟨rfl, rfl, rfl⟩ : C = am_R10.1 ∧ T = am_R10.2.1 ∧ N = am_R10.2.2 := by
      have := Option.some.inj h
      exact ⟨congrArg (·.1) this.symm, congrArg (·.2.1) this.symm, congrArg (·.2.2) this.symm⟩
    exact ⟨am_w10, am_n10, am_p10, am_z10⟩
  | 11, h =>
    obtain ⟨rfl, rfl, rfl⟩ : C = am_R11.1 ∧ T = am_R11.2.1 ∧ N = am_R11.2.2 := by
      have := Option.some.inj h
      exact ⟨congrArg (·.1) this.symm, congrArg (·.2.1) this.symm, congrArg (·.2.2) this.symm⟩
    exact ⟨am_w11, am_n11, am_p11, am_z11⟩
  | 12, h =>
    obtain ⟨rfl, rfl, rfl⟩ : C = am_R12.1 ∧ T = am_R12.2.1 ∧ N = am_R12.2.2 := by
      have := Option.some.inj h
      exact ⟨congrArg (·.1) this.symm, congrArg (·.2.1) this.symm, congrArg (·.2.2) this.symm⟩
    exact ⟨am_w12, am_n12, am_p12, am_z12⟩
  | 13, h =>
    obtain ⟨rfl, rfl, rfl⟩ : C = am_R13.1 ∧ T = am_R13.2.1 ∧ N = am_R13.2.2 := by
      have := Option.some.inj h
      exact ⟨congrArg (·.1) this.symm, congrArg (·.2.1) this.symm, congrArg (·.2.2) this.symm⟩
    exact ⟨am_w13, am_n13, am_p13, am_z13⟩
  | 14, h =>
    obtain ⟨rfl, rfl, rfl⟩ : C = am_R14.1 ∧ T = am_R14.2.1 ∧ N = am_R14.2.2 := by
      have := Option.some.inj h
      exact ⟨congrArg (·.1) this.symm, congrArg (·.2.1) this.symm, congrArg (·.2.2) this.symm⟩
    exact ⟨am_w14, am_n14, am_p14, am_z14⟩
  | 15, h =>
    obtain ⟨rfl, rfl, rfl⟩ : C = am_R15.1 ∧ T = am_R15.2.1 ∧ N = am_R15.2.2 := by
      have := Option.some.inj h
      exact ⟨congrArg (·.1) this.symm, congrArg (·.2.1) this.symm, congrArg (·.2.2) this.symm⟩
    exact ⟨am_w15, am_n15, am_p15, am_z15⟩
  | 16, h =>
    obtain ⟨rfl, rfl, rfl⟩ : C = am_R16.1 ∧ T = am_R16.2.1 ∧ N = am_R16.2.2 := by
      have := Option.some.inj h
      exact ⟨congrArg (·.1) this.symm, congrArg (·.2.1) this.symm, congrArg (·.2.2) this.symm⟩
    exact ⟨am_w16, am_n16, am_p16, am_z16⟩
  | 17, h =>
    obtain ⟨rfl, rfl, rfl⟩ : C = am_R17.1 ∧ T = am_R17.2.1 ∧ N = am_R17.2.2 := by
      have := Option.some.inj h
      exact ⟨congrArg (·.1) this.symm, congrArg (·.2.1) this.symm, congrArg (·.2.2) this.symm⟩
    exact ⟨am_w17, am_n17, am_p17, am_z17⟩
  | 18, h =>
    obtain ⟨rfl, rfl, rfl⟩ : C = am_R18.1 ∧ T = am_R18.2.1 ∧ N = am_R18.2.2 := by
      have := Option.some.inj h
      exact ⟨congrArg (·.1) this.symm, congrArg (·.2.1) this.symm, congrArg (·.2.2) this.symm⟩
    exact ⟨am_w18, am_n18, am_p18, am_z18⟩
  | 19, h =>
    obtain ⟨rfl, rfl, rfl⟩ : C = am_R19.1 ∧ T = am_R19.2.1 ∧ N = am_R19.2.2 := by
      have := Option.some.inj h
      exact ⟨congrArg (·.1) this.symm, congrArg (·.2.1) this.symm, congrArg (·.2.2) this.symm⟩
    exact ⟨am_w19, am_n19, am_p19, am_z19⟩
  | 20, h =>
    obtain ⟨rfl, rfl, rfl⟩ : C = am_R20.1 ∧ T = am_R20.2.1 ∧ N = am_R20.2.2 := by
      have := Option.some.inj h
      exact ⟨congrArg (·.1) this.symm, congrArg (·.2.1) this.symm, congrArg (·.2.2) this.symm⟩
    exact ⟨am_w20, am_n20, am_p20, am_z20⟩
  | 21, h =>
    obtain ⟨rfl, rfl, rfl⟩ : C = am_R21.1 ∧ T = am_R21.2.1 ∧ N = am_R21.2.2 := by
      have := Option.some.inj h
      exact ⟨congrArg (·.1) this.symm, congrArg (·.2.1) this.symm, congrArg (·.2.2) this.symm⟩
    exact ⟨am_w21, am_n21, am_p21, am_z21⟩
  | 22, h =>
    obtain ⟨rfl, rfl, rfl⟩ : C = am_R22.1 ∧ T = am_R22.2.1 ∧ N = am_R22.2.2 := by
      have := Option.some.inj h
      exact ⟨congrArg (·.1) this.symm, congrArg (·.2.1) this.symm, congrArg (·.2.2) this.symm⟩
    exact ⟨am_w22, am_n22, am_p22, am_z22⟩
  | n + 23, h => exact absurd (show (none : Option vw_C) = some (C, T, N) from h) (fun h => by cases h)
/-- classes whose code runs, by their numbers -/
def am_own (oc : Nat) : String := match oc with
  | 0 => "FlowSession"
  | 1 => "FlowSession$FlowReader"
  | 2 => "FlowSession$FlowReader$Tokens"
  | 3 => "FlowSession$FlowReader$Names"
  | 4 => "FlowSession$FlowReader$Row"
  | 5 => "FlowSession$FlowReader$Reader"
  | 6 => "FlowSession$FlowReader$Maker"
  | 7 => "FlowSession$Compiler"
  | 8 => "FlowSession$Compiler$Words"
  | 9 => "FlowSession$FlowMachine"
  | 10 => "FlowSession$FlowMachine$TreeStore"
  | 11 => "FlowSession$FlowMachine$TreeStore$Fields"
  | 12 => "FlowSession$FlowMachine$TreeStore$Ints"
  | 13 => "FlowSession$FlowMachine$Blocks"
  | 14 => "FlowSession$FlowMachine$Frames"
  | 15 => "FlowSession$Ends"
  | 16 => "FlowSession$Schedule"
  | 17 => "FlowSessionModel"
  | 18 => "FlowSessionModel$FlowReaderModel"
  | 19 => "FlowSessionModel$FlowReaderModel$Row"
  | 20 => "FlowSessionModel$Walk"
  | 21 => "FlowSessionModel$Rule"
  | 22 => "java/lang/IllegalStateException"
  | 23 => "FlowSessionLaw"
  | 24 => "java/lang/Math"
  | _ => "java/lang/Object"
/-- String constants: class, entry, id, text -/
def am_sT : List (Nat × Nat × Nat × String) := [(2, 32, 1000002, "skip local in end if then else case of do proc fun thread try catch raise show div mod "), (2, 38, 1000003, "true false nil | nomatch failure zero kind arity feature "), (2, 40, 1000001, "Wait Needed ByNeed NewCell Exchange NewPort Send "), (2, 141, 1000000, "(){}[]:"), (18, 144, 1000003, "true false nil | nomatch failure zero kind arity feature "), (18, 156, 1000001, "Wait Needed ByNeed NewCell Exchange NewPort Send "), (18, 211, 1000002, "skip local in end if then else case of do proc fun thread try catch raise show div mod ")]
def am_slen : List Nat := [7, 49, 87, 57]
def am_sbyt : List (List Int32) := [[40, 41, 123, 125, 91, 93, 58], [87, 97, 105, 116, 32, 78, 101, 101, 100, 101, 100, 32, 66, 121, 78, 101, 101, 100, 32, 78, 101, 119, 67, 101, 108, 108, 32, 69, 120, 99, 104, 97, 110, 103, 101, 32, 78, 101, 119, 80, 111, 114, 116, 32, 83, 101, 110, 100, 32], [115, 107, 105, 112, 32, 108, 111, 99, 97, 108, 32, 105, 110, 32, 101, 110, 100, 32, 105, 102, 32, 116, 104, 101, 110, 32, 101, 108, 115, 101, 32, 99, 97, 115, 101, 32, 111, 102, 32, 100, 111, 32, 112, 114, 111, 99, 32, 102, 117, 110, 32, 116, 104, 114, 101, 97, 100, 32, 116, 114, 121, 32, 99, 97, 116, 99, 104, 32, 114, 97, 105, 115, 101, 32, 115, 104, 111, 119, 32, 100, 105, 118, 32, 109, 111, 100, 32], [116, 114, 117, 101, 32, 102, 97, 108, 115, 101, 32, 110, 105, 108, 32, 124, 32, 110, 111, 109, 97, 116, 99, 104, 32, 102, 97, 105, 108, 117, 114, 101, 32, 122, 101, 114, 111, 32, 107, 105, 110, 100, 32, 97, 114, 105, 116, 121, 32, 102, 101, 97, 116, 117, 114, 101, 32]]
def am_KS (H0 : Heap) (ad : Nat → Nat) (U : State) : Prop := (∀ q ∈ am_sT, vk_R (am_own q.1) q.2.1 q.2.2.2 (ad q.2.2.1) U) ∧ ∃ adV, vk_S 4 am_slen am_sbyt (fun i => ad (1000000 + i)) adV (fun q => H0.size ≤ q) U H0
theorem am_KS.warm {H0 : Heap} {ad : Nat → Nat} {s U : State} (hW : s.WarmedH U.vm) (h : am_KS H0 ad s) : am_KS H0 ad U := ⟨fun q hq => (h.1 q hq).warm hW, by obtain ⟨adV, h2⟩ := h.2; exact ⟨adV, h2.moved hW.alike⟩⟩
theorem am_sT_big : ∀ q ∈ am_sT, 1000000 ≤ q.2.2.1 := by decide
theorem am_KS.congr {H0 : Heap} {ad ad' : Nat → Nat} {s : State} (he : ∀ i, 1000000 ≤ i → ad' i = ad i) (h : am_KS H0 ad s) : am_KS H0 ad' s := by
  refine ⟨fun q hq => ?_, ?_⟩
  · rw [he _ (am_sT_big q hq)]; exact h.1 q hq
  · obtain ⟨adV, h2⟩ := h.2
    refine ⟨adV, ?_⟩
    rw [show (fun i => ad' (1000000 + i)) = fun i => ad (1000000 + i) from funext fun i => he _ (Nat.le_add_right _ _)]
    exact h2
