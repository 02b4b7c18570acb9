def fl_0 : List (String × String × String × Bool) := [
  ("ArrayRecords$Meaning", "kind", "[I", true),
  ("ArrayRecords$Meaning", "fields", "[I", true),
  ("ArrayRecords$Meaning", "field", "[I", true),
  ("ArrayRecords$Meaning", "bits", "[I", true),
  ("ArrayRecords$Meaning", "place", "[I", true),
  ("ArrayRecords$Meaning", "variable", "[I", true),
  ("ArrayRecords$Meaning", "value", "[I", true),
  ("ArrayRecords$Meaning", "kinds", "I", false),
  ("ArrayRecords$Meaning", "variables", "I", false)]
def ft_0 : u_T := fun k => fl_0.getD k ("", "", "", false)
def ty_0 : List FieldType := [.array .int, .array .int, .array .int, .array .int, .array .int, .array .int, .array .int, .int, .int]
def fl_1 : List (String × String × String × Bool) := [
  ("ArrayRecords$Scanner", "text", "[B", true),
  ("ArrayRecords$Scanner", "names", "LArrayRecords$Names;", true),
  ("ArrayRecords$Scanner", "size", "I", false),
  ("ArrayRecords$Scanner", "at", "I", false),
  ("ArrayRecords$Scanner", "from", "I", false),
  ("ArrayRecords$Scanner", "kind", "I", false),
  ("ArrayRecords$Scanner", "value", "I", false),
  ("ArrayRecords$Scanner", "tokens", "I", false),
  ("ArrayRecords$Scanner", "wrong", "I", false),
  ("ArrayRecords$Scanner", "tooMany", "Z", false)]
def ft_1 : u_T := fun k => fl_1.getD k ("", "", "", false)
def ty_1 : List FieldType := [.array .byte, .object "ArrayRecords$Names", .int, .int, .int, .int, .int, .int, .int, .boolean]
def fl_2 : List (String × String × String × Bool) := [
  ("ArrayRecords$Names", "all", "[J", true),
  ("ArrayRecords$Names", "size", "I", false)]
def ft_2 : u_T := fun k => fl_2.getD k ("", "", "", false)
def ty_2 : List FieldType := [.array .long, .int]
def fl_3 : List (String × String × String × Bool) := [
  ("ArrayRecords$Code", "order", "[I", true),
  ("ArrayRecords$Code", "with", "[I", true),
  ("ArrayRecords$Code", "size", "I", false),
  ("ArrayRecords$Code", "which", "[I", true),
  ("ArrayRecords$Code", "kind", "[I", true),
  ("ArrayRecords$Code", "field", "[I", true),
  ("ArrayRecords$Code", "from", "[I", true),
  ("ArrayRecords$Code", "to", "[I", true),
  ("ArrayRecords$Code", "aggregates", "I", false)]
def ft_3 : u_T := fun k => fl_3.getD k ("", "", "", false)
def ty_3 : List FieldType := [.array .int, .array .int, .int, .array .int, .array .int, .array .int, .array .int, .array .int, .int]
def fl_4 : List (String × String × String × Bool) := [
  ("ArrayRecords$Statements", "what", "[I", true),
  ("ArrayRecords$Statements", "kind", "[I", true),
  ("ArrayRecords$Statements", "field", "[I", true),
  ("ArrayRecords$Statements", "from", "[I", true),
  ("ArrayRecords$Statements", "to", "[I", true),
  ("ArrayRecords$Statements", "inside", "[I", true),
  ("ArrayRecords$Statements", "other", "[I", true),
  ("ArrayRecords$Statements", "next", "[I", true),
  ("ArrayRecords$Statements", "puts", "[I", true),
  ("ArrayRecords$Statements", "many", "[I", true),
  ("ArrayRecords$Statements", "put", "[I", true),
  ("ArrayRecords$Statements", "putFrom", "[I", true),
  ("ArrayRecords$Statements", "putTo", "[I", true),
  ("ArrayRecords$Statements", "size", "I", false),
  ("ArrayRecords$Statements", "allPuts", "I", false)]
def ft_4 : u_T := fun k => fl_4.getD k ("", "", "", false)
def ty_4 : List FieldType := [.array .int, .array .int, .array .int, .array .int, .array .int, .array .int, .array .int, .array .int, .array .int, .array .int, .array .int, .array .int, .array .int, .int, .int]
def fl_5 : List (String × String × String × Bool) := [
  ("ArrayRecords$Parser", "in", "LArrayRecords$Scanner;", true),
  ("ArrayRecords$Parser", "m", "LArrayRecords$Meaning;", true),
  ("ArrayRecords$Parser", "code", "LArrayRecords$Code;", true),
  ("ArrayRecords$Parser", "s", "LArrayRecords$Statements;", true),
  ("ArrayRecords$Parser", "cursors", "[I", true),
  ("ArrayRecords$Parser", "open", "I", false),
  ("ArrayRecords$Parser", "depth", "I", false),
  ("ArrayRecords$Parser", "within", "I", false)]
def ft_5 : u_T := fun k => fl_5.getD k ("", "", "", false)
def ty_5 : List FieldType := [.object "ArrayRecords$Scanner", .object "ArrayRecords$Meaning", .object "ArrayRecords$Code", .object "ArrayRecords$Statements", .array .int, .int, .int, .int]
def fl_6 : List (String × String × String × Bool) := [
  ("ArrayRecords$Machine", "m", "LArrayRecords$Meaning;", true),
  ("ArrayRecords$Machine", "code", "LArrayRecords$Code;", true),
  ("ArrayRecords$Machine", "s", "LArrayRecords$Statements;", true),
  ("ArrayRecords$Machine", "store", "LArrayRecords$Store;", true),
  ("ArrayRecords$Machine", "stack", "LArrayRecords$Stack;", true),
  ("ArrayRecords$Machine", "numbers", "[I", true),
  ("ArrayRecords$Machine", "top", "I", false),
  ("ArrayRecords$Machine", "fuel", "I", false),
  ("ArrayRecords$Machine", "steps", "I", false),
  ("ArrayRecords$Machine", "how", "I", false),
  ("ArrayRecords$Machine", "word", "[I", true),
  ("ArrayRecords$Machine", "birth", "[I", true),
  ("ArrayRecords$Machine", "list", "[I", true),
  ("ArrayRecords$Machine", "births", "[I", true),
  ("ArrayRecords$Machine", "open", "I", false),
  ("ArrayRecords$Machine", "kept", "[I", true),
  ("ArrayRecords$Machine", "printed", "I", false)]
def ft_6 : u_T := fun k => fl_6.getD k ("", "", "", false)
def ty_6 : List FieldType := [.object "ArrayRecords$Meaning", .object "ArrayRecords$Code", .object "ArrayRecords$Statements", .object "ArrayRecords$Store", .object "ArrayRecords$Stack", .array .int, .int, .int, .int, .int, .array .int, .array .int, .array .int, .array .int, .int, .array .int, .int]
def fl_7 : List (String × String × String × Bool) := [
  ("ArrayRecords$Store", "slice", "[J", true),
  ("ArrayRecords$Store", "birth", "[I", true),
  ("ArrayRecords$Store", "births", "I", false)]
def ft_7 : u_T := fun k => fl_7.getD k ("", "", "", false)
def ty_7 : List FieldType := [.array .long, .array .int, .int]
def fl_8 : List (String × String × String × Bool) := [
  ("ArrayRecords$Stack", "bit", "[J", true),
  ("ArrayRecords$Stack", "spare", "[J", true),
  ("ArrayRecords$Stack", "rest", "[J", true),
  ("ArrayRecords$Stack", "top", "I", false),
  ("ArrayRecords$Stack", "less", "J", false),
  ("ArrayRecords$Stack", "same", "J", false)]
def ft_8 : u_T := fun k => fl_8.getD k ("", "", "", false)
def ty_8 : List FieldType := [.array .long, .array .long, .array .long, .int, .long, .long]
def fl_9 : List (String × String × String × Bool) := [
  ("ArrayRecords", "tape", "[B", true),
  ("ArrayRecords", "meaning", "LArrayRecords$Meaning;", true),
  ("ArrayRecords", "scanner", "LArrayRecords$Scanner;", true),
  ("ArrayRecords", "code", "LArrayRecords$Code;", true),
  ("ArrayRecords", "statements", "LArrayRecords$Statements;", true),
  ("ArrayRecords", "parser", "LArrayRecords$Parser;", true),
  ("ArrayRecords", "machine", "LArrayRecords$Machine;", true),
  ("ArrayRecords", "size", "I", false),
  ("ArrayRecords", "first", "I", false),
  ("ArrayRecords", "loaded", "Z", false)]
def ft_9 : u_T := fun k => fl_9.getD k ("", "", "", false)
def ty_9 : List FieldType := [.array .byte, .object "ArrayRecords$Meaning", .object "ArrayRecords$Scanner", .object "ArrayRecords$Code", .object "ArrayRecords$Statements", .object "ArrayRecords$Parser", .object "ArrayRecords$Machine", .int, .int, .boolean]
def fl_10 : List (String × String × String × Bool) := [
  ("ArrayRecordsModel", "thrownCode", "I", false),
  ("ArrayRecordsModel", "tape", "[I", true),
  ("ArrayRecordsModel", "taped", "I", false),
  ("ArrayRecordsModel", "kinds", "I", false),
  ("ArrayRecordsModel", "kindName", "[J", true),
  ("ArrayRecordsModel", "fields", "[I", true),
  ("ArrayRecordsModel", "fieldName", "[J", true),
  ("ArrayRecordsModel", "fieldBits", "[I", true),
  ("ArrayRecordsModel", "variables", "I", false),
  ("ArrayRecordsModel", "varName", "[J", true),
  ("ArrayRecordsModel", "var", "[I", true),
  ("ArrayRecordsModel", "of", "[I", true),
  ("ArrayRecordsModel", "held", "[I", true),
  ("ArrayRecordsModel", "serial", "[I", true),
  ("ArrayRecordsModel", "serials", "I", false),
  ("ArrayRecordsModel", "tok", "[I", true),
  ("ArrayRecordsModel", "tokAt", "[I", true),
  ("ArrayRecordsModel", "tokIs", "[J", true),
  ("ArrayRecordsModel", "toks", "I", false),
  ("ArrayRecordsModel", "words", "[J", true),
  ("ArrayRecordsModel", "cur", "I", false),
  ("ArrayRecordsModel", "wrongAt", "I", false),
  ("ArrayRecordsModel", "placeNow", "I", false),
  ("ArrayRecordsModel", "loaded", "Z", false),
  ("ArrayRecordsModel", "code", "[I", true),
  ("ArrayRecordsModel", "codes", "I", false),
  ("ArrayRecordsModel", "depth", "I", false),
  ("ArrayRecordsModel", "pile", "[I", true),
  ("ArrayRecordsModel", "piled", "I", false),
  ("ArrayRecordsModel", "fieldsOf", "I", false),
  ("ArrayRecordsModel", "blocks", "I", false),
  ("ArrayRecordsModel", "blockIs", "[I", true),
  ("ArrayRecordsModel", "blockJump", "[I", true),
  ("ArrayRecordsModel", "blockFrom", "[I", true),
  ("ArrayRecordsModel", "blockKind", "[I", true),
  ("ArrayRecordsModel", "fuel", "I", false),
  ("ArrayRecordsModel", "taken", "I", false),
  ("ArrayRecordsModel", "values", "[I", true),
  ("ArrayRecordsModel", "main", "[I", true),
  ("ArrayRecordsModel", "mains", "I", false),
  ("ArrayRecordsModel", "eachWord", "[I", true),
  ("ArrayRecordsModel", "eachSerial", "[I", true),
  ("ArrayRecordsModel", "eachCount", "[I", true),
  ("ArrayRecordsModel", "eachAt", "[I", true),
  ("ArrayRecordsModel", "newValue", "[I", true),
  ("ArrayRecordsModel", "chosen", "[Z", true),
  ("ArrayRecordsModel", "prints", "[I", true),
  ("ArrayRecordsModel", "printedNow", "I", false)]
def ft_10 : u_T := fun k => fl_10.getD k ("", "", "", false)
def ty_10 : List FieldType := [.int, .array .int, .int, .int, .array .long, .array .int, .array .long, .array .int, .int, .array .long, .array .int, .array .int, .array .int, .array .int, .int, .array .int, .array .int, .array .long, .int, .array .long, .int, .int, .int, .boolean, .array .int, .int, .int, .array .int, .int, .int, .int, .array .int, .array .int, .array .int, .array .int, .int, .int, .array .int, .array .int, .int, .array .int, .array .int, .array .int, .array .int, .array .int, .array .boolean, .array .int, .int]
abbrev classes : List vw_C := [("ArrayRecords$Meaning", ft_0, 9), ("ArrayRecords$Scanner", ft_1, 10), ("ArrayRecords$Names", ft_2, 2), ("ArrayRecords$Code", ft_3, 9), ("ArrayRecords$Statements", ft_4, 15), ("ArrayRecords$Parser", ft_5, 8), ("ArrayRecords$Machine", ft_6, 17), ("ArrayRecords$Store", ft_7, 3), ("ArrayRecords$Stack", ft_8, 6), ("ArrayRecords", ft_9, 10), ("ArrayRecordsModel", ft_10, 48)]
def tyL : List (List FieldType) := [ty_0, ty_1, ty_2, ty_3, ty_4, ty_5, ty_6, ty_7, ty_8, ty_9, ty_10]
def tyOf (ci k : Nat) : FieldType := (tyL.getD ci []).getD k .int
def nfl (ci : Nat) : Nat := (tyL.getD ci []).length
/-- what the tables say of a class -/
def ck (ci : Nat) (C : String) (T : u_T) (N : Nat) : Prop := classes[ci]? = some (C, T, N) ∧ (∀ w ∈ u_ws C T N, w ∈ lw_tbl) ∧ (∀ k, k < N → parseFieldDescriptor (T k).2.2.1 = some (tyOf ci k)) ∧ (∀ a, a < N → ∀ b, b < N → a ≠ b → (T a).2.1 ≠ (T b).2.1) ∧ (∀ k, k < N → (T k).1 = C) ∧ nfl ci = N
theorem ck_0 : ck 0 "ArrayRecords$Meaning" ft_0 9 := ⟨rfl, by decide +kernel, by decide +kernel, by decide +kernel, by decide +kernel, rfl⟩
theorem ck_1 : ck 1 "ArrayRecords$Scanner" ft_1 10 := ⟨rfl, by decide +kernel, by decide +kernel, by decide +kernel, by decide +kernel, rfl⟩
theorem ck_2 : ck 2 "ArrayRecords$Names" ft_2 2 := ⟨rfl, by decide +kernel, by decide +kernel, by decide +kernel, by decide +kernel, rfl⟩
theorem ck_3 : ck 3 "ArrayRecords$Code" ft_3 9 := ⟨rfl, by decide +kernel, by decide +kernel, by decide +kernel, by decide +kernel, rfl⟩
theorem ck_4 : ck 4 "ArrayRecords$Statements" ft_4 15 := ⟨rfl, by decide +kernel, by decide +kernel, by decide +kernel, by decide +kernel, rfl⟩
theorem ck_5 : ck 5 "ArrayRecords$Parser" ft_5 8 := ⟨rfl, by decide +kernel, by decide +kernel, by decide +kernel, by decide +kernel, rfl⟩
theorem ck_6 : ck 6 "ArrayRecords$Machine" ft_6 17 := ⟨rfl, by decide +kernel, by decide +kernel, by decide +kernel, by decide +kernel, rfl⟩
theorem ck_7 : ck 7 "ArrayRecords$Store" ft_7 3 := ⟨rfl, by decide +kernel, by decide +kernel, by decide +kernel, by decide +kernel, rfl⟩
theorem ck_8 : ck 8 "ArrayRecords$Stack" ft_8 6 := ⟨rfl, by decide +kernel, by decide +kernel, by decide +kernel, by decide +kernel, rfl⟩
theorem ck_9 : ck 9 "ArrayRecords" ft_9 10 := ⟨rfl, by decide +kernel, by decide +kernel, by decide +kernel, by decide +kernel, rfl⟩
theorem ck_10 : ck 10 "ArrayRecordsModel" ft_10 48 := ⟨rfl, by decide +kernel, by decide +kernel, by decide +kernel, by decide +kernel, rfl⟩
