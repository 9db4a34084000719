set_option maxRecDepth 100000
/-! LeaningStreet -/
def RX0 : String := "LeaningStreet"
def TX0 : u_T := fun k => match k with
  | 0 => ("LeaningStreet", "now", "LLeaningStreet$State;", true)
  | 1 => ("LeaningStreet", "image", "LLeaningStreet$State;", true)
  | 2 => ("LeaningStreet", "aside", "LLeaningStreet$State;", true)
  | 3 => ("LeaningStreet", "before", "LLeaningStreet$State;", true)
  | 4 => ("LeaningStreet", "hasImage", "Z", false)
  | 5 => ("LeaningStreet", "pile", "[I", true)
  | 6 => ("LeaningStreet", "tape", "[B", true)
  | 7 => ("LeaningStreet", "taped", "I", false)
  | 8 => ("LeaningStreet", "fault", "LLeaningStreet$Fault;", true)
  | 9 => ("LeaningStreet", "from", "I", false)
  | 10 => ("LeaningStreet", "to", "I", false)
  | 11 => ("LeaningStreet", "end", "I", false)
  | 12 => ("LeaningStreet", "parens", "I", false)
  | 13 => ("LeaningStreet", "nots", "I", false)
  | 14 => ("LeaningStreet", "wordMany", "I", false)
  | 15 => ("LeaningStreet", "keyRead", "I", false)
  | 16 => ("LeaningStreet", "named", "[I", true)
  | 17 => ("LeaningStreet", "thrusts", "[I", true)
  | 18 => ("LeaningStreet", "over", "[I", true)
  | 19 => ("LeaningStreet", "sheets", "[LLeaningStreet$Sheet;", true)
  | 20 => ("LeaningStreet", "slots", "[LLeaningStreet$Slot;", true)
  | 21 => ("LeaningStreet", "carried", "[F", true)
  | 22 => ("LeaningStreet", "waits", "[I", true)
  | 23 => ("LeaningStreet", "waitMany", "I", false)
  | _ => ("LeaningStreet", "rows", "[I", true)
def tyX0 : Nat → FieldType := fun k => match k with
  | 0 => .object "LeaningStreet$State"
  | 1 => .object "LeaningStreet$State"
  | 2 => .object "LeaningStreet$State"
  | 3 => .object "LeaningStreet$State"
  | 4 => .boolean
  | 5 => .array .int
  | 6 => .array .byte
  | 7 => .int
  | 8 => .object "LeaningStreet$Fault"
  | 9 => .int
  | 10 => .int
  | 11 => .int
  | 12 => .int
  | 13 => .int
  | 14 => .int
  | 15 => .int
  | 16 => .array .int
  | 17 => .array .int
  | 18 => .array .int
  | 19 => .array (.object "LeaningStreet$Sheet")
  | 20 => .array (.object "LeaningStreet$Slot")
  | 21 => .array .float
  | 22 => .array .int
  | 23 => .int
  | _ => .array .int
abbrev wsX00 : List Cond := u_ws RX0 TX0 25
set_option maxRecDepth 100000 in
theorem nmX0 : ∀ a, a < 25 → ∀ b, b < 25 → a ≠ b → (TX0 a).2.1 ≠ (TX0 b).2.1 := by decide +kernel
set_option maxRecDepth 100000 in
theorem tyX0_ok : ∀ k, k < 25 → parseFieldDescriptor (TX0 k).2.2.1 = some (tyX0 k) := by decide +kernel
theorem q79 : (Jvm.Cond.initialized "LeaningStreet") ∈ lw_all := lw_g (lw_at lw_m1 1 rfl) rfl
theorem q107 : (Jvm.Cond.instantiable "LeaningStreet" (25 : Nat)) ∈ lw_all := lw_g (lw_at lw_m1 29 rfl) rfl
theorem q109 : (Jvm.Cond.instanceMethod ({ cls := "LeaningStreet", name := "<init>", desc := "()V" } : Jvm.MethodName)) ∈ lw_all := lw_g (lw_at lw_m1 31 rfl) rfl
theorem q110 : (Jvm.Cond.code ({ cls := "LeaningStreet", name := "<init>", desc := "()V" } : Jvm.MethodName) prog_1_method_5_code (1 : Nat) (Option.none : Option Jvm.ClassFile.FieldType)) ∈ lw_all := lw_g (lw_at lw_m1 32 rfl) rfl
theorem q111 : (Jvm.Cond.methodLink "LeaningStreet" (34 : Nat) ({ cls := "java/lang/Object", name := "<init>", desc := "()V" } : Jvm.MethodName)) ∈ lw_all := lw_g (lw_at lw_m1 33 rfl) rfl
theorem q114 : (Jvm.Cond.classLink "LeaningStreet" (37 : Nat) "LeaningStreet$State") ∈ lw_all := lw_g (lw_at lw_m1 36 rfl) rfl
theorem q116 : (Jvm.Cond.methodLinkNest "LeaningStreet" (39 : Nat) ({ cls := "LeaningStreet$State", name := "<init>", desc := "()V" } : Jvm.MethodName) "LeaningStreet") ∈ lw_tbl := lw_at lw_m1 38 rfl
theorem q125 : (Jvm.Cond.fieldLinkNest "LeaningStreet" (361 : Nat) "LeaningStreet$State" "z" "I" "LeaningStreet") ∈ lw_tbl := lw_at lw_m1 47 rfl
theorem q127 : (Jvm.Cond.fieldLinkNest "LeaningStreet" (101 : Nat) "LeaningStreet$State" "many" "I" "LeaningStreet") ∈ lw_tbl := lw_at lw_m1 49 rfl
theorem q129 : (Jvm.Cond.fieldLinkNest "LeaningStreet" (267 : Nat) "LeaningStreet$State" "house" "[LLeaningStreet$House;" "LeaningStreet") ∈ lw_tbl := lw_at lw_m1 51 rfl
theorem q131 : (Jvm.Cond.fieldLinkNest "LeaningStreet" (312 : Nat) "LeaningStreet$State" "snow" "I" "LeaningStreet") ∈ lw_tbl := lw_at lw_m1 53 rfl
theorem q133 : (Jvm.Cond.fieldLinkNest "LeaningStreet" (376 : Nat) "LeaningStreet$State" "rent" "I" "LeaningStreet") ∈ lw_tbl := lw_at lw_m1 55 rfl
theorem q135 : (Jvm.Cond.fieldLinkNest "LeaningStreet" (382 : Nat) "LeaningStreet$State" "day" "I" "LeaningStreet") ∈ lw_tbl := lw_at lw_m1 57 rfl
theorem q137 : (Jvm.Cond.fieldLinkNest "LeaningStreet" (237 : Nat) "LeaningStreet$State" "texts" "I" "LeaningStreet") ∈ lw_tbl := lw_at lw_m1 59 rfl
theorem q139 : (Jvm.Cond.fieldLinkNest "LeaningStreet" (240 : Nat) "LeaningStreet$State" "text" "[LLeaningStreet$Text;" "LeaningStreet") ∈ lw_tbl := lw_at lw_m1 61 rfl
theorem q157 : (Jvm.Cond.classLink "LeaningStreet" (61 : Nat) "LeaningStreet$Fault") ∈ lw_all := lw_g (lw_at lw_m1 79 rfl) rfl
theorem q198 : (Jvm.Cond.methodLinkNest "LeaningStreet" (63 : Nat) ({ cls := "LeaningStreet$Fault", name := "<init>", desc := "()V" } : Jvm.MethodName) "LeaningStreet") ∈ lw_tbl := lw_at lw_m1 120 rfl
theorem q208 : (Jvm.Cond.fieldLinkNest "LeaningStreet" (134 : Nat) "LeaningStreet$Fault" "place" "I" "LeaningStreet") ∈ lw_tbl := lw_at lw_m1 130 rfl
theorem q226 : (Jvm.Cond.classLink "LeaningStreet" (77 : Nat) "LeaningStreet$Sheet") ∈ lw_all := lw_g (lw_at lw_m1 148 rfl) rfl
theorem q229 : (Jvm.Cond.methodLinkNest "LeaningStreet" (79 : Nat) ({ cls := "LeaningStreet$Sheet", name := "<init>", desc := "()V" } : Jvm.MethodName) "LeaningStreet") ∈ lw_tbl := lw_at lw_m1 151 rfl
theorem q234 : (Jvm.Cond.fieldLinkNest "LeaningStreet" (409 : Nat) "LeaningStreet$Sheet" "row" "Ljava/lang/Object;" "LeaningStreet") ∈ lw_tbl := lw_at lw_m1 156 rfl
theorem q238 : (Jvm.Cond.classLink "LeaningStreet" (84 : Nat) "LeaningStreet$Slot") ∈ lw_all := lw_g (lw_at lw_m1 160 rfl) rfl
theorem q241 : (Jvm.Cond.methodLinkNest "LeaningStreet" (86 : Nat) ({ cls := "LeaningStreet$Slot", name := "<init>", desc := "()V" } : Jvm.MethodName) "LeaningStreet") ∈ lw_tbl := lw_at lw_m1 163 rfl
theorem q246 : (Jvm.Cond.fieldLinkNest "LeaningStreet" (488 : Nat) "LeaningStreet$Slot" "held" "Ljava/lang/Object;" "LeaningStreet") ∈ lw_tbl := lw_at lw_m1 168 rfl
theorem q250 : (Jvm.Cond.fieldLink "LeaningStreet" (40 : Nat) "LeaningStreet" "now" "LLeaningStreet$State;") ∈ lw_all := lw_g (lw_at lw_m1 172 rfl) rfl
theorem q251 : (Jvm.Cond.fieldLink "LeaningStreet" (44 : Nat) "LeaningStreet" "image" "LLeaningStreet$State;") ∈ lw_all := lw_g (lw_at lw_m1 173 rfl) rfl
theorem q252 : (Jvm.Cond.fieldLink "LeaningStreet" (47 : Nat) "LeaningStreet" "aside" "LLeaningStreet$State;") ∈ lw_all := lw_g (lw_at lw_m1 174 rfl) rfl
theorem q253 : (Jvm.Cond.fieldLink "LeaningStreet" (50 : Nat) "LeaningStreet" "before" "LLeaningStreet$State;") ∈ lw_all := lw_g (lw_at lw_m1 175 rfl) rfl
theorem q254 : (Jvm.Cond.fieldLink "LeaningStreet" (500 : Nat) "LeaningStreet" "hasImage" "Z") ∈ lw_all := lw_g (lw_at lw_m1 176 rfl) rfl
theorem q255 : (Jvm.Cond.fieldLink "LeaningStreet" (53 : Nat) "LeaningStreet" "pile" "[I") ∈ lw_all := lw_g (lw_at lw_m1 177 rfl) rfl
theorem q256 : (Jvm.Cond.fieldLink "LeaningStreet" (57 : Nat) "LeaningStreet" "tape" "[B") ∈ lw_all := lw_g (lw_at lw_m1 178 rfl) rfl
theorem q257 : (Jvm.Cond.fieldLink "LeaningStreet" (122 : Nat) "LeaningStreet" "taped" "I") ∈ lw_all := lw_g (lw_at lw_m1 179 rfl) rfl
theorem q258 : (Jvm.Cond.fieldLink "LeaningStreet" (64 : Nat) "LeaningStreet" "fault" "LLeaningStreet$Fault;") ∈ lw_all := lw_g (lw_at lw_m1 180 rfl) rfl
theorem q259 : (Jvm.Cond.fieldLink "LeaningStreet" (131 : Nat) "LeaningStreet" "from" "I") ∈ lw_all := lw_g (lw_at lw_m1 181 rfl) rfl
theorem q260 : (Jvm.Cond.fieldLink "LeaningStreet" (137 : Nat) "LeaningStreet" "to" "I") ∈ lw_all := lw_g (lw_at lw_m1 182 rfl) rfl
theorem q261 : (Jvm.Cond.fieldLink "LeaningStreet" (140 : Nat) "LeaningStreet" "end" "I") ∈ lw_all := lw_g (lw_at lw_m1 183 rfl) rfl
theorem q262 : (Jvm.Cond.fieldLink "LeaningStreet" (199 : Nat) "LeaningStreet" "parens" "I") ∈ lw_all := lw_g (lw_at lw_m1 184 rfl) rfl
theorem q263 : (Jvm.Cond.fieldLink "LeaningStreet" (196 : Nat) "LeaningStreet" "nots" "I") ∈ lw_all := lw_g (lw_at lw_m1 185 rfl) rfl
theorem q264 : (Jvm.Cond.fieldLink "LeaningStreet" (202 : Nat) "LeaningStreet" "wordMany" "I") ∈ lw_all := lw_g (lw_at lw_m1 186 rfl) rfl
theorem q265 : (Jvm.Cond.fieldLink "LeaningStreet" (193 : Nat) "LeaningStreet" "keyRead" "I") ∈ lw_all := lw_g (lw_at lw_m1 187 rfl) rfl
theorem q266 : (Jvm.Cond.fieldLink "LeaningStreet" (68 : Nat) "LeaningStreet" "named" "[I") ∈ lw_all := lw_g (lw_at lw_m1 188 rfl) rfl
theorem q267 : (Jvm.Cond.fieldLink "LeaningStreet" (71 : Nat) "LeaningStreet" "thrusts" "[I") ∈ lw_all := lw_g (lw_at lw_m1 189 rfl) rfl
theorem q268 : (Jvm.Cond.fieldLink "LeaningStreet" (74 : Nat) "LeaningStreet" "over" "[I") ∈ lw_all := lw_g (lw_at lw_m1 190 rfl) rfl
theorem q269 : (Jvm.Cond.fieldLink "LeaningStreet" (80 : Nat) "LeaningStreet" "sheets" "[LLeaningStreet$Sheet;") ∈ lw_all := lw_g (lw_at lw_m1 191 rfl) rfl
theorem q270 : (Jvm.Cond.fieldLink "LeaningStreet" (87 : Nat) "LeaningStreet" "slots" "[LLeaningStreet$Slot;") ∈ lw_all := lw_g (lw_at lw_m1 192 rfl) rfl
theorem q271 : (Jvm.Cond.fieldLink "LeaningStreet" (91 : Nat) "LeaningStreet" "carried" "[F") ∈ lw_all := lw_g (lw_at lw_m1 193 rfl) rfl
theorem q272 : (Jvm.Cond.fieldLink "LeaningStreet" (95 : Nat) "LeaningStreet" "waits" "[I") ∈ lw_all := lw_g (lw_at lw_m1 194 rfl) rfl
theorem q273 : (Jvm.Cond.fieldLink "LeaningStreet" (497 : Nat) "LeaningStreet" "waitMany" "I") ∈ lw_all := lw_g (lw_at lw_m1 195 rfl) rfl
theorem q274 : (Jvm.Cond.fieldLink "LeaningStreet" (98 : Nat) "LeaningStreet" "rows" "[I") ∈ lw_all := lw_g (lw_at lw_m1 196 rfl) rfl
theorem q275 : (Jvm.Cond.laysFinal "LeaningStreet" "LeaningStreet" "now" "LLeaningStreet$State;") ∈ lw_all := lw_g (lw_at lw_m1 197 rfl) rfl
theorem q276 : (Jvm.Cond.soleField "LeaningStreet" "now") ∈ lw_all := lw_g (lw_at lw_m1 198 rfl) rfl
theorem q277 : (Jvm.Cond.laysFinal "LeaningStreet" "LeaningStreet" "image" "LLeaningStreet$State;") ∈ lw_all := lw_g (lw_at lw_m1 199 rfl) rfl
theorem q278 : (Jvm.Cond.soleField "LeaningStreet" "image") ∈ lw_all := lw_g (lw_at lw_m1 200 rfl) rfl
theorem q279 : (Jvm.Cond.laysFinal "LeaningStreet" "LeaningStreet" "aside" "LLeaningStreet$State;") ∈ lw_all := lw_g (lw_at lw_m1 201 rfl) rfl
theorem q280 : (Jvm.Cond.soleField "LeaningStreet" "aside") ∈ lw_all := lw_g (lw_at lw_m1 202 rfl) rfl
theorem q281 : (Jvm.Cond.laysFinal "LeaningStreet" "LeaningStreet" "before" "LLeaningStreet$State;") ∈ lw_all := lw_g (lw_at lw_m1 203 rfl) rfl
theorem q282 : (Jvm.Cond.soleField "LeaningStreet" "before") ∈ lw_all := lw_g (lw_at lw_m1 204 rfl) rfl
theorem q283 : (Jvm.Cond.lays "LeaningStreet" "LeaningStreet" "hasImage" "Z") ∈ lw_all := lw_g (lw_at lw_m1 205 rfl) rfl
theorem q284 : (Jvm.Cond.soleField "LeaningStreet" "hasImage") ∈ lw_all := lw_g (lw_at lw_m1 206 rfl) rfl
theorem q285 : (Jvm.Cond.laysFinal "LeaningStreet" "LeaningStreet" "pile" "[I") ∈ lw_all := lw_g (lw_at lw_m1 207 rfl) rfl
theorem q286 : (Jvm.Cond.soleField "LeaningStreet" "pile") ∈ lw_all := lw_g (lw_at lw_m1 208 rfl) rfl
theorem q287 : (Jvm.Cond.laysFinal "LeaningStreet" "LeaningStreet" "tape" "[B") ∈ lw_all := lw_g (lw_at lw_m1 209 rfl) rfl
theorem q288 : (Jvm.Cond.soleField "LeaningStreet" "tape") ∈ lw_all := lw_g (lw_at lw_m1 210 rfl) rfl
theorem q289 : (Jvm.Cond.lays "LeaningStreet" "LeaningStreet" "taped" "I") ∈ lw_all := lw_g (lw_at lw_m1 211 rfl) rfl
theorem q290 : (Jvm.Cond.soleField "LeaningStreet" "taped") ∈ lw_all := lw_g (lw_at lw_m1 212 rfl) rfl
theorem q291 : (Jvm.Cond.laysFinal "LeaningStreet" "LeaningStreet" "fault" "LLeaningStreet$Fault;") ∈ lw_all := lw_g (lw_at lw_m1 213 rfl) rfl
theorem q292 : (Jvm.Cond.soleField "LeaningStreet" "fault") ∈ lw_all := lw_g (lw_at lw_m1 214 rfl) rfl
theorem q293 : (Jvm.Cond.lays "LeaningStreet" "LeaningStreet" "from" "I") ∈ lw_all := lw_g (lw_at lw_m1 215 rfl) rfl
theorem q294 : (Jvm.Cond.soleField "LeaningStreet" "from") ∈ lw_all := lw_g (lw_at lw_m1 216 rfl) rfl
theorem q295 : (Jvm.Cond.lays "LeaningStreet" "LeaningStreet" "to" "I") ∈ lw_all := lw_g (lw_at lw_m1 217 rfl) rfl
theorem q296 : (Jvm.Cond.soleField "LeaningStreet" "to") ∈ lw_all := lw_g (lw_at lw_m1 218 rfl) rfl
theorem q297 : (Jvm.Cond.lays "LeaningStreet" "LeaningStreet" "end" "I") ∈ lw_all := lw_g (lw_at lw_m1 219 rfl) rfl
theorem q298 : (Jvm.Cond.soleField "LeaningStreet" "end") ∈ lw_all := lw_g (lw_at lw_m1 220 rfl) rfl
theorem q299 : (Jvm.Cond.lays "LeaningStreet" "LeaningStreet" "parens" "I") ∈ lw_all := lw_g (lw_at lw_m1 221 rfl) rfl
theorem q300 : (Jvm.Cond.soleField "LeaningStreet" "parens") ∈ lw_all := lw_g (lw_at lw_m1 222 rfl) rfl
theorem q301 : (Jvm.Cond.lays "LeaningStreet" "LeaningStreet" "nots" "I") ∈ lw_all := lw_g (lw_at lw_m1 223 rfl) rfl
theorem q302 : (Jvm.Cond.soleField "LeaningStreet" "nots") ∈ lw_all := lw_g (lw_at lw_m1 224 rfl) rfl
theorem q303 : (Jvm.Cond.lays "LeaningStreet" "LeaningStreet" "wordMany" "I") ∈ lw_all := lw_g (lw_at lw_m1 225 rfl) rfl
theorem q304 : (Jvm.Cond.soleField "LeaningStreet" "wordMany") ∈ lw_all := lw_g (lw_at lw_m1 226 rfl) rfl
theorem q305 : (Jvm.Cond.lays "LeaningStreet" "LeaningStreet" "keyRead" "I") ∈ lw_all := lw_g (lw_at lw_m1 227 rfl) rfl
theorem q306 : (Jvm.Cond.soleField "LeaningStreet" "keyRead") ∈ lw_all := lw_g (lw_at lw_m1 228 rfl) rfl
theorem q307 : (Jvm.Cond.laysFinal "LeaningStreet" "LeaningStreet" "named" "[I") ∈ lw_all := lw_g (lw_at lw_m1 229 rfl) rfl
theorem q308 : (Jvm.Cond.soleField "LeaningStreet" "named") ∈ lw_all := lw_g (lw_at lw_m1 230 rfl) rfl
theorem q309 : (Jvm.Cond.laysFinal "LeaningStreet" "LeaningStreet" "thrusts" "[I") ∈ lw_all := lw_g (lw_at lw_m1 231 rfl) rfl
theorem q310 : (Jvm.Cond.soleField "LeaningStreet" "thrusts") ∈ lw_all := lw_g (lw_at lw_m1 232 rfl) rfl
theorem q311 : (Jvm.Cond.laysFinal "LeaningStreet" "LeaningStreet" "over" "[I") ∈ lw_all := lw_g (lw_at lw_m1 233 rfl) rfl
theorem q312 : (Jvm.Cond.soleField "LeaningStreet" "over") ∈ lw_all := lw_g (lw_at lw_m1 234 rfl) rfl
theorem q313 : (Jvm.Cond.laysFinal "LeaningStreet" "LeaningStreet" "sheets" "[LLeaningStreet$Sheet;") ∈ lw_all := lw_g (lw_at lw_m1 235 rfl) rfl
theorem q314 : (Jvm.Cond.soleField "LeaningStreet" "sheets") ∈ lw_all := lw_g (lw_at lw_m1 236 rfl) rfl
theorem q315 : (Jvm.Cond.laysFinal "LeaningStreet" "LeaningStreet" "slots" "[LLeaningStreet$Slot;") ∈ lw_all := lw_g (lw_at lw_m1 237 rfl) rfl
theorem q316 : (Jvm.Cond.soleField "LeaningStreet" "slots") ∈ lw_all := lw_g (lw_at lw_m1 238 rfl) rfl
theorem q317 : (Jvm.Cond.laysFinal "LeaningStreet" "LeaningStreet" "carried" "[F") ∈ lw_all := lw_g (lw_at lw_m1 239 rfl) rfl
theorem q318 : (Jvm.Cond.soleField "LeaningStreet" "carried") ∈ lw_all := lw_g (lw_at lw_m2 0 rfl) rfl
theorem q319 : (Jvm.Cond.laysFinal "LeaningStreet" "LeaningStreet" "waits" "[I") ∈ lw_all := lw_g (lw_at lw_m2 1 rfl) rfl
theorem q320 : (Jvm.Cond.soleField "LeaningStreet" "waits") ∈ lw_all := lw_g (lw_at lw_m2 2 rfl) rfl
theorem q321 : (Jvm.Cond.lays "LeaningStreet" "LeaningStreet" "waitMany" "I") ∈ lw_all := lw_g (lw_at lw_m2 3 rfl) rfl
theorem q322 : (Jvm.Cond.soleField "LeaningStreet" "waitMany") ∈ lw_all := lw_g (lw_at lw_m2 4 rfl) rfl
theorem q323 : (Jvm.Cond.laysFinal "LeaningStreet" "LeaningStreet" "rows" "[I") ∈ lw_all := lw_g (lw_at lw_m2 5 rfl) rfl
theorem q324 : (Jvm.Cond.soleField "LeaningStreet" "rows") ∈ lw_all := lw_g (lw_at lw_m2 6 rfl) rfl
theorem q325 : (Jvm.Cond.superclass "LeaningStreet" "java/lang/Object") ∈ lw_all := lw_g (lw_at lw_m2 7 rfl) rfl
theorem q328 : (Jvm.Cond.instanceMethod ({ cls := "LeaningStreet", name := "feed", desc := "(III)I" } : Jvm.MethodName)) ∈ lw_all := lw_g (lw_at lw_m2 10 rfl) rfl
theorem q329 : (Jvm.Cond.selects "LeaningStreet" ({ cls := "LeaningStreet", name := "feed", desc := "(III)I" } : Jvm.MethodName) ({ cls := "LeaningStreet", name := "feed", desc := "(III)I" } : Jvm.MethodName)) ∈ lw_all := lw_g (lw_at lw_m2 11 rfl) rfl
theorem q330 : (Jvm.Cond.code ({ cls := "LeaningStreet", name := "feed", desc := "(III)I" } : Jvm.MethodName) prog_1_method_9_code (4 : Nat) (Option.some Jvm.ClassFile.FieldType.int)) ∈ lw_all := lw_g (lw_at lw_m2 12 rfl) rfl
theorem q331 : (Jvm.Cond.constant "LeaningStreet" (125 : Nat) (-1000000003 : Int32)) ∈ lw_all := lw_g (lw_at lw_m2 13 rfl) rfl
theorem q332 : (Jvm.Cond.methodLink "LeaningStreet" (126 : Nat) ({ cls := "LeaningStreet", name := "four", desc := "(I)V" } : Jvm.MethodName)) ∈ lw_all := lw_g (lw_at lw_m2 14 rfl) rfl
theorem q333 : (Jvm.Cond.privateMethod ({ cls := "LeaningStreet", name := "four", desc := "(I)V" } : Jvm.MethodName)) ∈ lw_tbl := lw_at lw_m2 15 rfl
theorem q334 : (Jvm.Cond.instanceMethod ({ cls := "LeaningStreet", name := "four", desc := "(I)V" } : Jvm.MethodName)) ∈ lw_all := lw_g (lw_at lw_m2 16 rfl) rfl
theorem q335 : (Jvm.Cond.code ({ cls := "LeaningStreet", name := "four", desc := "(I)V" } : Jvm.MethodName) prog_1_method_10_code (3 : Nat) (Option.none : Option Jvm.ClassFile.FieldType)) ∈ lw_all := lw_g (lw_at lw_m2 17 rfl) rfl
theorem q337 : (Jvm.Cond.instanceMethod ({ cls := "LeaningStreet", name := "trim", desc := "(I)I" } : Jvm.MethodName)) ∈ lw_all := lw_g (lw_at lw_m2 19 rfl) rfl
theorem q338 : (Jvm.Cond.selects "LeaningStreet" ({ cls := "LeaningStreet", name := "trim", desc := "(I)I" } : Jvm.MethodName) ({ cls := "LeaningStreet", name := "trim", desc := "(I)I" } : Jvm.MethodName)) ∈ lw_all := lw_g (lw_at lw_m2 20 rfl) rfl
theorem q339 : (Jvm.Cond.code ({ cls := "LeaningStreet", name := "trim", desc := "(I)I" } : Jvm.MethodName) prog_1_method_11_code (2 : Nat) (Option.some Jvm.ClassFile.FieldType.int)) ∈ lw_all := lw_g (lw_at lw_m2 21 rfl) rfl
theorem q340 : (Jvm.Cond.methodLink "LeaningStreet" (105 : Nat) ({ cls := "LeaningStreet", name := "isIn", desc := "(III)Z" } : Jvm.MethodName)) ∈ lw_all := lw_g (lw_at lw_m2 22 rfl) rfl
theorem q341 : (Jvm.Cond.static ({ cls := "LeaningStreet", name := "isIn", desc := "(III)Z" } : Jvm.MethodName)) ∈ lw_all := lw_g (lw_at lw_m2 23 rfl) rfl
theorem q342 : (Jvm.Cond.code ({ cls := "LeaningStreet", name := "isIn", desc := "(III)Z" } : Jvm.MethodName) prog_1_method_1_code (3 : Nat) (Option.some Jvm.ClassFile.FieldType.boolean)) ∈ lw_all := lw_g (lw_at lw_m2 24 rfl) rfl
theorem q343 : (Jvm.Cond.constant "LeaningStreet" (130 : Nat) (-1000000001 : Int32)) ∈ lw_all := lw_g (lw_at lw_m2 25 rfl) rfl
theorem q345 : (Jvm.Cond.instanceMethod ({ cls := "LeaningStreet", name := "text", desc := "()I" } : Jvm.MethodName)) ∈ lw_all := lw_g (lw_at lw_m2 27 rfl) rfl
theorem q346 : (Jvm.Cond.selects "LeaningStreet" ({ cls := "LeaningStreet", name := "text", desc := "()I" } : Jvm.MethodName) ({ cls := "LeaningStreet", name := "text", desc := "()I" } : Jvm.MethodName)) ∈ lw_all := lw_g (lw_at lw_m2 28 rfl) rfl
theorem q347 : (Jvm.Cond.codeWith ({ cls := "LeaningStreet", name := "text", desc := "()I" } : Jvm.MethodName) prog_1_method_29_code (4 : Nat) (Option.some Jvm.ClassFile.FieldType.int) [((0 : Nat), (20 : Nat), (73 : Nat), (61 : Nat)), ((27 : Nat), (66 : Nat), (73 : Nat), (61 : Nat)), ((0 : Nat), (20 : Nat), (89 : Nat), (0 : Nat)), ((27 : Nat), (66 : Nat), (89 : Nat), (0 : Nat)), ((73 : Nat), (82 : Nat), (89 : Nat), (0 : Nat))]) ∈ lw_all := lw_g (lw_at lw_m2 29 rfl) rfl
theorem q348 : (Jvm.Cond.methodLink "LeaningStreet" (233 : Nat) ({ cls := "LeaningStreet", name := "textRead", desc := "()LLeaningStreet$Text;" } : Jvm.MethodName)) ∈ lw_all := lw_g (lw_at lw_m2 30 rfl) rfl
theorem q349 : (Jvm.Cond.privateMethod ({ cls := "LeaningStreet", name := "textRead", desc := "()LLeaningStreet$Text;" } : Jvm.MethodName)) ∈ lw_tbl := lw_at lw_m2 31 rfl
theorem q350 : (Jvm.Cond.instanceMethod ({ cls := "LeaningStreet", name := "textRead", desc := "()LLeaningStreet$Text;" } : Jvm.MethodName)) ∈ lw_all := lw_g (lw_at lw_m2 32 rfl) rfl
theorem q351 : (Jvm.Cond.code ({ cls := "LeaningStreet", name := "textRead", desc := "()LLeaningStreet$Text;" } : Jvm.MethodName) prog_1_method_28_code (2 : Nat) (Option.some (Jvm.ClassFile.FieldType.object "LeaningStreet$Text"))) ∈ lw_all := lw_g (lw_at lw_m2 33 rfl) rfl
theorem q352 : (Jvm.Cond.methodLink "LeaningStreet" (163 : Nat) ({ cls := "LeaningStreet", name := "goes", desc := "()V" } : Jvm.MethodName)) ∈ lw_all := lw_g (lw_at lw_m2 34 rfl) rfl
theorem q353 : (Jvm.Cond.privateMethod ({ cls := "LeaningStreet", name := "goes", desc := "()V" } : Jvm.MethodName)) ∈ lw_tbl := lw_at lw_m2 35 rfl
theorem q354 : (Jvm.Cond.instanceMethod ({ cls := "LeaningStreet", name := "goes", desc := "()V" } : Jvm.MethodName)) ∈ lw_all := lw_g (lw_at lw_m2 36 rfl) rfl
theorem q355 : (Jvm.Cond.code ({ cls := "LeaningStreet", name := "goes", desc := "()V" } : Jvm.MethodName) prog_1_method_15_code (5 : Nat) (Option.none : Option Jvm.ClassFile.FieldType)) ∈ lw_all := lw_g (lw_at lw_m2 37 rfl) rfl
theorem q356 : (Jvm.Cond.methodLink "LeaningStreet" (143 : Nat) ({ cls := "LeaningStreet", name := "isLetter", desc := "(I)Z" } : Jvm.MethodName)) ∈ lw_all := lw_g (lw_at lw_m2 38 rfl) rfl
theorem q357 : (Jvm.Cond.static ({ cls := "LeaningStreet", name := "isLetter", desc := "(I)Z" } : Jvm.MethodName)) ∈ lw_all := lw_g (lw_at lw_m2 39 rfl) rfl
theorem q358 : (Jvm.Cond.code ({ cls := "LeaningStreet", name := "isLetter", desc := "(I)Z" } : Jvm.MethodName) prog_1_method_13_code (1 : Nat) (Option.some Jvm.ClassFile.FieldType.boolean)) ∈ lw_all := lw_g (lw_at lw_m2 40 rfl) rfl
theorem q359 : (Jvm.Cond.methodLink "LeaningStreet" (147 : Nat) ({ cls := "LeaningStreet", name := "isDigit", desc := "(I)Z" } : Jvm.MethodName)) ∈ lw_all := lw_g (lw_at lw_m2 41 rfl) rfl
theorem q360 : (Jvm.Cond.static ({ cls := "LeaningStreet", name := "isDigit", desc := "(I)Z" } : Jvm.MethodName)) ∈ lw_all := lw_g (lw_at lw_m2 42 rfl) rfl
theorem q361 : (Jvm.Cond.code ({ cls := "LeaningStreet", name := "isDigit", desc := "(I)Z" } : Jvm.MethodName) prog_1_method_14_code (1 : Nat) (Option.some Jvm.ClassFile.FieldType.boolean)) ∈ lw_all := lw_g (lw_at lw_m2 43 rfl) rfl
theorem q362 : (Jvm.Cond.methodLink "LeaningStreet" (150 : Nat) ({ cls := "LeaningStreet", name := "wrong", desc := "()V" } : Jvm.MethodName)) ∈ lw_all := lw_g (lw_at lw_m2 44 rfl) rfl
theorem q363 : (Jvm.Cond.privateMethod ({ cls := "LeaningStreet", name := "wrong", desc := "()V" } : Jvm.MethodName)) ∈ lw_tbl := lw_at lw_m2 45 rfl
theorem q364 : (Jvm.Cond.instanceMethod ({ cls := "LeaningStreet", name := "wrong", desc := "()V" } : Jvm.MethodName)) ∈ lw_all := lw_g (lw_at lw_m2 46 rfl) rfl
theorem q365 : (Jvm.Cond.code ({ cls := "LeaningStreet", name := "wrong", desc := "()V" } : Jvm.MethodName) prog_1_method_12_code (1 : Nat) (Option.none : Option Jvm.ClassFile.FieldType)) ∈ lw_all := lw_g (lw_at lw_m2 47 rfl) rfl
theorem q366 : (Jvm.Cond.methodLink "LeaningStreet" (221 : Nat) ({ cls := "LeaningStreet", name := "key", desc := "()I" } : Jvm.MethodName)) ∈ lw_all := lw_g (lw_at lw_m2 48 rfl) rfl
theorem q367 : (Jvm.Cond.privateMethod ({ cls := "LeaningStreet", name := "key", desc := "()I" } : Jvm.MethodName)) ∈ lw_tbl := lw_at lw_m2 49 rfl
theorem q368 : (Jvm.Cond.instanceMethod ({ cls := "LeaningStreet", name := "key", desc := "()I" } : Jvm.MethodName)) ∈ lw_all := lw_g (lw_at lw_m2 50 rfl) rfl
theorem q369 : (Jvm.Cond.code ({ cls := "LeaningStreet", name := "key", desc := "()I" } : Jvm.MethodName) prog_1_method_27_code (2 : Nat) (Option.some Jvm.ClassFile.FieldType.int)) ∈ lw_all := lw_g (lw_at lw_m2 51 rfl) rfl
theorem q370 : (Jvm.Cond.stringRef "LeaningStreet" (211 : Nat) "push") ∈ lw_tbl := lw_at lw_m2 52 rfl
theorem q371 : (Jvm.Cond.methodLink "LeaningStreet" (213 : Nat) ({ cls := "LeaningStreet", name := "isWord", desc := "(Ljava/lang/String;)Z" } : Jvm.MethodName)) ∈ lw_all := lw_g (lw_at lw_m2 53 rfl) rfl
theorem q372 : (Jvm.Cond.privateMethod ({ cls := "LeaningStreet", name := "isWord", desc := "(Ljava/lang/String;)Z" } : Jvm.MethodName)) ∈ lw_tbl := lw_at lw_m2 54 rfl
theorem q373 : (Jvm.Cond.instanceMethod ({ cls := "LeaningStreet", name := "isWord", desc := "(Ljava/lang/String;)Z" } : Jvm.MethodName)) ∈ lw_all := lw_g (lw_at lw_m2 55 rfl) rfl
theorem q374 : (Jvm.Cond.code ({ cls := "LeaningStreet", name := "isWord", desc := "(Ljava/lang/String;)Z" } : Jvm.MethodName) prog_1_method_16_code (4 : Nat) (Option.some Jvm.ClassFile.FieldType.boolean)) ∈ lw_all := lw_g (lw_at lw_m2 56 rfl) rfl
theorem q375 : (Jvm.Cond.methodLink "LeaningStreet" (153 : Nat) ({ cls := "java/lang/String", name := "length", desc := "()I" } : Jvm.MethodName)) ∈ lw_all := lw_g (lw_at lw_m2 57 rfl) rfl
theorem q385 : (Jvm.Cond.methodLink "LeaningStreet" (159 : Nat) ({ cls := "java/lang/String", name := "charAt", desc := "(I)C" } : Jvm.MethodName)) ∈ lw_all := lw_g (lw_at lw_m2 67 rfl) rfl
theorem q423 : (Jvm.Cond.stringRef "LeaningStreet" (217 : Nat) "fee") ∈ lw_tbl := lw_at lw_m2 105 rfl
theorem q424 : (Jvm.Cond.stringRef "LeaningStreet" (219 : Nat) "fine") ∈ lw_tbl := lw_at lw_m2 106 rfl
theorem q425 : (Jvm.Cond.methodLink "LeaningStreet" (224 : Nat) ({ cls := "LeaningStreet", name := "expression", desc := "()LLeaningStreet$Words;" } : Jvm.MethodName)) ∈ lw_all := lw_g (lw_at lw_m2 107 rfl) rfl
theorem q426 : (Jvm.Cond.privateMethod ({ cls := "LeaningStreet", name := "expression", desc := "()LLeaningStreet$Words;" } : Jvm.MethodName)) ∈ lw_tbl := lw_at lw_m2 108 rfl
theorem q427 : (Jvm.Cond.instanceMethod ({ cls := "LeaningStreet", name := "expression", desc := "()LLeaningStreet$Words;" } : Jvm.MethodName)) ∈ lw_all := lw_g (lw_at lw_m2 109 rfl) rfl
theorem q428 : (Jvm.Cond.code ({ cls := "LeaningStreet", name := "expression", desc := "()LLeaningStreet$Words;" } : Jvm.MethodName) prog_1_method_19_code (2 : Nat) (Option.some (Jvm.ClassFile.FieldType.object "LeaningStreet$Words"))) ∈ lw_all := lw_g (lw_at lw_m2 110 rfl) rfl
theorem q429 : (Jvm.Cond.classLink "LeaningStreet" (110 : Nat) "LeaningStreet$Words") ∈ lw_all := lw_g (lw_at lw_m2 111 rfl) rfl
theorem q431 : (Jvm.Cond.methodLinkNest "LeaningStreet" (166 : Nat) ({ cls := "LeaningStreet$Words", name := "<init>", desc := "()V" } : Jvm.MethodName) "LeaningStreet") ∈ lw_tbl := lw_at lw_m2 113 rfl
theorem q436 : (Jvm.Cond.fieldLinkNest "LeaningStreet" (112 : Nat) "LeaningStreet$Words" "word" "[I" "LeaningStreet") ∈ lw_tbl := lw_at lw_m2 118 rfl
theorem q438 : (Jvm.Cond.fieldLinkNest "LeaningStreet" (115 : Nat) "LeaningStreet$Words" "value" "[I" "LeaningStreet") ∈ lw_tbl := lw_at lw_m2 120 rfl
theorem q440 : (Jvm.Cond.fieldLinkNest "LeaningStreet" (109 : Nat) "LeaningStreet$Words" "many" "I" "LeaningStreet") ∈ lw_tbl := lw_at lw_m2 122 rfl
theorem q448 : (Jvm.Cond.methodLink "LeaningStreet" (167 : Nat) ({ cls := "LeaningStreet", name := "or", desc := "(LLeaningStreet$Words;)V" } : Jvm.MethodName)) ∈ lw_all := lw_g (lw_at lw_m2 130 rfl) rfl
theorem q449 : (Jvm.Cond.privateMethod ({ cls := "LeaningStreet", name := "or", desc := "(LLeaningStreet$Words;)V" } : Jvm.MethodName)) ∈ lw_tbl := lw_at lw_m2 131 rfl
theorem q450 : (Jvm.Cond.instanceMethod ({ cls := "LeaningStreet", name := "or", desc := "(LLeaningStreet$Words;)V" } : Jvm.MethodName)) ∈ lw_all := lw_g (lw_at lw_m2 132 rfl) rfl
theorem q451 : (Jvm.Cond.code ({ cls := "LeaningStreet", name := "or", desc := "(LLeaningStreet$Words;)V" } : Jvm.MethodName) prog_1_method_20_code (2 : Nat) (Option.none : Option Jvm.ClassFile.FieldType)) ∈ lw_all := lw_g (lw_at lw_m2 133 rfl) rfl
theorem q452 : (Jvm.Cond.methodLink "LeaningStreet" (171 : Nat) ({ cls := "LeaningStreet", name := "and", desc := "(LLeaningStreet$Words;)V" } : Jvm.MethodName)) ∈ lw_all := lw_g (lw_at lw_m2 134 rfl) rfl
theorem q453 : (Jvm.Cond.privateMethod ({ cls := "LeaningStreet", name := "and", desc := "(LLeaningStreet$Words;)V" } : Jvm.MethodName)) ∈ lw_tbl := lw_at lw_m2 135 rfl
theorem q454 : (Jvm.Cond.instanceMethod ({ cls := "LeaningStreet", name := "and", desc := "(LLeaningStreet$Words;)V" } : Jvm.MethodName)) ∈ lw_all := lw_g (lw_at lw_m2 136 rfl) rfl
theorem q455 : (Jvm.Cond.code ({ cls := "LeaningStreet", name := "and", desc := "(LLeaningStreet$Words;)V" } : Jvm.MethodName) prog_1_method_21_code (2 : Nat) (Option.none : Option Jvm.ClassFile.FieldType)) ∈ lw_all := lw_g (lw_at lw_m2 137 rfl) rfl
theorem q456 : (Jvm.Cond.methodLink "LeaningStreet" (181 : Nat) ({ cls := "LeaningStreet", name := "test", desc := "(LLeaningStreet$Words;)V" } : Jvm.MethodName)) ∈ lw_all := lw_g (lw_at lw_m2 138 rfl) rfl
theorem q457 : (Jvm.Cond.privateMethod ({ cls := "LeaningStreet", name := "test", desc := "(LLeaningStreet$Words;)V" } : Jvm.MethodName)) ∈ lw_tbl := lw_at lw_m2 139 rfl
theorem q458 : (Jvm.Cond.instanceMethod ({ cls := "LeaningStreet", name := "test", desc := "(LLeaningStreet$Words;)V" } : Jvm.MethodName)) ∈ lw_all := lw_g (lw_at lw_m2 140 rfl) rfl
theorem q459 : (Jvm.Cond.code ({ cls := "LeaningStreet", name := "test", desc := "(LLeaningStreet$Words;)V" } : Jvm.MethodName) prog_1_method_22_code (3 : Nat) (Option.none : Option Jvm.ClassFile.FieldType)) ∈ lw_all := lw_g (lw_at lw_m2 141 rfl) rfl
theorem q460 : (Jvm.Cond.methodLink "LeaningStreet" (184 : Nat) ({ cls := "LeaningStreet", name := "sum", desc := "(LLeaningStreet$Words;)V" } : Jvm.MethodName)) ∈ lw_all := lw_g (lw_at lw_m2 142 rfl) rfl
theorem q461 : (Jvm.Cond.privateMethod ({ cls := "LeaningStreet", name := "sum", desc := "(LLeaningStreet$Words;)V" } : Jvm.MethodName)) ∈ lw_tbl := lw_at lw_m2 143 rfl
theorem q462 : (Jvm.Cond.instanceMethod ({ cls := "LeaningStreet", name := "sum", desc := "(LLeaningStreet$Words;)V" } : Jvm.MethodName)) ∈ lw_all := lw_g (lw_at lw_m2 144 rfl) rfl
theorem q463 : (Jvm.Cond.code ({ cls := "LeaningStreet", name := "sum", desc := "(LLeaningStreet$Words;)V" } : Jvm.MethodName) prog_1_method_23_code (3 : Nat) (Option.none : Option Jvm.ClassFile.FieldType)) ∈ lw_all := lw_g (lw_at lw_m2 145 rfl) rfl
theorem q464 : (Jvm.Cond.methodLink "LeaningStreet" (187 : Nat) ({ cls := "LeaningStreet", name := "term", desc := "(LLeaningStreet$Words;)V" } : Jvm.MethodName)) ∈ lw_all := lw_g (lw_at lw_m2 146 rfl) rfl
theorem q465 : (Jvm.Cond.privateMethod ({ cls := "LeaningStreet", name := "term", desc := "(LLeaningStreet$Words;)V" } : Jvm.MethodName)) ∈ lw_tbl := lw_at lw_m2 147 rfl
theorem q466 : (Jvm.Cond.instanceMethod ({ cls := "LeaningStreet", name := "term", desc := "(LLeaningStreet$Words;)V" } : Jvm.MethodName)) ∈ lw_all := lw_g (lw_at lw_m2 148 rfl) rfl
theorem q467 : (Jvm.Cond.code ({ cls := "LeaningStreet", name := "term", desc := "(LLeaningStreet$Words;)V" } : Jvm.MethodName) prog_1_method_24_code (3 : Nat) (Option.none : Option Jvm.ClassFile.FieldType)) ∈ lw_all := lw_g (lw_at lw_m2 149 rfl) rfl
theorem q468 : (Jvm.Cond.methodLink "LeaningStreet" (190 : Nat) ({ cls := "LeaningStreet", name := "piece", desc := "(LLeaningStreet$Words;)V" } : Jvm.MethodName)) ∈ lw_all := lw_g (lw_at lw_m2 150 rfl) rfl
theorem q469 : (Jvm.Cond.privateMethod ({ cls := "LeaningStreet", name := "piece", desc := "(LLeaningStreet$Words;)V" } : Jvm.MethodName)) ∈ lw_tbl := lw_at lw_m2 151 rfl
theorem q470 : (Jvm.Cond.instanceMethod ({ cls := "LeaningStreet", name := "piece", desc := "(LLeaningStreet$Words;)V" } : Jvm.MethodName)) ∈ lw_all := lw_g (lw_at lw_m2 152 rfl) rfl
theorem q471 : (Jvm.Cond.code ({ cls := "LeaningStreet", name := "piece", desc := "(LLeaningStreet$Words;)V" } : Jvm.MethodName) prog_1_method_26_code (2 : Nat) (Option.none : Option Jvm.ClassFile.FieldType)) ∈ lw_all := lw_g (lw_at lw_m2 153 rfl) rfl
theorem q472 : (Jvm.Cond.methodLink "LeaningStreet" (174 : Nat) ({ cls := "LeaningStreet", name := "isSign", desc := "(I)Z" } : Jvm.MethodName)) ∈ lw_all := lw_g (lw_at lw_m2 154 rfl) rfl
theorem q473 : (Jvm.Cond.privateMethod ({ cls := "LeaningStreet", name := "isSign", desc := "(I)Z" } : Jvm.MethodName)) ∈ lw_tbl := lw_at lw_m2 155 rfl
theorem q474 : (Jvm.Cond.instanceMethod ({ cls := "LeaningStreet", name := "isSign", desc := "(I)Z" } : Jvm.MethodName)) ∈ lw_all := lw_g (lw_at lw_m2 156 rfl) rfl
theorem q475 : (Jvm.Cond.code ({ cls := "LeaningStreet", name := "isSign", desc := "(I)Z" } : Jvm.MethodName) prog_1_method_17_code (2 : Nat) (Option.some Jvm.ClassFile.FieldType.boolean)) ∈ lw_all := lw_g (lw_at lw_m2 157 rfl) rfl
theorem q476 : (Jvm.Cond.methodLink "LeaningStreet" (177 : Nat) ({ cls := "LeaningStreet$Words", name := "add", desc := "(II)V" } : Jvm.MethodName)) ∈ lw_all := lw_g (lw_at lw_m2 158 rfl) rfl
theorem q480 : (Jvm.Cond.methodLink "LeaningStreet" (205 : Nat) ({ cls := "LeaningStreet", name := "number", desc := "()I" } : Jvm.MethodName)) ∈ lw_all := lw_g (lw_at lw_m2 162 rfl) rfl
theorem q481 : (Jvm.Cond.privateMethod ({ cls := "LeaningStreet", name := "number", desc := "()I" } : Jvm.MethodName)) ∈ lw_tbl := lw_at lw_m2 163 rfl
theorem q482 : (Jvm.Cond.instanceMethod ({ cls := "LeaningStreet", name := "number", desc := "()I" } : Jvm.MethodName)) ∈ lw_all := lw_g (lw_at lw_m2 164 rfl) rfl
theorem q483 : (Jvm.Cond.code ({ cls := "LeaningStreet", name := "number", desc := "()I" } : Jvm.MethodName) prog_1_method_18_code (3 : Nat) (Option.some Jvm.ClassFile.FieldType.int)) ∈ lw_all := lw_g (lw_at lw_m2 165 rfl) rfl
theorem q484 : (Jvm.Cond.methodLink "LeaningStreet" (208 : Nat) ({ cls := "LeaningStreet", name := "isName", desc := "(I)Z" } : Jvm.MethodName)) ∈ lw_all := lw_g (lw_at lw_m2 166 rfl) rfl
theorem q485 : (Jvm.Cond.privateMethod ({ cls := "LeaningStreet", name := "isName", desc := "(I)Z" } : Jvm.MethodName)) ∈ lw_tbl := lw_at lw_m2 167 rfl
theorem q486 : (Jvm.Cond.instanceMethod ({ cls := "LeaningStreet", name := "isName", desc := "(I)Z" } : Jvm.MethodName)) ∈ lw_all := lw_g (lw_at lw_m2 168 rfl) rfl
theorem q487 : (Jvm.Cond.code ({ cls := "LeaningStreet", name := "isName", desc := "(I)Z" } : Jvm.MethodName) prog_1_method_25_code (2 : Nat) (Option.some Jvm.ClassFile.FieldType.boolean)) ∈ lw_all := lw_g (lw_at lw_m2 169 rfl) rfl
theorem q488 : (Jvm.Cond.classLink "LeaningStreet" (228 : Nat) "LeaningStreet$Text") ∈ lw_all := lw_g (lw_at lw_m2 170 rfl) rfl
theorem q490 : (Jvm.Cond.methodLink "LeaningStreet" (230 : Nat) ({ cls := "LeaningStreet$Text", name := "<init>", desc := "(ILLeaningStreet$Words;I)V" } : Jvm.MethodName)) ∈ lw_all := lw_g (lw_at lw_m2 172 rfl) rfl
theorem q495 : (Jvm.Cond.fieldLinkNest "LeaningStreet" (244 : Nat) "LeaningStreet$Text" "key" "I" "LeaningStreet") ∈ lw_tbl := lw_at lw_m2 177 rfl
theorem q497 : (Jvm.Cond.fieldLinkNest "LeaningStreet" (291 : Nat) "LeaningStreet$Text" "words" "LLeaningStreet$Words;" "LeaningStreet") ∈ lw_tbl := lw_at lw_m2 179 rfl
theorem q499 : (Jvm.Cond.fieldLinkNest "LeaningStreet" (246 : Nat) "LeaningStreet$Text" "many" "I" "LeaningStreet") ∈ lw_tbl := lw_at lw_m2 181 rfl
theorem q508 : (Jvm.Cond.instanceMethod ({ cls := "LeaningStreet", name := "textTold", desc := "(II)I" } : Jvm.MethodName)) ∈ lw_all := lw_g (lw_at lw_m2 190 rfl) rfl
theorem q509 : (Jvm.Cond.selects "LeaningStreet" ({ cls := "LeaningStreet", name := "textTold", desc := "(II)I" } : Jvm.MethodName) ({ cls := "LeaningStreet", name := "textTold", desc := "(II)I" } : Jvm.MethodName)) ∈ lw_all := lw_g (lw_at lw_m2 191 rfl) rfl
theorem q510 : (Jvm.Cond.code ({ cls := "LeaningStreet", name := "textTold", desc := "(II)I" } : Jvm.MethodName) prog_1_method_30_code (3 : Nat) (Option.some Jvm.ClassFile.FieldType.int)) ∈ lw_all := lw_g (lw_at lw_m2 192 rfl) rfl
theorem q512 : (Jvm.Cond.instanceMethod ({ cls := "LeaningStreet", name := "why", desc := "(I)I" } : Jvm.MethodName)) ∈ lw_all := lw_g (lw_at lw_m2 194 rfl) rfl
theorem q513 : (Jvm.Cond.selects "LeaningStreet" ({ cls := "LeaningStreet", name := "why", desc := "(I)I" } : Jvm.MethodName) ({ cls := "LeaningStreet", name := "why", desc := "(I)I" } : Jvm.MethodName)) ∈ lw_all := lw_g (lw_at lw_m2 195 rfl) rfl
theorem q514 : (Jvm.Cond.code ({ cls := "LeaningStreet", name := "why", desc := "(I)I" } : Jvm.MethodName) prog_1_method_32_code (2 : Nat) (Option.some Jvm.ClassFile.FieldType.int)) ∈ lw_all := lw_g (lw_at lw_m2 196 rfl) rfl
theorem q515 : (Jvm.Cond.methodLink "LeaningStreet" (247 : Nat) ({ cls := "LeaningStreet", name := "counts", desc := "(I)I" } : Jvm.MethodName)) ∈ lw_all := lw_g (lw_at lw_m2 197 rfl) rfl
theorem q516 : (Jvm.Cond.privateMethod ({ cls := "LeaningStreet", name := "counts", desc := "(I)I" } : Jvm.MethodName)) ∈ lw_tbl := lw_at lw_m2 198 rfl
theorem q517 : (Jvm.Cond.instanceMethod ({ cls := "LeaningStreet", name := "counts", desc := "(I)I" } : Jvm.MethodName)) ∈ lw_all := lw_g (lw_at lw_m2 199 rfl) rfl
theorem q518 : (Jvm.Cond.code ({ cls := "LeaningStreet", name := "counts", desc := "(I)I" } : Jvm.MethodName) prog_1_method_31_code (4 : Nat) (Option.some Jvm.ClassFile.FieldType.int)) ∈ lw_all := lw_g (lw_at lw_m2 200 rfl) rfl
theorem q519 : (Jvm.Cond.methodLink "LeaningStreet" (251 : Nat) ({ cls := "LeaningStreet", name := "orNone", desc := "(I)I" } : Jvm.MethodName)) ∈ lw_all := lw_g (lw_at lw_m2 201 rfl) rfl
theorem q520 : (Jvm.Cond.static ({ cls := "LeaningStreet", name := "orNone", desc := "(I)I" } : Jvm.MethodName)) ∈ lw_all := lw_g (lw_at lw_m2 202 rfl) rfl
theorem q521 : (Jvm.Cond.code ({ cls := "LeaningStreet", name := "orNone", desc := "(I)I" } : Jvm.MethodName) prog_1_method_2_code (1 : Nat) (Option.some Jvm.ClassFile.FieldType.int)) ∈ lw_all := lw_g (lw_at lw_m2 203 rfl) rfl
theorem q522 : (Jvm.Cond.constant "LeaningStreet" (3 : Nat) (-1000000005 : Int32)) ∈ lw_all := lw_g (lw_at lw_m2 204 rfl) rfl
theorem q524 : (Jvm.Cond.instanceMethod ({ cls := "LeaningStreet", name := "house", desc := "(IIII)I" } : Jvm.MethodName)) ∈ lw_all := lw_g (lw_at lw_m2 206 rfl) rfl
theorem q525 : (Jvm.Cond.selects "LeaningStreet" ({ cls := "LeaningStreet", name := "house", desc := "(IIII)I" } : Jvm.MethodName) ({ cls := "LeaningStreet", name := "house", desc := "(IIII)I" } : Jvm.MethodName)) ∈ lw_all := lw_g (lw_at lw_m2 207 rfl) rfl
theorem q526 : (Jvm.Cond.code ({ cls := "LeaningStreet", name := "house", desc := "(IIII)I" } : Jvm.MethodName) prog_1_method_35_code (5 : Nat) (Option.some Jvm.ClassFile.FieldType.int)) ∈ lw_all := lw_g (lw_at lw_m2 208 rfl) rfl
theorem q527 : (Jvm.Cond.methodLink "LeaningStreet" (271 : Nat) ({ cls := "LeaningStreet", name := "isOf", desc := "(II)Z" } : Jvm.MethodName)) ∈ lw_all := lw_g (lw_at lw_m2 209 rfl) rfl
theorem q528 : (Jvm.Cond.static ({ cls := "LeaningStreet", name := "isOf", desc := "(II)Z" } : Jvm.MethodName)) ∈ lw_all := lw_g (lw_at lw_m2 210 rfl) rfl
theorem q529 : (Jvm.Cond.code ({ cls := "LeaningStreet", name := "isOf", desc := "(II)Z" } : Jvm.MethodName) prog_1_method_34_code (2 : Nat) (Option.some Jvm.ClassFile.FieldType.boolean)) ∈ lw_all := lw_g (lw_at lw_m2 211 rfl) rfl
theorem q530 : (Jvm.Cond.methodLink "LeaningStreet" (275 : Nat) ({ cls := "LeaningStreet", name := "comes", desc := "(IIII)I" } : Jvm.MethodName)) ∈ lw_all := lw_g (lw_at lw_m2 212 rfl) rfl
theorem q531 : (Jvm.Cond.privateMethod ({ cls := "LeaningStreet", name := "comes", desc := "(IIII)I" } : Jvm.MethodName)) ∈ lw_tbl := lw_at lw_m2 213 rfl
theorem q532 : (Jvm.Cond.instanceMethod ({ cls := "LeaningStreet", name := "comes", desc := "(IIII)I" } : Jvm.MethodName)) ∈ lw_all := lw_g (lw_at lw_m2 214 rfl) rfl
theorem q533 : (Jvm.Cond.code ({ cls := "LeaningStreet", name := "comes", desc := "(IIII)I" } : Jvm.MethodName) prog_1_method_33_code (7 : Nat) (Option.some Jvm.ClassFile.FieldType.int)) ∈ lw_all := lw_g (lw_at lw_m2 215 rfl) rfl
theorem q534 : (Jvm.Cond.methodLink "LeaningStreet" (254 : Nat) ({ cls := "LeaningStreet", name := "houseOf", desc := "(I)LLeaningStreet$House;" } : Jvm.MethodName)) ∈ lw_all := lw_g (lw_at lw_m2 216 rfl) rfl
theorem q535 : (Jvm.Cond.static ({ cls := "LeaningStreet", name := "houseOf", desc := "(I)LLeaningStreet$House;" } : Jvm.MethodName)) ∈ lw_all := lw_g (lw_at lw_m2 217 rfl) rfl
theorem q536 : (Jvm.Cond.code ({ cls := "LeaningStreet", name := "houseOf", desc := "(I)LLeaningStreet$House;" } : Jvm.MethodName) prog_1_method_4_code (1 : Nat) (Option.some (Jvm.ClassFile.FieldType.object "LeaningStreet$House"))) ∈ lw_all := lw_g (lw_at lw_m2 218 rfl) rfl
theorem q537 : (Jvm.Cond.classLink "LeaningStreet" (13 : Nat) "LeaningStreet$TimberHouse") ∈ lw_all := lw_g (lw_at lw_m2 219 rfl) rfl
theorem q539 : (Jvm.Cond.methodLinkNest "LeaningStreet" (15 : Nat) ({ cls := "LeaningStreet$TimberHouse", name := "<init>", desc := "()V" } : Jvm.MethodName) "LeaningStreet") ∈ lw_tbl := lw_at lw_m2 221 rfl
theorem q547 : (Jvm.Cond.fieldLink "LeaningStreet" (258 : Nat) "LeaningStreet$House" "weight" "I") ∈ lw_all := lw_g (lw_at lw_m2 229 rfl) rfl
theorem q549 : (Jvm.Cond.fieldLink "LeaningStreet" (261 : Nat) "LeaningStreet$House" "lean" "I") ∈ lw_all := lw_g (lw_at lw_m2 231 rfl) rfl
theorem q551 : (Jvm.Cond.fieldLink "LeaningStreet" (264 : Nat) "LeaningStreet$House" "wall" "I") ∈ lw_all := lw_g (lw_at lw_m2 233 rfl) rfl
theorem q554 : (Jvm.Cond.fieldLink "LeaningStreet" (288 : Nat) "LeaningStreet$House" "crack" "I") ∈ lw_all := lw_g (lw_at lw_m2 236 rfl) rfl
theorem q557 : (Jvm.Cond.fieldLink "LeaningStreet" (322 : Nat) "LeaningStreet$House" "prop" "I") ∈ lw_all := lw_g (lw_at lw_m2 239 rfl) rfl
theorem q560 : (Jvm.Cond.fieldLink "LeaningStreet" (302 : Nat) "LeaningStreet$House" "stands" "Z") ∈ lw_all := lw_g (lw_at lw_m3 2 rfl) rfl
theorem q574 : (Jvm.Cond.classLink "LeaningStreet" (19 : Nat) "LeaningStreet$BrickHouse") ∈ lw_all := lw_g (lw_at lw_m3 16 rfl) rfl
theorem q576 : (Jvm.Cond.methodLinkNest "LeaningStreet" (21 : Nat) ({ cls := "LeaningStreet$BrickHouse", name := "<init>", desc := "()V" } : Jvm.MethodName) "LeaningStreet") ∈ lw_tbl := lw_at lw_m3 18 rfl
theorem q587 : (Jvm.Cond.classLink "LeaningStreet" (22 : Nat) "LeaningStreet$EmptyHouse") ∈ lw_all := lw_g (lw_at lw_m3 29 rfl) rfl
theorem q589 : (Jvm.Cond.methodLinkNest "LeaningStreet" (24 : Nat) ({ cls := "LeaningStreet$EmptyHouse", name := "<init>", desc := "()V" } : Jvm.MethodName) "LeaningStreet") ∈ lw_tbl := lw_at lw_m3 31 rfl
theorem q600 : (Jvm.Cond.classLink "LeaningStreet" (25 : Nat) "LeaningStreet$DoubleHouse") ∈ lw_all := lw_g (lw_at lw_m3 42 rfl) rfl
theorem q602 : (Jvm.Cond.methodLinkNest "LeaningStreet" (27 : Nat) ({ cls := "LeaningStreet$DoubleHouse", name := "<init>", desc := "()V" } : Jvm.MethodName) "LeaningStreet") ∈ lw_tbl := lw_at lw_m3 44 rfl
theorem q613 : (Jvm.Cond.classLink "LeaningStreet" (28 : Nat) "LeaningStreet$FloatingHouse") ∈ lw_all := lw_g (lw_at lw_m3 55 rfl) rfl
theorem q615 : (Jvm.Cond.methodLinkNest "LeaningStreet" (30 : Nat) ({ cls := "LeaningStreet$FloatingHouse", name := "<init>", desc := "()V" } : Jvm.MethodName) "LeaningStreet") ∈ lw_tbl := lw_at lw_m3 57 rfl
theorem q626 : (Jvm.Cond.classLink "LeaningStreet" (31 : Nat) "LeaningStreet$House") ∈ lw_all := lw_g (lw_at lw_m3 68 rfl) rfl
theorem q628 : (Jvm.Cond.methodLinkNest "LeaningStreet" (33 : Nat) ({ cls := "LeaningStreet$House", name := "<init>", desc := "()V" } : Jvm.MethodName) "LeaningStreet") ∈ lw_tbl := lw_at lw_m3 70 rfl
theorem q637 : (Jvm.Cond.instanceMethod ({ cls := "LeaningStreet", name := "told", desc := "(II)I" } : Jvm.MethodName)) ∈ lw_all := lw_g (lw_at lw_m3 79 rfl) rfl
theorem q638 : (Jvm.Cond.selects "LeaningStreet" ({ cls := "LeaningStreet", name := "told", desc := "(II)I" } : Jvm.MethodName) ({ cls := "LeaningStreet", name := "told", desc := "(II)I" } : Jvm.MethodName)) ∈ lw_all := lw_g (lw_at lw_m3 80 rfl) rfl
theorem q639 : (Jvm.Cond.code ({ cls := "LeaningStreet", name := "told", desc := "(II)I" } : Jvm.MethodName) prog_1_method_39_code (4 : Nat) (Option.some Jvm.ClassFile.FieldType.int)) ∈ lw_all := lw_g (lw_at lw_m3 81 rfl) rfl
theorem q640 : (Jvm.Cond.methodLink "LeaningStreet" (299 : Nat) ({ cls := "LeaningStreet", name := "isHouse", desc := "(I)Z" } : Jvm.MethodName)) ∈ lw_all := lw_g (lw_at lw_m3 82 rfl) rfl
theorem q641 : (Jvm.Cond.privateMethod ({ cls := "LeaningStreet", name := "isHouse", desc := "(I)Z" } : Jvm.MethodName)) ∈ lw_tbl := lw_at lw_m3 83 rfl
theorem q642 : (Jvm.Cond.instanceMethod ({ cls := "LeaningStreet", name := "isHouse", desc := "(I)Z" } : Jvm.MethodName)) ∈ lw_all := lw_g (lw_at lw_m3 84 rfl) rfl
theorem q643 : (Jvm.Cond.code ({ cls := "LeaningStreet", name := "isHouse", desc := "(I)Z" } : Jvm.MethodName) prog_1_method_6_code (2 : Nat) (Option.some Jvm.ClassFile.FieldType.boolean)) ∈ lw_all := lw_g (lw_at lw_m3 85 rfl) rfl
theorem q644 : (Jvm.Cond.methodLink "LeaningStreet" (319 : Nat) ({ cls := "LeaningStreet$House", name := "kind", desc := "()I" } : Jvm.MethodName)) ∈ lw_all := lw_g (lw_at lw_m3 86 rfl) rfl
theorem q666 : (Jvm.Cond.methodLink "LeaningStreet" (315 : Nat) ({ cls := "LeaningStreet", name := "pushOf", desc := "(LLeaningStreet$House;)I" } : Jvm.MethodName)) ∈ lw_all := lw_g (lw_at lw_m3 108 rfl) rfl
theorem q667 : (Jvm.Cond.privateMethod ({ cls := "LeaningStreet", name := "pushOf", desc := "(LLeaningStreet$House;)I" } : Jvm.MethodName)) ∈ lw_tbl := lw_at lw_m3 109 rfl
theorem q668 : (Jvm.Cond.instanceMethod ({ cls := "LeaningStreet", name := "pushOf", desc := "(LLeaningStreet$House;)I" } : Jvm.MethodName)) ∈ lw_all := lw_g (lw_at lw_m3 110 rfl) rfl
theorem q669 : (Jvm.Cond.code ({ cls := "LeaningStreet", name := "pushOf", desc := "(LLeaningStreet$House;)I" } : Jvm.MethodName) prog_1_method_36_code (4 : Nat) (Option.some Jvm.ClassFile.FieldType.int)) ∈ lw_all := lw_g (lw_at lw_m3 111 rfl) rfl
theorem q670 : (Jvm.Cond.methodLink "LeaningStreet" (279 : Nat) ({ cls := "java/lang/Math", name := "abs", desc := "(I)I" } : Jvm.MethodName)) ∈ lw_all := lw_g (lw_at lw_m3 112 rfl) rfl
theorem q673 : (Jvm.Cond.methodLink "LeaningStreet" (282 : Nat) ({ cls := "LeaningStreet", name := "within", desc := "(III)I" } : Jvm.MethodName)) ∈ lw_all := lw_g (lw_at lw_m3 115 rfl) rfl
theorem q674 : (Jvm.Cond.static ({ cls := "LeaningStreet", name := "within", desc := "(III)I" } : Jvm.MethodName)) ∈ lw_all := lw_g (lw_at lw_m3 116 rfl) rfl
theorem q675 : (Jvm.Cond.code ({ cls := "LeaningStreet", name := "within", desc := "(III)I" } : Jvm.MethodName) prog_1_method_3_code (3 : Nat) (Option.some Jvm.ClassFile.FieldType.int)) ∈ lw_all := lw_g (lw_at lw_m3 117 rfl) rfl
theorem q676 : (Jvm.Cond.methodLink "LeaningStreet" (4 : Nat) ({ cls := "java/lang/Math", name := "min", desc := "(II)I" } : Jvm.MethodName)) ∈ lw_all := lw_g (lw_at lw_m3 118 rfl) rfl
theorem q679 : (Jvm.Cond.methodLink "LeaningStreet" (10 : Nat) ({ cls := "java/lang/Math", name := "max", desc := "(II)I" } : Jvm.MethodName)) ∈ lw_all := lw_g (lw_at lw_m3 121 rfl) rfl
theorem q705 : (Jvm.Cond.methodLink "LeaningStreet" (295 : Nat) ({ cls := "LeaningStreet", name := "reckon", desc := "(LLeaningStreet$Words;)I" } : Jvm.MethodName)) ∈ lw_all := lw_g (lw_at lw_m3 147 rfl) rfl
theorem q706 : (Jvm.Cond.privateMethod ({ cls := "LeaningStreet", name := "reckon", desc := "(LLeaningStreet$Words;)I" } : Jvm.MethodName)) ∈ lw_tbl := lw_at lw_m3 148 rfl
theorem q707 : (Jvm.Cond.instanceMethod ({ cls := "LeaningStreet", name := "reckon", desc := "(LLeaningStreet$Words;)I" } : Jvm.MethodName)) ∈ lw_all := lw_g (lw_at lw_m3 149 rfl) rfl
theorem q708 : (Jvm.Cond.code ({ cls := "LeaningStreet", name := "reckon", desc := "(LLeaningStreet$Words;)I" } : Jvm.MethodName) prog_1_method_8_code (5 : Nat) (Option.some Jvm.ClassFile.FieldType.int)) ∈ lw_all := lw_g (lw_at lw_m3 150 rfl) rfl
theorem q709 : (Jvm.Cond.methodLink "LeaningStreet" (118 : Nat) ({ cls := "LeaningStreet", name := "both", desc := "(III)I" } : Jvm.MethodName)) ∈ lw_all := lw_g (lw_at lw_m3 151 rfl) rfl
theorem q710 : (Jvm.Cond.static ({ cls := "LeaningStreet", name := "both", desc := "(III)I" } : Jvm.MethodName)) ∈ lw_all := lw_g (lw_at lw_m3 152 rfl) rfl
theorem q711 : (Jvm.Cond.code ({ cls := "LeaningStreet", name := "both", desc := "(III)I" } : Jvm.MethodName) prog_1_method_7_code (3 : Nat) (Option.some Jvm.ClassFile.FieldType.int)) ∈ lw_all := lw_g (lw_at lw_m3 153 rfl) rfl
theorem q712 : (Jvm.Cond.methodLink "LeaningStreet" (325 : Nat) ({ cls := "LeaningStreet$House", name := "bears", desc := "()I" } : Jvm.MethodName)) ∈ lw_all := lw_g (lw_at lw_m3 154 rfl) rfl
theorem q730 : (Jvm.Cond.methodLink "LeaningStreet" (328 : Nat) ({ cls := "LeaningStreet", name := "thrustOn", desc := "(I)I" } : Jvm.MethodName)) ∈ lw_all := lw_g (lw_at lw_m3 172 rfl) rfl
theorem q731 : (Jvm.Cond.privateMethod ({ cls := "LeaningStreet", name := "thrustOn", desc := "(I)I" } : Jvm.MethodName)) ∈ lw_tbl := lw_at lw_m3 173 rfl
theorem q732 : (Jvm.Cond.instanceMethod ({ cls := "LeaningStreet", name := "thrustOn", desc := "(I)I" } : Jvm.MethodName)) ∈ lw_all := lw_g (lw_at lw_m3 174 rfl) rfl
theorem q733 : (Jvm.Cond.code ({ cls := "LeaningStreet", name := "thrustOn", desc := "(I)I" } : Jvm.MethodName) prog_1_method_38_code (6 : Nat) (Option.some Jvm.ClassFile.FieldType.int)) ∈ lw_all := lw_g (lw_at lw_m3 175 rfl) rfl
theorem q734 : (Jvm.Cond.methodLink "LeaningStreet" (306 : Nat) ({ cls := "LeaningStreet$State", name := "standing", desc := "()I" } : Jvm.MethodName)) ∈ lw_all := lw_g (lw_at lw_m3 176 rfl) rfl
theorem q738 : (Jvm.Cond.methodLink "LeaningStreet" (309 : Nat) ({ cls := "LeaningStreet", name := "nextOf", desc := "(III)I" } : Jvm.MethodName)) ∈ lw_all := lw_g (lw_at lw_m3 180 rfl) rfl
theorem q739 : (Jvm.Cond.privateMethod ({ cls := "LeaningStreet", name := "nextOf", desc := "(III)I" } : Jvm.MethodName)) ∈ lw_tbl := lw_at lw_m3 181 rfl
theorem q740 : (Jvm.Cond.instanceMethod ({ cls := "LeaningStreet", name := "nextOf", desc := "(III)I" } : Jvm.MethodName)) ∈ lw_all := lw_g (lw_at lw_m3 182 rfl) rfl
theorem q741 : (Jvm.Cond.code ({ cls := "LeaningStreet", name := "nextOf", desc := "(III)I" } : Jvm.MethodName) prog_1_method_37_code (5 : Nat) (Option.some Jvm.ClassFile.FieldType.int)) ∈ lw_all := lw_g (lw_at lw_m3 183 rfl) rfl
theorem q742 : (Jvm.Cond.methodLink "LeaningStreet" (331 : Nat) ({ cls := "LeaningStreet$House", name := "worth", desc := "()I" } : Jvm.MethodName)) ∈ lw_all := lw_g (lw_at lw_m3 184 rfl) rfl
theorem q767 : (Jvm.Cond.instanceMethod ({ cls := "LeaningStreet", name := "as", desc := "(II)I" } : Jvm.MethodName)) ∈ lw_all := lw_g (lw_at lw_m3 209 rfl) rfl
theorem q768 : (Jvm.Cond.selects "LeaningStreet" ({ cls := "LeaningStreet", name := "as", desc := "(II)I" } : Jvm.MethodName) ({ cls := "LeaningStreet", name := "as", desc := "(II)I" } : Jvm.MethodName)) ∈ lw_all := lw_g (lw_at lw_m3 210 rfl) rfl
theorem q769 : (Jvm.Cond.codeWith ({ cls := "LeaningStreet", name := "as", desc := "(II)I" } : Jvm.MethodName) prog_1_method_41_code (5 : Nat) (Option.some Jvm.ClassFile.FieldType.int) [((30 : Nat), (38 : Nat), (39 : Nat), (338 : Nat))]) ∈ lw_all := lw_g (lw_at lw_m3 211 rfl) rfl
theorem q770 : (Jvm.Cond.classLink "LeaningStreet" (338 : Nat) "java/lang/ClassCastException") ∈ lw_all := lw_g (lw_at lw_m3 212 rfl) rfl
theorem q797 : (Jvm.Cond.methodLink "LeaningStreet" (334 : Nat) ({ cls := "LeaningStreet", name := "takenFor", desc := "(Ljava/lang/Object;I)LLeaningStreet$House;" } : Jvm.MethodName)) ∈ lw_all := lw_g (lw_at lw_m3 239 rfl) rfl
theorem q798 : (Jvm.Cond.static ({ cls := "LeaningStreet", name := "takenFor", desc := "(Ljava/lang/Object;I)LLeaningStreet$House;" } : Jvm.MethodName)) ∈ lw_all := lw_g (lw_at lw_m4 0 rfl) rfl
theorem q799 : (Jvm.Cond.code ({ cls := "LeaningStreet", name := "takenFor", desc := "(Ljava/lang/Object;I)LLeaningStreet$House;" } : Jvm.MethodName) prog_1_method_40_code (2 : Nat) (Option.some (Jvm.ClassFile.FieldType.object "LeaningStreet$House"))) ∈ lw_all := lw_g (lw_at lw_m4 1 rfl) rfl
theorem q800 : (Jvm.Cond.constant "LeaningStreet" (340 : Nat) (-1000000012 : Int32)) ∈ lw_all := lw_g (lw_at lw_m4 2 rfl) rfl
theorem q802 : (Jvm.Cond.instanceMethod ({ cls := "LeaningStreet", name := "turns", desc := "(II)I" } : Jvm.MethodName)) ∈ lw_all := lw_g (lw_at lw_m4 4 rfl) rfl
theorem q803 : (Jvm.Cond.selects "LeaningStreet" ({ cls := "LeaningStreet", name := "turns", desc := "(II)I" } : Jvm.MethodName) ({ cls := "LeaningStreet", name := "turns", desc := "(II)I" } : Jvm.MethodName)) ∈ lw_all := lw_g (lw_at lw_m4 5 rfl) rfl
theorem q804 : (Jvm.Cond.code ({ cls := "LeaningStreet", name := "turns", desc := "(II)I" } : Jvm.MethodName) prog_1_method_42_code (4 : Nat) (Option.some Jvm.ClassFile.FieldType.int)) ∈ lw_all := lw_g (lw_at lw_m4 6 rfl) rfl
theorem q805 : (Jvm.Cond.methodLink "LeaningStreet" (341 : Nat) ({ cls := "LeaningStreet$House", name := "takes", desc := "(LLeaningStreet$House;)V" } : Jvm.MethodName)) ∈ lw_all := lw_g (lw_at lw_m4 7 rfl) rfl
theorem q816 : (Jvm.Cond.instanceMethod ({ cls := "LeaningStreet", name := "set", desc := "(III)I" } : Jvm.MethodName)) ∈ lw_all := lw_g (lw_at lw_m4 18 rfl) rfl
theorem q817 : (Jvm.Cond.selects "LeaningStreet" ({ cls := "LeaningStreet", name := "set", desc := "(III)I" } : Jvm.MethodName) ({ cls := "LeaningStreet", name := "set", desc := "(III)I" } : Jvm.MethodName)) ∈ lw_all := lw_g (lw_at lw_m4 19 rfl) rfl
theorem q818 : (Jvm.Cond.code ({ cls := "LeaningStreet", name := "set", desc := "(III)I" } : Jvm.MethodName) prog_1_method_44_code (4 : Nat) (Option.some Jvm.ClassFile.FieldType.int)) ∈ lw_all := lw_g (lw_at lw_m4 20 rfl) rfl
theorem q819 : (Jvm.Cond.methodLink "LeaningStreet" (345 : Nat) ({ cls := "LeaningStreet", name := "becomes", desc := "(LLeaningStreet$House;II)I" } : Jvm.MethodName)) ∈ lw_all := lw_g (lw_at lw_m4 21 rfl) rfl
theorem q820 : (Jvm.Cond.static ({ cls := "LeaningStreet", name := "becomes", desc := "(LLeaningStreet$House;II)I" } : Jvm.MethodName)) ∈ lw_all := lw_g (lw_at lw_m4 22 rfl) rfl
theorem q821 : (Jvm.Cond.code ({ cls := "LeaningStreet", name := "becomes", desc := "(LLeaningStreet$House;II)I" } : Jvm.MethodName) prog_1_method_43_code (4 : Nat) (Option.some Jvm.ClassFile.FieldType.int)) ∈ lw_all := lw_g (lw_at lw_m4 23 rfl) rfl
theorem q823 : (Jvm.Cond.instanceMethod ({ cls := "LeaningStreet", name := "fells", desc := "(I)I" } : Jvm.MethodName)) ∈ lw_all := lw_g (lw_at lw_m4 25 rfl) rfl
theorem q824 : (Jvm.Cond.selects "LeaningStreet" ({ cls := "LeaningStreet", name := "fells", desc := "(I)I" } : Jvm.MethodName) ({ cls := "LeaningStreet", name := "fells", desc := "(I)I" } : Jvm.MethodName)) ∈ lw_all := lw_g (lw_at lw_m4 26 rfl) rfl
theorem q825 : (Jvm.Cond.code ({ cls := "LeaningStreet", name := "fells", desc := "(I)I" } : Jvm.MethodName) prog_1_method_45_code (2 : Nat) (Option.some Jvm.ClassFile.FieldType.int)) ∈ lw_all := lw_g (lw_at lw_m4 27 rfl) rfl
theorem q826 : (Jvm.Cond.constant "LeaningStreet" (349 : Nat) (-1000000002 : Int32)) ∈ lw_all := lw_g (lw_at lw_m4 28 rfl) rfl
theorem q827 : (Jvm.Cond.methodLink "LeaningStreet" (350 : Nat) ({ cls := "LeaningStreet$House", name := "falls", desc := "()V" } : Jvm.MethodName)) ∈ lw_all := lw_g (lw_at lw_m4 29 rfl) rfl
theorem q837 : (Jvm.Cond.methodLink "LeaningStreet" (353 : Nat) ({ cls := "java/lang/Integer", name := "bitCount", desc := "(I)I" } : Jvm.MethodName)) ∈ lw_all := lw_g (lw_at lw_m4 39 rfl) rfl
theorem q844 : (Jvm.Cond.instanceMethod ({ cls := "LeaningStreet", name := "raises", desc := "(I)I" } : Jvm.MethodName)) ∈ lw_all := lw_g (lw_at lw_m4 46 rfl) rfl
theorem q845 : (Jvm.Cond.selects "LeaningStreet" ({ cls := "LeaningStreet", name := "raises", desc := "(I)I" } : Jvm.MethodName) ({ cls := "LeaningStreet", name := "raises", desc := "(I)I" } : Jvm.MethodName)) ∈ lw_all := lw_g (lw_at lw_m4 47 rfl) rfl
theorem q846 : (Jvm.Cond.code ({ cls := "LeaningStreet", name := "raises", desc := "(I)I" } : Jvm.MethodName) prog_1_method_46_code (3 : Nat) (Option.some Jvm.ClassFile.FieldType.int)) ∈ lw_all := lw_g (lw_at lw_m4 48 rfl) rfl
theorem q848 : (Jvm.Cond.instanceMethod ({ cls := "LeaningStreet", name := "snow", desc := "(I)I" } : Jvm.MethodName)) ∈ lw_all := lw_g (lw_at lw_m4 50 rfl) rfl
theorem q849 : (Jvm.Cond.selects "LeaningStreet" ({ cls := "LeaningStreet", name := "snow", desc := "(I)I" } : Jvm.MethodName) ({ cls := "LeaningStreet", name := "snow", desc := "(I)I" } : Jvm.MethodName)) ∈ lw_all := lw_g (lw_at lw_m4 51 rfl) rfl
theorem q850 : (Jvm.Cond.code ({ cls := "LeaningStreet", name := "snow", desc := "(I)I" } : Jvm.MethodName) prog_1_method_47_code (3 : Nat) (Option.some Jvm.ClassFile.FieldType.int)) ∈ lw_all := lw_g (lw_at lw_m4 52 rfl) rfl
theorem q852 : (Jvm.Cond.instanceMethod ({ cls := "LeaningStreet", name := "deal", desc := "(I)I" } : Jvm.MethodName)) ∈ lw_all := lw_g (lw_at lw_m4 54 rfl) rfl
theorem q853 : (Jvm.Cond.selects "LeaningStreet" ({ cls := "LeaningStreet", name := "deal", desc := "(I)I" } : Jvm.MethodName) ({ cls := "LeaningStreet", name := "deal", desc := "(I)I" } : Jvm.MethodName)) ∈ lw_all := lw_g (lw_at lw_m4 55 rfl) rfl
theorem q854 : (Jvm.Cond.code ({ cls := "LeaningStreet", name := "deal", desc := "(I)I" } : Jvm.MethodName) prog_1_method_48_code (7 : Nat) (Option.some Jvm.ClassFile.FieldType.int)) ∈ lw_all := lw_g (lw_at lw_m4 56 rfl) rfl
theorem q855 : (Jvm.Cond.methodLink "LeaningStreet" (358 : Nat) ({ cls := "LeaningStreet$State", name := "draw", desc := "()I" } : Jvm.MethodName)) ∈ lw_all := lw_g (lw_at lw_m4 57 rfl) rfl
theorem q861 : (Jvm.Cond.instanceMethod ({ cls := "LeaningStreet", name := "seed", desc := "(I)I" } : Jvm.MethodName)) ∈ lw_all := lw_g (lw_at lw_m4 63 rfl) rfl
theorem q862 : (Jvm.Cond.selects "LeaningStreet" ({ cls := "LeaningStreet", name := "seed", desc := "(I)I" } : Jvm.MethodName) ({ cls := "LeaningStreet", name := "seed", desc := "(I)I" } : Jvm.MethodName)) ∈ lw_all := lw_g (lw_at lw_m4 64 rfl) rfl
theorem q863 : (Jvm.Cond.code ({ cls := "LeaningStreet", name := "seed", desc := "(I)I" } : Jvm.MethodName) prog_1_method_49_code (3 : Nat) (Option.some Jvm.ClassFile.FieldType.int)) ∈ lw_all := lw_g (lw_at lw_m4 65 rfl) rfl
theorem q865 : (Jvm.Cond.instanceMethod ({ cls := "LeaningStreet", name := "days", desc := "(I)I" } : Jvm.MethodName)) ∈ lw_all := lw_g (lw_at lw_m4 67 rfl) rfl
theorem q866 : (Jvm.Cond.selects "LeaningStreet" ({ cls := "LeaningStreet", name := "days", desc := "(I)I" } : Jvm.MethodName) ({ cls := "LeaningStreet", name := "days", desc := "(I)I" } : Jvm.MethodName)) ∈ lw_all := lw_g (lw_at lw_m4 68 rfl) rfl
theorem q867 : (Jvm.Cond.code ({ cls := "LeaningStreet", name := "days", desc := "(I)I" } : Jvm.MethodName) prog_1_method_56_code (3 : Nat) (Option.some Jvm.ClassFile.FieldType.int)) ∈ lw_all := lw_g (lw_at lw_m4 69 rfl) rfl
theorem q868 : (Jvm.Cond.methodLink "LeaningStreet" (388 : Nat) ({ cls := "LeaningStreet", name := "goesOn", desc := "(I)V" } : Jvm.MethodName)) ∈ lw_all := lw_g (lw_at lw_m4 70 rfl) rfl
theorem q869 : (Jvm.Cond.privateMethod ({ cls := "LeaningStreet", name := "goesOn", desc := "(I)V" } : Jvm.MethodName)) ∈ lw_tbl := lw_at lw_m4 71 rfl
theorem q870 : (Jvm.Cond.instanceMethod ({ cls := "LeaningStreet", name := "goesOn", desc := "(I)V" } : Jvm.MethodName)) ∈ lw_all := lw_g (lw_at lw_m4 72 rfl) rfl
theorem q871 : (Jvm.Cond.code ({ cls := "LeaningStreet", name := "goesOn", desc := "(I)V" } : Jvm.MethodName) prog_1_method_55_code (3 : Nat) (Option.none : Option Jvm.ClassFile.FieldType)) ∈ lw_all := lw_g (lw_at lw_m4 73 rfl) rfl
theorem q872 : (Jvm.Cond.methodLink "LeaningStreet" (385 : Nat) ({ cls := "LeaningStreet", name := "aDay", desc := "()V" } : Jvm.MethodName)) ∈ lw_all := lw_g (lw_at lw_m4 74 rfl) rfl
theorem q873 : (Jvm.Cond.privateMethod ({ cls := "LeaningStreet", name := "aDay", desc := "()V" } : Jvm.MethodName)) ∈ lw_tbl := lw_at lw_m4 75 rfl
theorem q874 : (Jvm.Cond.instanceMethod ({ cls := "LeaningStreet", name := "aDay", desc := "()V" } : Jvm.MethodName)) ∈ lw_all := lw_g (lw_at lw_m4 76 rfl) rfl
theorem q875 : (Jvm.Cond.code ({ cls := "LeaningStreet", name := "aDay", desc := "()V" } : Jvm.MethodName) prog_1_method_54_code (1 : Nat) (Option.none : Option Jvm.ClassFile.FieldType)) ∈ lw_all := lw_g (lw_at lw_m4 77 rfl) rfl
theorem q876 : (Jvm.Cond.methodLink "LeaningStreet" (367 : Nat) ({ cls := "LeaningStreet", name := "findThrusts", desc := "()V" } : Jvm.MethodName)) ∈ lw_all := lw_g (lw_at lw_m4 78 rfl) rfl
theorem q877 : (Jvm.Cond.privateMethod ({ cls := "LeaningStreet", name := "findThrusts", desc := "()V" } : Jvm.MethodName)) ∈ lw_tbl := lw_at lw_m4 79 rfl
theorem q878 : (Jvm.Cond.instanceMethod ({ cls := "LeaningStreet", name := "findThrusts", desc := "()V" } : Jvm.MethodName)) ∈ lw_all := lw_g (lw_at lw_m4 80 rfl) rfl
theorem q879 : (Jvm.Cond.code ({ cls := "LeaningStreet", name := "findThrusts", desc := "()V" } : Jvm.MethodName) prog_1_method_50_code (2 : Nat) (Option.none : Option Jvm.ClassFile.FieldType)) ∈ lw_all := lw_g (lw_at lw_m4 81 rfl) rfl
theorem q880 : (Jvm.Cond.methodLink "LeaningStreet" (370 : Nat) ({ cls := "LeaningStreet", name := "cracks", desc := "()V" } : Jvm.MethodName)) ∈ lw_all := lw_g (lw_at lw_m4 82 rfl) rfl
theorem q881 : (Jvm.Cond.privateMethod ({ cls := "LeaningStreet", name := "cracks", desc := "()V" } : Jvm.MethodName)) ∈ lw_tbl := lw_at lw_m4 83 rfl
theorem q882 : (Jvm.Cond.instanceMethod ({ cls := "LeaningStreet", name := "cracks", desc := "()V" } : Jvm.MethodName)) ∈ lw_all := lw_g (lw_at lw_m4 84 rfl) rfl
theorem q883 : (Jvm.Cond.code ({ cls := "LeaningStreet", name := "cracks", desc := "()V" } : Jvm.MethodName) prog_1_method_51_code (3 : Nat) (Option.none : Option Jvm.ClassFile.FieldType)) ∈ lw_all := lw_g (lw_at lw_m4 85 rfl) rfl
theorem q884 : (Jvm.Cond.methodLink "LeaningStreet" (373 : Nat) ({ cls := "LeaningStreet", name := "fall", desc := "()V" } : Jvm.MethodName)) ∈ lw_all := lw_g (lw_at lw_m4 86 rfl) rfl
theorem q885 : (Jvm.Cond.privateMethod ({ cls := "LeaningStreet", name := "fall", desc := "()V" } : Jvm.MethodName)) ∈ lw_tbl := lw_at lw_m4 87 rfl
theorem q886 : (Jvm.Cond.instanceMethod ({ cls := "LeaningStreet", name := "fall", desc := "()V" } : Jvm.MethodName)) ∈ lw_all := lw_g (lw_at lw_m4 88 rfl) rfl
theorem q887 : (Jvm.Cond.code ({ cls := "LeaningStreet", name := "fall", desc := "()V" } : Jvm.MethodName) prog_1_method_53_code (6 : Nat) (Option.none : Option Jvm.ClassFile.FieldType)) ∈ lw_all := lw_g (lw_at lw_m4 89 rfl) rfl
theorem q888 : (Jvm.Cond.methodLink "LeaningStreet" (364 : Nat) ({ cls := "LeaningStreet", name := "isDown", desc := "(I)Z" } : Jvm.MethodName)) ∈ lw_all := lw_g (lw_at lw_m4 90 rfl) rfl
theorem q889 : (Jvm.Cond.privateMethod ({ cls := "LeaningStreet", name := "isDown", desc := "(I)Z" } : Jvm.MethodName)) ∈ lw_tbl := lw_at lw_m4 91 rfl
theorem q890 : (Jvm.Cond.instanceMethod ({ cls := "LeaningStreet", name := "isDown", desc := "(I)Z" } : Jvm.MethodName)) ∈ lw_all := lw_g (lw_at lw_m4 92 rfl) rfl
theorem q891 : (Jvm.Cond.code ({ cls := "LeaningStreet", name := "isDown", desc := "(I)Z" } : Jvm.MethodName) prog_1_method_52_code (2 : Nat) (Option.some Jvm.ClassFile.FieldType.boolean)) ∈ lw_all := lw_g (lw_at lw_m4 93 rfl) rfl
theorem q892 : (Jvm.Cond.methodLink "LeaningStreet" (379 : Nat) ({ cls := "LeaningStreet$State", name := "props", desc := "()I" } : Jvm.MethodName)) ∈ lw_all := lw_g (lw_at lw_m4 94 rfl) rfl
theorem q897 : (Jvm.Cond.instanceMethod ({ cls := "LeaningStreet", name := "street", desc := "(I)I" } : Jvm.MethodName)) ∈ lw_all := lw_g (lw_at lw_m4 99 rfl) rfl
theorem q898 : (Jvm.Cond.selects "LeaningStreet" ({ cls := "LeaningStreet", name := "street", desc := "(I)I" } : Jvm.MethodName) ({ cls := "LeaningStreet", name := "street", desc := "(I)I" } : Jvm.MethodName)) ∈ lw_all := lw_g (lw_at lw_m4 100 rfl) rfl
theorem q899 : (Jvm.Cond.code ({ cls := "LeaningStreet", name := "street", desc := "(I)I" } : Jvm.MethodName) prog_1_method_57_code (4 : Nat) (Option.some Jvm.ClassFile.FieldType.int)) ∈ lw_all := lw_g (lw_at lw_m4 101 rfl) rfl
theorem q900 : (Jvm.Cond.methodLink "LeaningStreet" (391 : Nat) ({ cls := "LeaningStreet$State", name := "cracks", desc := "()I" } : Jvm.MethodName)) ∈ lw_all := lw_g (lw_at lw_m4 102 rfl) rfl
theorem q905 : (Jvm.Cond.instanceMethod ({ cls := "LeaningStreet", name := "behind", desc := "(II)I" } : Jvm.MethodName)) ∈ lw_all := lw_g (lw_at lw_m4 107 rfl) rfl
theorem q906 : (Jvm.Cond.selects "LeaningStreet" ({ cls := "LeaningStreet", name := "behind", desc := "(II)I" } : Jvm.MethodName) ({ cls := "LeaningStreet", name := "behind", desc := "(II)I" } : Jvm.MethodName)) ∈ lw_all := lw_g (lw_at lw_m4 108 rfl) rfl
theorem q907 : (Jvm.Cond.code ({ cls := "LeaningStreet", name := "behind", desc := "(II)I" } : Jvm.MethodName) prog_1_method_60_code (4 : Nat) (Option.some Jvm.ClassFile.FieldType.int)) ∈ lw_all := lw_g (lw_at lw_m4 109 rfl) rfl
theorem q908 : (Jvm.Cond.methodLink "LeaningStreet" (397 : Nat) ({ cls := "LeaningStreet", name := "thinks", desc := "()V" } : Jvm.MethodName)) ∈ lw_all := lw_g (lw_at lw_m4 110 rfl) rfl
theorem q909 : (Jvm.Cond.privateMethod ({ cls := "LeaningStreet", name := "thinks", desc := "()V" } : Jvm.MethodName)) ∈ lw_tbl := lw_at lw_m4 111 rfl
theorem q910 : (Jvm.Cond.instanceMethod ({ cls := "LeaningStreet", name := "thinks", desc := "()V" } : Jvm.MethodName)) ∈ lw_all := lw_g (lw_at lw_m4 112 rfl) rfl
theorem q911 : (Jvm.Cond.code ({ cls := "LeaningStreet", name := "thinks", desc := "()V" } : Jvm.MethodName) prog_1_method_58_code (1 : Nat) (Option.none : Option Jvm.ClassFile.FieldType)) ∈ lw_all := lw_g (lw_at lw_m4 113 rfl) rfl
theorem q912 : (Jvm.Cond.methodLink "LeaningStreet" (393 : Nat) ({ cls := "LeaningStreet$State", name := "copyOf", desc := "(LLeaningStreet$State;)V" } : Jvm.MethodName)) ∈ lw_all := lw_g (lw_at lw_m4 114 rfl) rfl
theorem q953 : (Jvm.Cond.methodLink "LeaningStreet" (400 : Nat) ({ cls := "LeaningStreet", name := "putsBack", desc := "()V" } : Jvm.MethodName)) ∈ lw_all := lw_g (lw_at lw_m4 155 rfl) rfl
theorem q954 : (Jvm.Cond.privateMethod ({ cls := "LeaningStreet", name := "putsBack", desc := "()V" } : Jvm.MethodName)) ∈ lw_tbl := lw_at lw_m4 156 rfl
theorem q955 : (Jvm.Cond.instanceMethod ({ cls := "LeaningStreet", name := "putsBack", desc := "()V" } : Jvm.MethodName)) ∈ lw_all := lw_g (lw_at lw_m4 157 rfl) rfl
theorem q956 : (Jvm.Cond.code ({ cls := "LeaningStreet", name := "putsBack", desc := "()V" } : Jvm.MethodName) prog_1_method_59_code (1 : Nat) (Option.none : Option Jvm.ClassFile.FieldType)) ∈ lw_all := lw_g (lw_at lw_m4 158 rfl) rfl
theorem q958 : (Jvm.Cond.instanceMethod ({ cls := "LeaningStreet", name := "lasts", desc := "()I" } : Jvm.MethodName)) ∈ lw_all := lw_g (lw_at lw_m4 160 rfl) rfl
theorem q959 : (Jvm.Cond.selects "LeaningStreet" ({ cls := "LeaningStreet", name := "lasts", desc := "()I" } : Jvm.MethodName) ({ cls := "LeaningStreet", name := "lasts", desc := "()I" } : Jvm.MethodName)) ∈ lw_all := lw_g (lw_at lw_m4 161 rfl) rfl
theorem q960 : (Jvm.Cond.code ({ cls := "LeaningStreet", name := "lasts", desc := "()I" } : Jvm.MethodName) prog_1_method_61_code (3 : Nat) (Option.some Jvm.ClassFile.FieldType.int)) ∈ lw_all := lw_g (lw_at lw_m4 162 rfl) rfl
theorem q962 : (Jvm.Cond.instanceMethod ({ cls := "LeaningStreet", name := "taken", desc := "(II)I" } : Jvm.MethodName)) ∈ lw_all := lw_g (lw_at lw_m4 164 rfl) rfl
theorem q963 : (Jvm.Cond.selects "LeaningStreet" ({ cls := "LeaningStreet", name := "taken", desc := "(II)I" } : Jvm.MethodName) ({ cls := "LeaningStreet", name := "taken", desc := "(II)I" } : Jvm.MethodName)) ∈ lw_all := lw_g (lw_at lw_m4 165 rfl) rfl
theorem q964 : (Jvm.Cond.code ({ cls := "LeaningStreet", name := "taken", desc := "(II)I" } : Jvm.MethodName) prog_1_method_63_code (5 : Nat) (Option.some Jvm.ClassFile.FieldType.int)) ∈ lw_all := lw_g (lw_at lw_m4 166 rfl) rfl
theorem q965 : (Jvm.Cond.methodLink "LeaningStreet" (403 : Nat) ({ cls := "LeaningStreet", name := "standingBehind", desc := "(I)I" } : Jvm.MethodName)) ∈ lw_all := lw_g (lw_at lw_m4 167 rfl) rfl
theorem q966 : (Jvm.Cond.privateMethod ({ cls := "LeaningStreet", name := "standingBehind", desc := "(I)I" } : Jvm.MethodName)) ∈ lw_tbl := lw_at lw_m4 168 rfl
theorem q967 : (Jvm.Cond.instanceMethod ({ cls := "LeaningStreet", name := "standingBehind", desc := "(I)I" } : Jvm.MethodName)) ∈ lw_all := lw_g (lw_at lw_m4 169 rfl) rfl
theorem q968 : (Jvm.Cond.code ({ cls := "LeaningStreet", name := "standingBehind", desc := "(I)I" } : Jvm.MethodName) prog_1_method_62_code (3 : Nat) (Option.some Jvm.ClassFile.FieldType.int)) ∈ lw_all := lw_g (lw_at lw_m4 170 rfl) rfl
theorem q970 : (Jvm.Cond.instanceMethod ({ cls := "LeaningStreet", name := "propped", desc := "(I)I" } : Jvm.MethodName)) ∈ lw_all := lw_g (lw_at lw_m4 172 rfl) rfl
theorem q971 : (Jvm.Cond.selects "LeaningStreet" ({ cls := "LeaningStreet", name := "propped", desc := "(I)I" } : Jvm.MethodName) ({ cls := "LeaningStreet", name := "propped", desc := "(I)I" } : Jvm.MethodName)) ∈ lw_all := lw_g (lw_at lw_m4 173 rfl) rfl
theorem q972 : (Jvm.Cond.code ({ cls := "LeaningStreet", name := "propped", desc := "(I)I" } : Jvm.MethodName) prog_1_method_64_code (5 : Nat) (Option.some Jvm.ClassFile.FieldType.int)) ∈ lw_all := lw_g (lw_at lw_m4 174 rfl) rfl
theorem q974 : (Jvm.Cond.instanceMethod ({ cls := "LeaningStreet", name := "wall", desc := "(II)I" } : Jvm.MethodName)) ∈ lw_all := lw_g (lw_at lw_m4 176 rfl) rfl
theorem q975 : (Jvm.Cond.selects "LeaningStreet" ({ cls := "LeaningStreet", name := "wall", desc := "(II)I" } : Jvm.MethodName) ({ cls := "LeaningStreet", name := "wall", desc := "(II)I" } : Jvm.MethodName)) ∈ lw_all := lw_g (lw_at lw_m4 177 rfl) rfl
theorem q976 : (Jvm.Cond.code ({ cls := "LeaningStreet", name := "wall", desc := "(II)I" } : Jvm.MethodName) prog_1_method_65_code (7 : Nat) (Option.some Jvm.ClassFile.FieldType.int)) ∈ lw_all := lw_g (lw_at lw_m4 178 rfl) rfl
theorem q978 : (Jvm.Cond.instanceMethod ({ cls := "LeaningStreet", name := "snows", desc := "(I)I" } : Jvm.MethodName)) ∈ lw_all := lw_g (lw_at lw_m4 180 rfl) rfl
theorem q979 : (Jvm.Cond.selects "LeaningStreet" ({ cls := "LeaningStreet", name := "snows", desc := "(I)I" } : Jvm.MethodName) ({ cls := "LeaningStreet", name := "snows", desc := "(I)I" } : Jvm.MethodName)) ∈ lw_all := lw_g (lw_at lw_m4 181 rfl) rfl
theorem q980 : (Jvm.Cond.code ({ cls := "LeaningStreet", name := "snows", desc := "(I)I" } : Jvm.MethodName) prog_1_method_66_code (5 : Nat) (Option.some Jvm.ClassFile.FieldType.int)) ∈ lw_all := lw_g (lw_at lw_m4 182 rfl) rfl
theorem q982 : (Jvm.Cond.instanceMethod ({ cls := "LeaningStreet", name := "fee", desc := "()I" } : Jvm.MethodName)) ∈ lw_all := lw_g (lw_at lw_m4 184 rfl) rfl
theorem q983 : (Jvm.Cond.selects "LeaningStreet" ({ cls := "LeaningStreet", name := "fee", desc := "()I" } : Jvm.MethodName) ({ cls := "LeaningStreet", name := "fee", desc := "()I" } : Jvm.MethodName)) ∈ lw_all := lw_g (lw_at lw_m4 185 rfl) rfl
theorem q984 : (Jvm.Cond.code ({ cls := "LeaningStreet", name := "fee", desc := "()I" } : Jvm.MethodName) prog_1_method_67_code (2 : Nat) (Option.some Jvm.ClassFile.FieldType.int)) ∈ lw_all := lw_g (lw_at lw_m4 186 rfl) rfl
theorem q986 : (Jvm.Cond.instanceMethod ({ cls := "LeaningStreet", name := "fine", desc := "(I)I" } : Jvm.MethodName)) ∈ lw_all := lw_g (lw_at lw_m4 188 rfl) rfl
theorem q987 : (Jvm.Cond.selects "LeaningStreet" ({ cls := "LeaningStreet", name := "fine", desc := "(I)I" } : Jvm.MethodName) ({ cls := "LeaningStreet", name := "fine", desc := "(I)I" } : Jvm.MethodName)) ∈ lw_all := lw_g (lw_at lw_m4 189 rfl) rfl
theorem q988 : (Jvm.Cond.code ({ cls := "LeaningStreet", name := "fine", desc := "(I)I" } : Jvm.MethodName) prog_1_method_68_code (3 : Nat) (Option.some Jvm.ClassFile.FieldType.int)) ∈ lw_all := lw_g (lw_at lw_m4 190 rfl) rfl
theorem q990 : (Jvm.Cond.instanceMethod ({ cls := "LeaningStreet", name := "sheet", desc := "(III)I" } : Jvm.MethodName)) ∈ lw_all := lw_g (lw_at lw_m4 192 rfl) rfl
theorem q991 : (Jvm.Cond.selects "LeaningStreet" ({ cls := "LeaningStreet", name := "sheet", desc := "(III)I" } : Jvm.MethodName) ({ cls := "LeaningStreet", name := "sheet", desc := "(III)I" } : Jvm.MethodName)) ∈ lw_all := lw_g (lw_at lw_m4 193 rfl) rfl
theorem q992 : (Jvm.Cond.codeWith ({ cls := "LeaningStreet", name := "sheet", desc := "(III)I" } : Jvm.MethodName) prog_1_method_72_code (5 : Nat) (Option.some Jvm.ClassFile.FieldType.int) [((45 : Nat), (69 : Nat), (70 : Nat), (417 : Nat))]) ∈ lw_all := lw_g (lw_at lw_m4 194 rfl) rfl
theorem q993 : (Jvm.Cond.classLink "LeaningStreet" (417 : Nat) "java/lang/NegativeArraySizeException") ∈ lw_all := lw_g (lw_at lw_m4 195 rfl) rfl
theorem q1007 : (Jvm.Cond.methodLink "LeaningStreet" (406 : Nat) ({ cls := "LeaningStreet", name := "isSheet", desc := "(I)Z" } : Jvm.MethodName)) ∈ lw_all := lw_g (lw_at lw_m4 209 rfl) rfl
theorem q1008 : (Jvm.Cond.static ({ cls := "LeaningStreet", name := "isSheet", desc := "(I)Z" } : Jvm.MethodName)) ∈ lw_all := lw_g (lw_at lw_m4 210 rfl) rfl
theorem q1009 : (Jvm.Cond.code ({ cls := "LeaningStreet", name := "isSheet", desc := "(I)Z" } : Jvm.MethodName) prog_1_method_69_code (1 : Nat) (Option.some Jvm.ClassFile.FieldType.boolean)) ∈ lw_all := lw_g (lw_at lw_m4 211 rfl) rfl
theorem q1010 : (Jvm.Cond.methodLink "LeaningStreet" (413 : Nat) ({ cls := "LeaningStreet", name := "rowOf", desc := "(ZI)Ljava/lang/Object;" } : Jvm.MethodName)) ∈ lw_all := lw_g (lw_at lw_m4 212 rfl) rfl
theorem q1011 : (Jvm.Cond.static ({ cls := "LeaningStreet", name := "rowOf", desc := "(ZI)Ljava/lang/Object;" } : Jvm.MethodName)) ∈ lw_all := lw_g (lw_at lw_m4 213 rfl) rfl
theorem q1012 : (Jvm.Cond.code ({ cls := "LeaningStreet", name := "rowOf", desc := "(ZI)Ljava/lang/Object;" } : Jvm.MethodName) prog_1_method_71_code (2 : Nat) (Option.some (Jvm.ClassFile.FieldType.object "java/lang/Object"))) ∈ lw_all := lw_g (lw_at lw_m4 214 rfl) rfl
theorem q1013 : (Jvm.Cond.constant "LeaningStreet" (419 : Nat) (-1000000014 : Int32)) ∈ lw_all := lw_g (lw_at lw_m4 215 rfl) rfl
theorem q1016 : (Jvm.Cond.instanceMethod ({ cls := "LeaningStreet", name := "mark", desc := "(III)I" } : Jvm.MethodName)) ∈ lw_all := lw_g (lw_at lw_m4 218 rfl) rfl
theorem q1017 : (Jvm.Cond.selects "LeaningStreet" ({ cls := "LeaningStreet", name := "mark", desc := "(III)I" } : Jvm.MethodName) ({ cls := "LeaningStreet", name := "mark", desc := "(III)I" } : Jvm.MethodName)) ∈ lw_all := lw_g (lw_at lw_m4 219 rfl) rfl
theorem q1018 : (Jvm.Cond.code ({ cls := "LeaningStreet", name := "mark", desc := "(III)I" } : Jvm.MethodName) prog_1_method_74_code (5 : Nat) (Option.some Jvm.ClassFile.FieldType.int)) ∈ lw_all := lw_g (lw_at lw_m4 220 rfl) rfl
theorem q1019 : (Jvm.Cond.methodLink "LeaningStreet" (433 : Nat) ({ cls := "LeaningStreet$Sheet", name := "isThere", desc := "()Z" } : Jvm.MethodName)) ∈ lw_all := lw_g (lw_at lw_m4 221 rfl) rfl
theorem q1023 : (Jvm.Cond.constant "LeaningStreet" (436 : Nat) (-1000000011 : Int32)) ∈ lw_all := lw_g (lw_at lw_m4 225 rfl) rfl
theorem q1024 : (Jvm.Cond.methodLink "LeaningStreet" (437 : Nat) ({ cls := "LeaningStreet$Sheet", name := "size", desc := "()I" } : Jvm.MethodName)) ∈ lw_all := lw_g (lw_at lw_m4 226 rfl) rfl
theorem q1034 : (Jvm.Cond.methodLink "LeaningStreet" (440 : Nat) ({ cls := "LeaningStreet", name := "markIn", desc := "(LLeaningStreet$Sheet;II)I" } : Jvm.MethodName)) ∈ lw_all := lw_g (lw_at lw_m4 236 rfl) rfl
theorem q1035 : (Jvm.Cond.static ({ cls := "LeaningStreet", name := "markIn", desc := "(LLeaningStreet$Sheet;II)I" } : Jvm.MethodName)) ∈ lw_all := lw_g (lw_at lw_m4 237 rfl) rfl
theorem q1036 : (Jvm.Cond.code ({ cls := "LeaningStreet", name := "markIn", desc := "(LLeaningStreet$Sheet;II)I" } : Jvm.MethodName) prog_1_method_73_code (3 : Nat) (Option.some Jvm.ClassFile.FieldType.int)) ∈ lw_all := lw_g (lw_at lw_m4 238 rfl) rfl
theorem q1037 : (Jvm.Cond.methodLink "LeaningStreet" (420 : Nat) ({ cls := "LeaningStreet$Sheet", name := "isFloats", desc := "()Z" } : Jvm.MethodName)) ∈ lw_all := lw_g (lw_at lw_m4 239 rfl) rfl
theorem q1038 : (Jvm.Cond.classLink "LeaningStreet" (424 : Nat) "[F") ∈ lw_all := lw_g (lw_at lw_m5 0 rfl) rfl
theorem q1039 : (Jvm.Cond.constantFloat "LeaningStreet" (427 : Nat) (2143289344 : UInt32)) ∈ lw_all := lw_g (lw_at lw_m5 1 rfl) rfl
theorem q1040 : (Jvm.Cond.constant "LeaningStreet" (428 : Nat) (-99999 : Int32)) ∈ lw_all := lw_g (lw_at lw_m5 2 rfl) rfl
theorem q1041 : (Jvm.Cond.constant "LeaningStreet" (429 : Nat) (99999 : Int32)) ∈ lw_all := lw_g (lw_at lw_m5 3 rfl) rfl
theorem q1042 : (Jvm.Cond.methodLink "LeaningStreet" (430 : Nat) ({ cls := "LeaningStreet$Sheet", name := "put", desc := "(II)V" } : Jvm.MethodName)) ∈ lw_all := lw_g (lw_at lw_m5 4 rfl) rfl
theorem q1046 : (Jvm.Cond.constant "LeaningStreet" (444 : Nat) (-1000000013 : Int32)) ∈ lw_all := lw_g (lw_at lw_m5 8 rfl) rfl
theorem q1048 : (Jvm.Cond.instanceMethod ({ cls := "LeaningStreet", name := "pour", desc := "(I)I" } : Jvm.MethodName)) ∈ lw_all := lw_g (lw_at lw_m5 10 rfl) rfl
theorem q1049 : (Jvm.Cond.selects "LeaningStreet" ({ cls := "LeaningStreet", name := "pour", desc := "(I)I" } : Jvm.MethodName) ({ cls := "LeaningStreet", name := "pour", desc := "(I)I" } : Jvm.MethodName)) ∈ lw_all := lw_g (lw_at lw_m5 11 rfl) rfl
theorem q1050 : (Jvm.Cond.code ({ cls := "LeaningStreet", name := "pour", desc := "(I)I" } : Jvm.MethodName) prog_1_method_75_code (6 : Nat) (Option.some Jvm.ClassFile.FieldType.int)) ∈ lw_all := lw_g (lw_at lw_m5 12 rfl) rfl
theorem q1051 : (Jvm.Cond.methodLink "LeaningStreet" (445 : Nat) ({ cls := "LeaningStreet$Sheet", name := "isNumber", desc := "(I)Z" } : Jvm.MethodName)) ∈ lw_all := lw_g (lw_at lw_m5 13 rfl) rfl
theorem q1055 : (Jvm.Cond.methodLink "LeaningStreet" (448 : Nat) ({ cls := "LeaningStreet$Sheet", name := "at", desc := "(I)I" } : Jvm.MethodName)) ∈ lw_all := lw_g (lw_at lw_m5 17 rfl) rfl
theorem q1060 : (Jvm.Cond.instanceMethod ({ cls := "LeaningStreet", name := "reads", desc := "(I)I" } : Jvm.MethodName)) ∈ lw_all := lw_g (lw_at lw_m5 22 rfl) rfl
theorem q1061 : (Jvm.Cond.selects "LeaningStreet" ({ cls := "LeaningStreet", name := "reads", desc := "(I)I" } : Jvm.MethodName) ({ cls := "LeaningStreet", name := "reads", desc := "(I)I" } : Jvm.MethodName)) ∈ lw_all := lw_g (lw_at lw_m5 23 rfl) rfl
theorem q1062 : (Jvm.Cond.code ({ cls := "LeaningStreet", name := "reads", desc := "(I)I" } : Jvm.MethodName) prog_1_method_76_code (4 : Nat) (Option.some Jvm.ClassFile.FieldType.int)) ∈ lw_all := lw_g (lw_at lw_m5 24 rfl) rfl
theorem q1064 : (Jvm.Cond.instanceMethod ({ cls := "LeaningStreet", name := "began", desc := "(III)I" } : Jvm.MethodName)) ∈ lw_all := lw_g (lw_at lw_m5 26 rfl) rfl
theorem q1065 : (Jvm.Cond.selects "LeaningStreet" ({ cls := "LeaningStreet", name := "began", desc := "(III)I" } : Jvm.MethodName) ({ cls := "LeaningStreet", name := "began", desc := "(III)I" } : Jvm.MethodName)) ∈ lw_all := lw_g (lw_at lw_m5 27 rfl) rfl
theorem q1066 : (Jvm.Cond.code ({ cls := "LeaningStreet", name := "began", desc := "(III)I" } : Jvm.MethodName) prog_1_method_78_code (11 : Nat) (Option.some Jvm.ClassFile.FieldType.int)) ∈ lw_all := lw_g (lw_at lw_m5 28 rfl) rfl
theorem q1067 : (Jvm.Cond.methodLink "LeaningStreet" (454 : Nat) ({ cls := "LeaningStreet", name := "offBy", desc := "(LLeaningStreet$Sheet;II)J" } : Jvm.MethodName)) ∈ lw_all := lw_g (lw_at lw_m5 29 rfl) rfl
theorem q1068 : (Jvm.Cond.privateMethod ({ cls := "LeaningStreet", name := "offBy", desc := "(LLeaningStreet$Sheet;II)J" } : Jvm.MethodName)) ∈ lw_tbl := lw_at lw_m5 30 rfl
theorem q1069 : (Jvm.Cond.instanceMethod ({ cls := "LeaningStreet", name := "offBy", desc := "(LLeaningStreet$Sheet;II)J" } : Jvm.MethodName)) ∈ lw_all := lw_g (lw_at lw_m5 31 rfl) rfl
theorem q1070 : (Jvm.Cond.code ({ cls := "LeaningStreet", name := "offBy", desc := "(LLeaningStreet$Sheet;II)J" } : Jvm.MethodName) prog_1_method_77_code (8 : Nat) (Option.some Jvm.ClassFile.FieldType.long)) ∈ lw_all := lw_g (lw_at lw_m5 32 rfl) rfl
theorem q1071 : (Jvm.Cond.methodLink "LeaningStreet" (451 : Nat) ({ cls := "java/lang/Math", name := "abs", desc := "(J)J" } : Jvm.MethodName)) ∈ lw_all := lw_g (lw_at lw_m5 33 rfl) rfl
theorem q1075 : (Jvm.Cond.instanceMethod ({ cls := "LeaningStreet", name := "copy", desc := "(IIIII)I" } : Jvm.MethodName)) ∈ lw_all := lw_g (lw_at lw_m5 37 rfl) rfl
theorem q1076 : (Jvm.Cond.selects "LeaningStreet" ({ cls := "LeaningStreet", name := "copy", desc := "(IIIII)I" } : Jvm.MethodName) ({ cls := "LeaningStreet", name := "copy", desc := "(IIIII)I" } : Jvm.MethodName)) ∈ lw_all := lw_g (lw_at lw_m5 38 rfl) rfl
theorem q1077 : (Jvm.Cond.code ({ cls := "LeaningStreet", name := "copy", desc := "(IIIII)I" } : Jvm.MethodName) prog_1_method_80_code (8 : Nat) (Option.some Jvm.ClassFile.FieldType.int)) ∈ lw_all := lw_g (lw_at lw_m5 39 rfl) rfl
theorem q1078 : (Jvm.Cond.methodLink "LeaningStreet" (466 : Nat) ({ cls := "LeaningStreet", name := "carries", desc := "(LLeaningStreet$Sheet;ILLeaningStreet$Sheet;II)V" } : Jvm.MethodName)) ∈ lw_all := lw_g (lw_at lw_m5 40 rfl) rfl
theorem q1079 : (Jvm.Cond.privateMethod ({ cls := "LeaningStreet", name := "carries", desc := "(LLeaningStreet$Sheet;ILLeaningStreet$Sheet;II)V" } : Jvm.MethodName)) ∈ lw_tbl := lw_at lw_m5 41 rfl
theorem q1080 : (Jvm.Cond.instanceMethod ({ cls := "LeaningStreet", name := "carries", desc := "(LLeaningStreet$Sheet;ILLeaningStreet$Sheet;II)V" } : Jvm.MethodName)) ∈ lw_all := lw_g (lw_at lw_m5 42 rfl) rfl
theorem q1081 : (Jvm.Cond.code ({ cls := "LeaningStreet", name := "carries", desc := "(LLeaningStreet$Sheet;ILLeaningStreet$Sheet;II)V" } : Jvm.MethodName) prog_1_method_79_code (9 : Nat) (Option.none : Option Jvm.ClassFile.FieldType)) ∈ lw_all := lw_g (lw_at lw_m5 43 rfl) rfl
theorem q1082 : (Jvm.Cond.classLink "LeaningStreet" (458 : Nat) "[S") ∈ lw_all := lw_g (lw_at lw_m5 44 rfl) rfl
theorem q1083 : (Jvm.Cond.methodLink "LeaningStreet" (460 : Nat) ({ cls := "java/lang/System", name := "arraycopy", desc := "(Ljava/lang/Object;ILjava/lang/Object;II)V" } : Jvm.MethodName)) ∈ lw_all := lw_g (lw_at lw_m5 45 rfl) rfl
theorem q1085 : (Jvm.Cond.instanceMethod ({ cls := "LeaningStreet", name := "lay", desc := "(III)I" } : Jvm.MethodName)) ∈ lw_all := lw_g (lw_at lw_m5 47 rfl) rfl
theorem q1086 : (Jvm.Cond.selects "LeaningStreet" ({ cls := "LeaningStreet", name := "lay", desc := "(III)I" } : Jvm.MethodName) ({ cls := "LeaningStreet", name := "lay", desc := "(III)I" } : Jvm.MethodName)) ∈ lw_all := lw_g (lw_at lw_m5 48 rfl) rfl
theorem q1087 : (Jvm.Cond.code ({ cls := "LeaningStreet", name := "lay", desc := "(III)I" } : Jvm.MethodName) prog_1_method_82_code (5 : Nat) (Option.some Jvm.ClassFile.FieldType.int)) ∈ lw_all := lw_g (lw_at lw_m5 49 rfl) rfl
theorem q1088 : (Jvm.Cond.methodLink "LeaningStreet" (470 : Nat) ({ cls := "LeaningStreet", name := "isSlot", desc := "(I)Z" } : Jvm.MethodName)) ∈ lw_all := lw_g (lw_at lw_m5 50 rfl) rfl
theorem q1089 : (Jvm.Cond.static ({ cls := "LeaningStreet", name := "isSlot", desc := "(I)Z" } : Jvm.MethodName)) ∈ lw_all := lw_g (lw_at lw_m5 51 rfl) rfl
theorem q1090 : (Jvm.Cond.code ({ cls := "LeaningStreet", name := "isSlot", desc := "(I)Z" } : Jvm.MethodName) prog_1_method_70_code (1 : Nat) (Option.some Jvm.ClassFile.FieldType.boolean)) ∈ lw_all := lw_g (lw_at lw_m5 52 rfl) rfl
theorem q1091 : (Jvm.Cond.methodLink "LeaningStreet" (473 : Nat) ({ cls := "LeaningStreet$Slot", name := "thing", desc := "()I" } : Jvm.MethodName)) ∈ lw_all := lw_g (lw_at lw_m5 53 rfl) rfl
theorem q1097 : (Jvm.Cond.methodLink "LeaningStreet" (476 : Nat) ({ cls := "LeaningStreet$House", name := "copy", desc := "()LLeaningStreet$House;" } : Jvm.MethodName)) ∈ lw_all := lw_g (lw_at lw_m5 59 rfl) rfl
theorem q1109 : (Jvm.Cond.methodLink "LeaningStreet" (480 : Nat) ({ cls := "LeaningStreet", name := "own", desc := "(LLeaningStreet$Sheet;)LLeaningStreet$Sheet;" } : Jvm.MethodName)) ∈ lw_all := lw_g (lw_at lw_m5 71 rfl) rfl
theorem q1110 : (Jvm.Cond.privateMethod ({ cls := "LeaningStreet", name := "own", desc := "(LLeaningStreet$Sheet;)LLeaningStreet$Sheet;" } : Jvm.MethodName)) ∈ lw_tbl := lw_at lw_m5 72 rfl
theorem q1111 : (Jvm.Cond.instanceMethod ({ cls := "LeaningStreet", name := "own", desc := "(LLeaningStreet$Sheet;)LLeaningStreet$Sheet;" } : Jvm.MethodName)) ∈ lw_all := lw_g (lw_at lw_m5 73 rfl) rfl
theorem q1112 : (Jvm.Cond.code ({ cls := "LeaningStreet", name := "own", desc := "(LLeaningStreet$Sheet;)LLeaningStreet$Sheet;" } : Jvm.MethodName) prog_1_method_81_code (3 : Nat) (Option.some (Jvm.ClassFile.FieldType.object "LeaningStreet$Sheet"))) ∈ lw_all := lw_g (lw_at lw_m5 74 rfl) rfl
theorem q1113 : (Jvm.Cond.classLink "LeaningStreet" (484 : Nat) "LeaningStreet$Figure") ∈ lw_all := lw_g (lw_at lw_m5 75 rfl) rfl
theorem q1115 : (Jvm.Cond.methodLink "LeaningStreet" (486 : Nat) ({ cls := "LeaningStreet$Figure", name := "<init>", desc := "(I)V" } : Jvm.MethodName)) ∈ lw_all := lw_g (lw_at lw_m5 77 rfl) rfl
theorem q1120 : (Jvm.Cond.fieldLinkNest "LeaningStreet" (494 : Nat) "LeaningStreet$Figure" "v" "I" "LeaningStreet") ∈ lw_tbl := lw_at lw_m5 82 rfl
theorem q1125 : (Jvm.Cond.instanceMethod ({ cls := "LeaningStreet", name := "ask", desc := "(II)I" } : Jvm.MethodName)) ∈ lw_all := lw_g (lw_at lw_m5 87 rfl) rfl
theorem q1126 : (Jvm.Cond.selects "LeaningStreet" ({ cls := "LeaningStreet", name := "ask", desc := "(II)I" } : Jvm.MethodName) ({ cls := "LeaningStreet", name := "ask", desc := "(II)I" } : Jvm.MethodName)) ∈ lw_all := lw_g (lw_at lw_m5 88 rfl) rfl
theorem q1127 : (Jvm.Cond.codeWith ({ cls := "LeaningStreet", name := "ask", desc := "(II)I" } : Jvm.MethodName) prog_1_method_83_code (5 : Nat) (Option.some Jvm.ClassFile.FieldType.int) [((37 : Nat), (51 : Nat), (52 : Nat), (338 : Nat))]) ∈ lw_all := lw_g (lw_at lw_m5 89 rfl) rfl
theorem q1128 : (Jvm.Cond.interfaceEntry "LeaningStreet" (491 : Nat)) ∈ lw_tbl := lw_at lw_m5 90 rfl
theorem q1129 : (Jvm.Cond.methodLink "LeaningStreet" (491 : Nat) ({ cls := "LeaningStreet$Bears", name := "worth", desc := "()I" } : Jvm.MethodName)) ∈ lw_all := lw_g (lw_at lw_m5 91 rfl) rfl
theorem q1157 : (Jvm.Cond.instanceMethod ({ cls := "LeaningStreet", name := "item", desc := "(II)I" } : Jvm.MethodName)) ∈ lw_all := lw_g (lw_at lw_m5 119 rfl) rfl
theorem q1158 : (Jvm.Cond.selects "LeaningStreet" ({ cls := "LeaningStreet", name := "item", desc := "(II)I" } : Jvm.MethodName) ({ cls := "LeaningStreet", name := "item", desc := "(II)I" } : Jvm.MethodName)) ∈ lw_all := lw_g (lw_at lw_m5 120 rfl) rfl
theorem q1159 : (Jvm.Cond.codeWith ({ cls := "LeaningStreet", name := "item", desc := "(II)I" } : Jvm.MethodName) prog_1_method_84_code (5 : Nat) (Option.some Jvm.ClassFile.FieldType.int) [((28 : Nat), (52 : Nat), (75 : Nat), (338 : Nat)), ((53 : Nat), (74 : Nat), (75 : Nat), (338 : Nat))]) ∈ lw_all := lw_g (lw_at lw_m5 121 rfl) rfl
theorem q1161 : (Jvm.Cond.instanceMethod ({ cls := "LeaningStreet", name := "rest", desc := "(II)I" } : Jvm.MethodName)) ∈ lw_all := lw_g (lw_at lw_m5 123 rfl) rfl
theorem q1162 : (Jvm.Cond.selects "LeaningStreet" ({ cls := "LeaningStreet", name := "rest", desc := "(II)I" } : Jvm.MethodName) ({ cls := "LeaningStreet", name := "rest", desc := "(II)I" } : Jvm.MethodName)) ∈ lw_all := lw_g (lw_at lw_m5 124 rfl) rfl
theorem q1163 : (Jvm.Cond.code ({ cls := "LeaningStreet", name := "rest", desc := "(II)I" } : Jvm.MethodName) prog_1_method_85_code (5 : Nat) (Option.some Jvm.ClassFile.FieldType.int)) ∈ lw_all := lw_g (lw_at lw_m5 125 rfl) rfl
theorem q1165 : (Jvm.Cond.instanceMethod ({ cls := "LeaningStreet", name := "tell", desc := "(I)I" } : Jvm.MethodName)) ∈ lw_all := lw_g (lw_at lw_m5 127 rfl) rfl
theorem q1166 : (Jvm.Cond.selects "LeaningStreet" ({ cls := "LeaningStreet", name := "tell", desc := "(I)I" } : Jvm.MethodName) ({ cls := "LeaningStreet", name := "tell", desc := "(I)I" } : Jvm.MethodName)) ∈ lw_all := lw_g (lw_at lw_m5 128 rfl) rfl
theorem q1167 : (Jvm.Cond.code ({ cls := "LeaningStreet", name := "tell", desc := "(I)I" } : Jvm.MethodName) prog_1_method_86_code (2 : Nat) (Option.some Jvm.ClassFile.FieldType.int)) ∈ lw_all := lw_g (lw_at lw_m5 129 rfl) rfl
theorem q1169 : (Jvm.Cond.instanceMethod ({ cls := "LeaningStreet", name := "check", desc := "(I)I" } : Jvm.MethodName)) ∈ lw_all := lw_g (lw_at lw_m5 131 rfl) rfl
theorem q1170 : (Jvm.Cond.selects "LeaningStreet" ({ cls := "LeaningStreet", name := "check", desc := "(I)I" } : Jvm.MethodName) ({ cls := "LeaningStreet", name := "check", desc := "(I)I" } : Jvm.MethodName)) ∈ lw_all := lw_g (lw_at lw_m5 132 rfl) rfl
theorem q1171 : (Jvm.Cond.code ({ cls := "LeaningStreet", name := "check", desc := "(I)I" } : Jvm.MethodName) prog_1_method_88_code (5 : Nat) (Option.some Jvm.ClassFile.FieldType.int)) ∈ lw_all := lw_g (lw_at lw_m5 133 rfl) rfl
theorem q1172 : (Jvm.Cond.methodLink "LeaningStreet" (503 : Nat) ({ cls := "LeaningStreet", name := "rowsOfDays", desc := "(I)I" } : Jvm.MethodName)) ∈ lw_all := lw_g (lw_at lw_m5 134 rfl) rfl
theorem q1173 : (Jvm.Cond.privateMethod ({ cls := "LeaningStreet", name := "rowsOfDays", desc := "(I)I" } : Jvm.MethodName)) ∈ lw_tbl := lw_at lw_m5 135 rfl
theorem q1174 : (Jvm.Cond.instanceMethod ({ cls := "LeaningStreet", name := "rowsOfDays", desc := "(I)I" } : Jvm.MethodName)) ∈ lw_all := lw_g (lw_at lw_m5 136 rfl) rfl
theorem q1175 : (Jvm.Cond.code ({ cls := "LeaningStreet", name := "rowsOfDays", desc := "(I)I" } : Jvm.MethodName) prog_1_method_87_code (3 : Nat) (Option.some Jvm.ClassFile.FieldType.int)) ∈ lw_all := lw_g (lw_at lw_m5 137 rfl) rfl
theorem q1177 : (Jvm.Cond.instanceMethod ({ cls := "LeaningStreet", name := "keep", desc := "()I" } : Jvm.MethodName)) ∈ lw_all := lw_g (lw_at lw_m5 139 rfl) rfl
theorem q1178 : (Jvm.Cond.selects "LeaningStreet" ({ cls := "LeaningStreet", name := "keep", desc := "()I" } : Jvm.MethodName) ({ cls := "LeaningStreet", name := "keep", desc := "()I" } : Jvm.MethodName)) ∈ lw_all := lw_g (lw_at lw_m5 140 rfl) rfl
theorem q1179 : (Jvm.Cond.code ({ cls := "LeaningStreet", name := "keep", desc := "()I" } : Jvm.MethodName) prog_1_method_89_code (1 : Nat) (Option.some Jvm.ClassFile.FieldType.int)) ∈ lw_all := lw_g (lw_at lw_m5 141 rfl) rfl
theorem q1181 : (Jvm.Cond.instanceMethod ({ cls := "LeaningStreet", name := "back", desc := "()I" } : Jvm.MethodName)) ∈ lw_all := lw_g (lw_at lw_m5 143 rfl) rfl
theorem q1182 : (Jvm.Cond.selects "LeaningStreet" ({ cls := "LeaningStreet", name := "back", desc := "()I" } : Jvm.MethodName) ({ cls := "LeaningStreet", name := "back", desc := "()I" } : Jvm.MethodName)) ∈ lw_all := lw_g (lw_at lw_m5 144 rfl) rfl
theorem q1183 : (Jvm.Cond.code ({ cls := "LeaningStreet", name := "back", desc := "()I" } : Jvm.MethodName) prog_1_method_90_code (1 : Nat) (Option.some Jvm.ClassFile.FieldType.int)) ∈ lw_all := lw_g (lw_at lw_m5 145 rfl) rfl
theorem q1185 : (Jvm.Cond.instanceMethod ({ cls := "LeaningStreet", name := "count", desc := "(I)I" } : Jvm.MethodName)) ∈ lw_all := lw_g (lw_at lw_m5 147 rfl) rfl
theorem q1186 : (Jvm.Cond.selects "LeaningStreet" ({ cls := "LeaningStreet", name := "count", desc := "(I)I" } : Jvm.MethodName) ({ cls := "LeaningStreet", name := "count", desc := "(I)I" } : Jvm.MethodName)) ∈ lw_all := lw_g (lw_at lw_m5 148 rfl) rfl
theorem q1187 : (Jvm.Cond.code ({ cls := "LeaningStreet", name := "count", desc := "(I)I" } : Jvm.MethodName) prog_1_method_91_code (2 : Nat) (Option.some Jvm.ClassFile.FieldType.int)) ∈ lw_all := lw_g (lw_at lw_m5 149 rfl) rfl
theorem in_X0 : ∀ w ∈ wsX00, w ∈ lw_all := lw_in wsX00 [275, 277, 279, 281, 283, 285, 287, 289, 291, 293, 295, 297, 299, 301, 303, 305, 307, 309, 311, 313, 315, 317, 319, 321, 323] (by decide +kernel) (by decide +kernel)

/-! LeaningStreet$State -/
def RX1 : String := "LeaningStreet$State"
def TX1 : u_T := fun k => match k with
  | 0 => ("LeaningStreet$State", "z", "I", false)
  | 1 => ("LeaningStreet$State", "many", "I", false)
  | 2 => ("LeaningStreet$State", "house", "[LLeaningStreet$House;", true)
  | 3 => ("LeaningStreet$State", "snow", "I", false)
  | 4 => ("LeaningStreet$State", "rent", "I", false)
  | 5 => ("LeaningStreet$State", "day", "I", false)
  | 6 => ("LeaningStreet$State", "texts", "I", false)
  | _ => ("LeaningStreet$State", "text", "[LLeaningStreet$Text;", true)
def tyX1 : Nat → FieldType := fun k => match k with
  | 0 => .int
  | 1 => .int
  | 2 => .array (.object "LeaningStreet$House")
  | 3 => .int
  | 4 => .int
  | 5 => .int
  | 6 => .int
  | _ => .array (.object "LeaningStreet$Text")
abbrev wsX10 : List Cond := u_ws RX1 TX1 8
theorem nmX1 : ∀ a, a < 8 → ∀ b, b < 8 → a ≠ b → (TX1 a).2.1 ≠ (TX1 b).2.1 := by decide +kernel
theorem tyX1_ok : ∀ k, k < 8 → parseFieldDescriptor (TX1 k).2.2.1 = some (tyX1 k) := by decide +kernel
theorem q80 : (Jvm.Cond.initialized "LeaningStreet$State") ∈ lw_all := lw_g (lw_at lw_m1 2 rfl) rfl
theorem q115 : (Jvm.Cond.instantiable "LeaningStreet$State" (8 : Nat)) ∈ lw_all := lw_g (lw_at lw_m1 37 rfl) rfl
theorem q117 : (Jvm.Cond.instanceMethod ({ cls := "LeaningStreet$State", name := "<init>", desc := "()V" } : Jvm.MethodName)) ∈ lw_all := lw_g (lw_at lw_m1 39 rfl) rfl
theorem q118 : (Jvm.Cond.code ({ cls := "LeaningStreet$State", name := "<init>", desc := "()V" } : Jvm.MethodName) prog_13_method_1_code (1 : Nat) (Option.none : Option Jvm.ClassFile.FieldType)) ∈ lw_all := lw_g (lw_at lw_m1 40 rfl) rfl
theorem q119 : (Jvm.Cond.methodLink "LeaningStreet$State" (3 : Nat) ({ cls := "java/lang/Object", name := "<init>", desc := "()V" } : Jvm.MethodName)) ∈ lw_all := lw_g (lw_at lw_m1 41 rfl) rfl
theorem q120 : (Jvm.Cond.classLink "LeaningStreet$State" (15 : Nat) "LeaningStreet$House") ∈ lw_all := lw_g (lw_at lw_m1 42 rfl) rfl
theorem q122 : (Jvm.Cond.classLink "LeaningStreet$State" (21 : Nat) "LeaningStreet$Text") ∈ lw_all := lw_g (lw_at lw_m1 44 rfl) rfl
theorem q124 : (Jvm.Cond.fieldLink "LeaningStreet$State" (9 : Nat) "LeaningStreet$State" "z" "I") ∈ lw_all := lw_g (lw_at lw_m1 46 rfl) rfl
theorem q126 : (Jvm.Cond.fieldLink "LeaningStreet$State" (27 : Nat) "LeaningStreet$State" "many" "I") ∈ lw_all := lw_g (lw_at lw_m1 48 rfl) rfl
theorem q128 : (Jvm.Cond.fieldLink "LeaningStreet$State" (17 : Nat) "LeaningStreet$State" "house" "[LLeaningStreet$House;") ∈ lw_all := lw_g (lw_at lw_m1 50 rfl) rfl
theorem q130 : (Jvm.Cond.fieldLink "LeaningStreet$State" (42 : Nat) "LeaningStreet$State" "snow" "I") ∈ lw_all := lw_g (lw_at lw_m1 52 rfl) rfl
theorem q132 : (Jvm.Cond.fieldLink "LeaningStreet$State" (45 : Nat) "LeaningStreet$State" "rent" "I") ∈ lw_all := lw_g (lw_at lw_m1 54 rfl) rfl
theorem q134 : (Jvm.Cond.fieldLink "LeaningStreet$State" (48 : Nat) "LeaningStreet$State" "day" "I") ∈ lw_all := lw_g (lw_at lw_m1 56 rfl) rfl
theorem q136 : (Jvm.Cond.fieldLink "LeaningStreet$State" (51 : Nat) "LeaningStreet$State" "texts" "I") ∈ lw_all := lw_g (lw_at lw_m1 58 rfl) rfl
theorem q138 : (Jvm.Cond.fieldLink "LeaningStreet$State" (23 : Nat) "LeaningStreet$State" "text" "[LLeaningStreet$Text;") ∈ lw_all := lw_g (lw_at lw_m1 60 rfl) rfl
theorem q140 : (Jvm.Cond.lays "LeaningStreet$State" "LeaningStreet$State" "z" "I") ∈ lw_all := lw_g (lw_at lw_m1 62 rfl) rfl
theorem q141 : (Jvm.Cond.soleField "LeaningStreet$State" "z") ∈ lw_all := lw_g (lw_at lw_m1 63 rfl) rfl
theorem q142 : (Jvm.Cond.lays "LeaningStreet$State" "LeaningStreet$State" "many" "I") ∈ lw_all := lw_g (lw_at lw_m1 64 rfl) rfl
theorem q143 : (Jvm.Cond.soleField "LeaningStreet$State" "many") ∈ lw_all := lw_g (lw_at lw_m1 65 rfl) rfl
theorem q144 : (Jvm.Cond.laysFinal "LeaningStreet$State" "LeaningStreet$State" "house" "[LLeaningStreet$House;") ∈ lw_all := lw_g (lw_at lw_m1 66 rfl) rfl
theorem q145 : (Jvm.Cond.soleField "LeaningStreet$State" "house") ∈ lw_all := lw_g (lw_at lw_m1 67 rfl) rfl
theorem q146 : (Jvm.Cond.lays "LeaningStreet$State" "LeaningStreet$State" "snow" "I") ∈ lw_all := lw_g (lw_at lw_m1 68 rfl) rfl
theorem q147 : (Jvm.Cond.soleField "LeaningStreet$State" "snow") ∈ lw_all := lw_g (lw_at lw_m1 69 rfl) rfl
theorem q148 : (Jvm.Cond.lays "LeaningStreet$State" "LeaningStreet$State" "rent" "I") ∈ lw_all := lw_g (lw_at lw_m1 70 rfl) rfl
theorem q149 : (Jvm.Cond.soleField "LeaningStreet$State" "rent") ∈ lw_all := lw_g (lw_at lw_m1 71 rfl) rfl
theorem q150 : (Jvm.Cond.lays "LeaningStreet$State" "LeaningStreet$State" "day" "I") ∈ lw_all := lw_g (lw_at lw_m1 72 rfl) rfl
theorem q151 : (Jvm.Cond.soleField "LeaningStreet$State" "day") ∈ lw_all := lw_g (lw_at lw_m1 73 rfl) rfl
theorem q152 : (Jvm.Cond.lays "LeaningStreet$State" "LeaningStreet$State" "texts" "I") ∈ lw_all := lw_g (lw_at lw_m1 74 rfl) rfl
theorem q153 : (Jvm.Cond.soleField "LeaningStreet$State" "texts") ∈ lw_all := lw_g (lw_at lw_m1 75 rfl) rfl
theorem q154 : (Jvm.Cond.laysFinal "LeaningStreet$State" "LeaningStreet$State" "text" "[LLeaningStreet$Text;") ∈ lw_all := lw_g (lw_at lw_m1 76 rfl) rfl
theorem q155 : (Jvm.Cond.soleField "LeaningStreet$State" "text") ∈ lw_all := lw_g (lw_at lw_m1 77 rfl) rfl
theorem q156 : (Jvm.Cond.superclass "LeaningStreet$State" "java/lang/Object") ∈ lw_all := lw_g (lw_at lw_m1 78 rfl) rfl
theorem q552 : (Jvm.Cond.fieldLink "LeaningStreet$State" (65 : Nat) "LeaningStreet$House" "crack" "I") ∈ lw_all := lw_g (lw_at lw_m2 234 rfl) rfl
theorem q556 : (Jvm.Cond.fieldLink "LeaningStreet$State" (68 : Nat) "LeaningStreet$House" "prop" "I") ∈ lw_all := lw_g (lw_at lw_m2 238 rfl) rfl
theorem q559 : (Jvm.Cond.fieldLink "LeaningStreet$State" (61 : Nat) "LeaningStreet$House" "stands" "Z") ∈ lw_all := lw_g (lw_at lw_m3 1 rfl) rfl
theorem q735 : (Jvm.Cond.instanceMethod ({ cls := "LeaningStreet$State", name := "standing", desc := "()I" } : Jvm.MethodName)) ∈ lw_all := lw_g (lw_at lw_m3 177 rfl) rfl
theorem q736 : (Jvm.Cond.selects "LeaningStreet$State" ({ cls := "LeaningStreet$State", name := "standing", desc := "()I" } : Jvm.MethodName) ({ cls := "LeaningStreet$State", name := "standing", desc := "()I" } : Jvm.MethodName)) ∈ lw_all := lw_g (lw_at lw_m3 178 rfl) rfl
theorem q737 : (Jvm.Cond.code ({ cls := "LeaningStreet$State", name := "standing", desc := "()I" } : Jvm.MethodName) prog_13_method_4_code (3 : Nat) (Option.some Jvm.ClassFile.FieldType.int)) ∈ lw_all := lw_g (lw_at lw_m3 179 rfl) rfl
theorem q856 : (Jvm.Cond.instanceMethod ({ cls := "LeaningStreet$State", name := "draw", desc := "()I" } : Jvm.MethodName)) ∈ lw_all := lw_g (lw_at lw_m4 58 rfl) rfl
theorem q857 : (Jvm.Cond.selects "LeaningStreet$State" ({ cls := "LeaningStreet$State", name := "draw", desc := "()I" } : Jvm.MethodName) ({ cls := "LeaningStreet$State", name := "draw", desc := "()I" } : Jvm.MethodName)) ∈ lw_all := lw_g (lw_at lw_m4 59 rfl) rfl
theorem q858 : (Jvm.Cond.code ({ cls := "LeaningStreet$State", name := "draw", desc := "()I" } : Jvm.MethodName) prog_13_method_3_code (1 : Nat) (Option.some Jvm.ClassFile.FieldType.int)) ∈ lw_all := lw_g (lw_at lw_m4 60 rfl) rfl
theorem q859 : (Jvm.Cond.constant "LeaningStreet$State" (60 : Nat) (1103515245 : Int32)) ∈ lw_all := lw_g (lw_at lw_m4 61 rfl) rfl
theorem q893 : (Jvm.Cond.instanceMethod ({ cls := "LeaningStreet$State", name := "props", desc := "()I" } : Jvm.MethodName)) ∈ lw_all := lw_g (lw_at lw_m4 95 rfl) rfl
theorem q894 : (Jvm.Cond.selects "LeaningStreet$State" ({ cls := "LeaningStreet$State", name := "props", desc := "()I" } : Jvm.MethodName) ({ cls := "LeaningStreet$State", name := "props", desc := "()I" } : Jvm.MethodName)) ∈ lw_all := lw_g (lw_at lw_m4 96 rfl) rfl
theorem q895 : (Jvm.Cond.code ({ cls := "LeaningStreet$State", name := "props", desc := "()I" } : Jvm.MethodName) prog_13_method_6_code (3 : Nat) (Option.some Jvm.ClassFile.FieldType.int)) ∈ lw_all := lw_g (lw_at lw_m4 97 rfl) rfl
theorem q901 : (Jvm.Cond.instanceMethod ({ cls := "LeaningStreet$State", name := "cracks", desc := "()I" } : Jvm.MethodName)) ∈ lw_all := lw_g (lw_at lw_m4 103 rfl) rfl
theorem q902 : (Jvm.Cond.selects "LeaningStreet$State" ({ cls := "LeaningStreet$State", name := "cracks", desc := "()I" } : Jvm.MethodName) ({ cls := "LeaningStreet$State", name := "cracks", desc := "()I" } : Jvm.MethodName)) ∈ lw_all := lw_g (lw_at lw_m4 104 rfl) rfl
theorem q903 : (Jvm.Cond.code ({ cls := "LeaningStreet$State", name := "cracks", desc := "()I" } : Jvm.MethodName) prog_13_method_5_code (3 : Nat) (Option.some Jvm.ClassFile.FieldType.int)) ∈ lw_all := lw_g (lw_at lw_m4 105 rfl) rfl
theorem q913 : (Jvm.Cond.instanceMethod ({ cls := "LeaningStreet$State", name := "copyOf", desc := "(LLeaningStreet$State;)V" } : Jvm.MethodName)) ∈ lw_all := lw_g (lw_at lw_m4 115 rfl) rfl
theorem q914 : (Jvm.Cond.selects "LeaningStreet$State" ({ cls := "LeaningStreet$State", name := "copyOf", desc := "(LLeaningStreet$State;)V" } : Jvm.MethodName) ({ cls := "LeaningStreet$State", name := "copyOf", desc := "(LLeaningStreet$State;)V" } : Jvm.MethodName)) ∈ lw_all := lw_g (lw_at lw_m4 116 rfl) rfl
theorem q915 : (Jvm.Cond.code ({ cls := "LeaningStreet$State", name := "copyOf", desc := "(LLeaningStreet$State;)V" } : Jvm.MethodName) prog_13_method_2_code (3 : Nat) (Option.none : Option Jvm.ClassFile.FieldType)) ∈ lw_all := lw_g (lw_at lw_m4 117 rfl) rfl
theorem q916 : (Jvm.Cond.methodLink "LeaningStreet$State" (30 : Nat) ({ cls := "LeaningStreet$House", name := "kind", desc := "()I" } : Jvm.MethodName)) ∈ lw_all := lw_g (lw_at lw_m4 118 rfl) rfl
theorem q917 : (Jvm.Cond.methodLink "LeaningStreet$State" (34 : Nat) ({ cls := "LeaningStreet$House", name := "another", desc := "()LLeaningStreet$House;" } : Jvm.MethodName)) ∈ lw_all := lw_g (lw_at lw_m4 119 rfl) rfl
theorem q949 : (Jvm.Cond.methodLink "LeaningStreet$State" (38 : Nat) ({ cls := "LeaningStreet$House", name := "takes", desc := "(LLeaningStreet$House;)V" } : Jvm.MethodName)) ∈ lw_all := lw_g (lw_at lw_m4 151 rfl) rfl
theorem q950 : (Jvm.Cond.methodLink "LeaningStreet$State" (54 : Nat) ({ cls := "java/lang/System", name := "arraycopy", desc := "(Ljava/lang/Object;ILjava/lang/Object;II)V" } : Jvm.MethodName)) ∈ lw_all := lw_g (lw_at lw_m4 152 rfl) rfl
theorem in_X1 : ∀ w ∈ wsX10, w ∈ lw_all := lw_in wsX10 [140, 142, 144, 146, 148, 150, 152, 154] (by decide +kernel) (by decide +kernel)

/-! java/lang/Throwable -/
def RJ0 : String := "java/lang/Throwable"
def TJ0 : u_T := fun k => match k with
  | 0 => ("java/lang/Throwable", "cause", "Ljava/lang/Throwable;", false)
  | 1 => ("java/lang/Throwable", "stackTrace", "[Ljava/lang/StackTraceElement;", false)
  | 2 => ("java/lang/Throwable", "suppressedExceptions", "Ljava/util/List;", false)
  | 3 => ("java/lang/Throwable", "detailMessage", "Ljava/lang/String;", false)
  | _ => ("java/lang/Throwable", "backtrace", "Ljava/lang/Object;", false)
def tyJ0 : Nat → FieldType := fun k => match k with
  | 0 => .object "java/lang/Throwable"
  | 1 => .array (.object "java/lang/StackTraceElement")
  | 2 => .object "java/util/List"
  | 3 => .object "java/lang/String"
  | _ => .object "java/lang/Object"
abbrev wsJ00 : List Cond := u_ws RJ0 TJ0 5
theorem nmJ0 : ∀ a, a < 5 → ∀ b, b < 5 → a ≠ b → (TJ0 a).2.1 ≠ (TJ0 b).2.1 := by decide +kernel
theorem tyJ0_ok : ∀ k, k < 5 → parseFieldDescriptor (TJ0 k).2.2.1 = some (tyJ0 k) := by decide +kernel
theorem q81 : (Jvm.Cond.initialized "java/lang/Throwable") ∈ lw_all := lw_g (lw_at lw_m1 3 rfl) rfl
theorem q164 : (Jvm.Cond.declares ({ cls := "java/lang/Throwable", name := "<init>", desc := "()V" } : Jvm.MethodName)) ∈ lw_tbl := lw_at lw_m1 86 rfl
theorem q165 : (Jvm.Cond.declares ({ cls := "java/lang/Throwable", name := "<init>", desc := "(Ljava/lang/String;)V" } : Jvm.MethodName)) ∈ lw_tbl := lw_at lw_m1 87 rfl
theorem q169 : (Jvm.Cond.lays "java/lang/Throwable" "java/lang/Throwable" "cause" "Ljava/lang/Throwable;") ∈ lw_all := lw_g (lw_at lw_m1 91 rfl) rfl
theorem q171 : (Jvm.Cond.lays "java/lang/Throwable" "java/lang/Throwable" "stackTrace" "[Ljava/lang/StackTraceElement;") ∈ lw_all := lw_g (lw_at lw_m1 93 rfl) rfl
theorem q173 : (Jvm.Cond.lays "java/lang/Throwable" "java/lang/Throwable" "suppressedExceptions" "Ljava/util/List;") ∈ lw_all := lw_g (lw_at lw_m1 95 rfl) rfl
theorem q175 : (Jvm.Cond.lays "java/lang/Throwable" "java/lang/Throwable" "detailMessage" "Ljava/lang/String;") ∈ lw_all := lw_g (lw_at lw_m1 97 rfl) rfl
theorem q177 : (Jvm.Cond.lays "java/lang/Throwable" "java/lang/Throwable" "backtrace" "Ljava/lang/Object;") ∈ lw_all := lw_g (lw_at lw_m1 99 rfl) rfl
theorem q178 : (Jvm.Cond.fieldLink "java/lang/Throwable" (198 : Nat) "java/lang/Throwable" "backtrace" "Ljava/lang/Object;") ∈ lw_all := lw_g (lw_at lw_m1 100 rfl) rfl
theorem q179 : (Jvm.Cond.superclass "java/lang/Throwable" "java/lang/Object") ∈ lw_all := lw_g (lw_at lw_m1 101 rfl) rfl
theorem q180 : (Jvm.Cond.instanceMethod ({ cls := "java/lang/Throwable", name := "<init>", desc := "()V" } : Jvm.MethodName)) ∈ lw_all := lw_g (lw_at lw_m1 102 rfl) rfl
theorem q181 : (Jvm.Cond.code ({ cls := "java/lang/Throwable", name := "<init>", desc := "()V" } : Jvm.MethodName) prog_29_method_1_code (1 : Nat) (Option.none : Option Jvm.ClassFile.FieldType)) ∈ lw_all := lw_g (lw_at lw_m1 103 rfl) rfl
theorem q182 : (Jvm.Cond.methodLink "java/lang/Throwable" (1 : Nat) ({ cls := "java/lang/Object", name := "<init>", desc := "()V" } : Jvm.MethodName)) ∈ lw_all := lw_g (lw_at lw_m1 104 rfl) rfl
theorem q183 : (Jvm.Cond.fieldLink "java/lang/Throwable" (13 : Nat) "java/lang/Throwable" "UNASSIGNED_STACK" "[Ljava/lang/StackTraceElement;") ∈ lw_all := lw_g (lw_at lw_m1 105 rfl) rfl
theorem q184 : (Jvm.Cond.laysStatic "java/lang/Throwable" "UNASSIGNED_STACK" "[Ljava/lang/StackTraceElement;") ∈ lw_tbl := lw_at lw_m1 106 rfl
theorem q185 : (Jvm.Cond.fieldLink "java/lang/Throwable" (20 : Nat) "java/lang/Throwable" "SUPPRESSED_SENTINEL" "Ljava/util/List;") ∈ lw_all := lw_g (lw_at lw_m1 107 rfl) rfl
theorem q186 : (Jvm.Cond.laysStatic "java/lang/Throwable" "SUPPRESSED_SENTINEL" "Ljava/util/List;") ∈ lw_tbl := lw_at lw_m1 108 rfl
theorem q187 : (Jvm.Cond.methodLink "java/lang/Throwable" (27 : Nat) ({ cls := "java/lang/Throwable", name := "fillInStackTrace", desc := "()Ljava/lang/Throwable;" } : Jvm.MethodName)) ∈ lw_all := lw_g (lw_at lw_m1 109 rfl) rfl
theorem q188 : (Jvm.Cond.instanceMethod ({ cls := "java/lang/Throwable", name := "fillInStackTrace", desc := "()Ljava/lang/Throwable;" } : Jvm.MethodName)) ∈ lw_all := lw_g (lw_at lw_m1 110 rfl) rfl
theorem q189 : (Jvm.Cond.sameMethod "java/lang/Throwable" "java/lang/Throwable" "fillInStackTrace" "()Ljava/lang/Throwable;") ∈ lw_all := lw_g (lw_at lw_m1 111 rfl) rfl
theorem q192 : (Jvm.Cond.codeSync ({ cls := "java/lang/Throwable", name := "fillInStackTrace", desc := "()Ljava/lang/Throwable;" } : Jvm.MethodName) prog_29_method_18_code (1 : Nat) (Option.some (Jvm.ClassFile.FieldType.object "java/lang/Throwable"))) ∈ lw_all := lw_g (lw_at lw_m1 114 rfl) rfl
theorem q193 : (Jvm.Cond.methodLink "java/lang/Throwable" (202 : Nat) ({ cls := "java/lang/Throwable", name := "fillInStackTrace", desc := "(I)Ljava/lang/Throwable;" } : Jvm.MethodName)) ∈ lw_all := lw_g (lw_at lw_m1 115 rfl) rfl
theorem q194 : (Jvm.Cond.privateMethod ({ cls := "java/lang/Throwable", name := "fillInStackTrace", desc := "(I)Ljava/lang/Throwable;" } : Jvm.MethodName)) ∈ lw_tbl := lw_at lw_m1 116 rfl
theorem q195 : (Jvm.Cond.instanceMethod ({ cls := "java/lang/Throwable", name := "fillInStackTrace", desc := "(I)Ljava/lang/Throwable;" } : Jvm.MethodName)) ∈ lw_all := lw_g (lw_at lw_m1 117 rfl) rfl
theorem q196 : (Jvm.Cond.instantiable "java/lang/Throwable" (6 : Nat)) ∈ lw_all := lw_g (lw_at lw_m1 118 rfl) rfl
theorem q197 : (Jvm.Cond.native ({ cls := "java/lang/Throwable", name := "fillInStackTrace", desc := "(I)Ljava/lang/Throwable;" } : Jvm.MethodName)) ∈ lw_all := lw_g (lw_at lw_m1 119 rfl) rfl
theorem q209 : (Jvm.Cond.fieldLink "java/lang/Throwable" (198 : Nat) "java/lang/Throwable" "backtrace" "Ljava/lang/Object;") ∈ lw_all := lw_g (lw_at lw_m1 131 rfl) rfl
theorem q210 : (Jvm.Cond.fieldLink "java/lang/Throwable" (31 : Nat) "java/lang/Throwable" "detailMessage" "Ljava/lang/String;") ∈ lw_all := lw_g (lw_at lw_m1 132 rfl) rfl
theorem q211 : (Jvm.Cond.fieldLink "java/lang/Throwable" (7 : Nat) "java/lang/Throwable" "cause" "Ljava/lang/Throwable;") ∈ lw_all := lw_g (lw_at lw_m1 133 rfl) rfl
theorem q212 : (Jvm.Cond.fieldLink "java/lang/Throwable" (17 : Nat) "java/lang/Throwable" "stackTrace" "[Ljava/lang/StackTraceElement;") ∈ lw_all := lw_g (lw_at lw_m1 134 rfl) rfl
theorem q213 : (Jvm.Cond.fieldLink "java/lang/Throwable" (24 : Nat) "java/lang/Throwable" "suppressedExceptions" "Ljava/util/List;") ∈ lw_all := lw_g (lw_at lw_m1 135 rfl) rfl
theorem q216 : (Jvm.Cond.soleField "java/lang/Throwable" "backtrace") ∈ lw_all := lw_g (lw_at lw_m1 138 rfl) rfl
theorem q217 : (Jvm.Cond.soleField "java/lang/Throwable" "detailMessage") ∈ lw_all := lw_g (lw_at lw_m1 139 rfl) rfl
theorem q218 : (Jvm.Cond.soleField "java/lang/Throwable" "cause") ∈ lw_all := lw_g (lw_at lw_m1 140 rfl) rfl
theorem q219 : (Jvm.Cond.soleField "java/lang/Throwable" "stackTrace") ∈ lw_all := lw_g (lw_at lw_m1 141 rfl) rfl
theorem q221 : (Jvm.Cond.soleField "java/lang/Throwable" "depth") ∈ lw_all := lw_g (lw_at lw_m1 143 rfl) rfl
theorem q222 : (Jvm.Cond.soleField "java/lang/Throwable" "suppressedExceptions") ∈ lw_all := lw_g (lw_at lw_m1 144 rfl) rfl
theorem q781 : (Jvm.Cond.instanceMethod ({ cls := "java/lang/Throwable", name := "<init>", desc := "(Ljava/lang/String;)V" } : Jvm.MethodName)) ∈ lw_all := lw_g (lw_at lw_m3 223 rfl) rfl
theorem q782 : (Jvm.Cond.code ({ cls := "java/lang/Throwable", name := "<init>", desc := "(Ljava/lang/String;)V" } : Jvm.MethodName) prog_29_method_2_code (2 : Nat) (Option.none : Option Jvm.ClassFile.FieldType)) ∈ lw_all := lw_g (lw_at lw_m3 224 rfl) rfl
theorem q1682 : (Jvm.Cond.sameMethod "java/lang/Throwable" "java/lang/Throwable" "fillInStackTrace" "(I)Ljava/lang/Throwable;") ∈ lw_all := lw_g (lw_at lw_m7 164 rfl) rfl
theorem in_J0 : ∀ w ∈ wsJ00, w ∈ lw_all := lw_in wsJ00 [169, 171, 173, 175, 177] (by decide +kernel) (by decide +kernel)

/-! java/lang/Exception -/
def RJ1 : String := "java/lang/Exception"
theorem q82 : (Jvm.Cond.initialized "java/lang/Exception") ∈ lw_all := lw_g (lw_at lw_m1 4 rfl) rfl
theorem q162 : (Jvm.Cond.declares ({ cls := "java/lang/Exception", name := "<init>", desc := "()V" } : Jvm.MethodName)) ∈ lw_tbl := lw_at lw_m1 84 rfl
theorem q163 : (Jvm.Cond.declares ({ cls := "java/lang/Exception", name := "<init>", desc := "(Ljava/lang/String;)V" } : Jvm.MethodName)) ∈ lw_tbl := lw_at lw_m1 85 rfl
theorem q205 : (Jvm.Cond.instanceMethod ({ cls := "java/lang/Exception", name := "<init>", desc := "()V" } : Jvm.MethodName)) ∈ lw_all := lw_g (lw_at lw_m1 127 rfl) rfl
theorem q206 : (Jvm.Cond.code ({ cls := "java/lang/Exception", name := "<init>", desc := "()V" } : Jvm.MethodName) prog_20_method_1_code (1 : Nat) (Option.none : Option Jvm.ClassFile.FieldType)) ∈ lw_all := lw_g (lw_at lw_m1 128 rfl) rfl
theorem q207 : (Jvm.Cond.methodLink "java/lang/Exception" (1 : Nat) ({ cls := "java/lang/Throwable", name := "<init>", desc := "()V" } : Jvm.MethodName)) ∈ lw_all := lw_g (lw_at lw_m1 129 rfl) rfl
theorem q778 : (Jvm.Cond.instanceMethod ({ cls := "java/lang/Exception", name := "<init>", desc := "(Ljava/lang/String;)V" } : Jvm.MethodName)) ∈ lw_all := lw_g (lw_at lw_m3 220 rfl) rfl
theorem q779 : (Jvm.Cond.code ({ cls := "java/lang/Exception", name := "<init>", desc := "(Ljava/lang/String;)V" } : Jvm.MethodName) prog_20_method_2_code (2 : Nat) (Option.none : Option Jvm.ClassFile.FieldType)) ∈ lw_all := lw_g (lw_at lw_m3 221 rfl) rfl
theorem q780 : (Jvm.Cond.methodLink "java/lang/Exception" (7 : Nat) ({ cls := "java/lang/Throwable", name := "<init>", desc := "(Ljava/lang/String;)V" } : Jvm.MethodName)) ∈ lw_all := lw_g (lw_at lw_m3 222 rfl) rfl

/-! java/lang/RuntimeException -/
def RJ2 : String := "java/lang/RuntimeException"
theorem q83 : (Jvm.Cond.initialized "java/lang/RuntimeException") ∈ lw_all := lw_g (lw_at lw_m1 5 rfl) rfl
theorem q160 : (Jvm.Cond.declares ({ cls := "java/lang/RuntimeException", name := "<init>", desc := "()V" } : Jvm.MethodName)) ∈ lw_tbl := lw_at lw_m1 82 rfl
theorem q161 : (Jvm.Cond.declares ({ cls := "java/lang/RuntimeException", name := "<init>", desc := "(Ljava/lang/String;)V" } : Jvm.MethodName)) ∈ lw_tbl := lw_at lw_m1 83 rfl
theorem q202 : (Jvm.Cond.instanceMethod ({ cls := "java/lang/RuntimeException", name := "<init>", desc := "()V" } : Jvm.MethodName)) ∈ lw_all := lw_g (lw_at lw_m1 124 rfl) rfl
theorem q203 : (Jvm.Cond.code ({ cls := "java/lang/RuntimeException", name := "<init>", desc := "()V" } : Jvm.MethodName) prog_24_method_1_code (1 : Nat) (Option.none : Option Jvm.ClassFile.FieldType)) ∈ lw_all := lw_g (lw_at lw_m1 125 rfl) rfl
theorem q204 : (Jvm.Cond.methodLink "java/lang/RuntimeException" (1 : Nat) ({ cls := "java/lang/Exception", name := "<init>", desc := "()V" } : Jvm.MethodName)) ∈ lw_all := lw_g (lw_at lw_m1 126 rfl) rfl
theorem q775 : (Jvm.Cond.instanceMethod ({ cls := "java/lang/RuntimeException", name := "<init>", desc := "(Ljava/lang/String;)V" } : Jvm.MethodName)) ∈ lw_all := lw_g (lw_at lw_m3 217 rfl) rfl
theorem q776 : (Jvm.Cond.code ({ cls := "java/lang/RuntimeException", name := "<init>", desc := "(Ljava/lang/String;)V" } : Jvm.MethodName) prog_24_method_2_code (2 : Nat) (Option.none : Option Jvm.ClassFile.FieldType)) ∈ lw_all := lw_g (lw_at lw_m3 218 rfl) rfl
theorem q777 : (Jvm.Cond.methodLink "java/lang/RuntimeException" (7 : Nat) ({ cls := "java/lang/Exception", name := "<init>", desc := "(Ljava/lang/String;)V" } : Jvm.MethodName)) ∈ lw_all := lw_g (lw_at lw_m3 219 rfl) rfl

/-! LeaningStreet$Fault -/
def RX2 : String := "LeaningStreet$Fault"
def TX2 : u_T := fun k => match k with
  | 0 => ("java/lang/Throwable", "cause", "Ljava/lang/Throwable;", false)
  | 1 => ("java/lang/Throwable", "stackTrace", "[Ljava/lang/StackTraceElement;", false)
  | 2 => ("java/lang/Throwable", "suppressedExceptions", "Ljava/util/List;", false)
  | 3 => ("java/lang/Throwable", "detailMessage", "Ljava/lang/String;", false)
  | 4 => ("java/lang/Throwable", "backtrace", "Ljava/lang/Object;", false)
  | 5 => ("java/lang/Throwable", "depth", "I", false)
  | _ => ("LeaningStreet$Fault", "place", "I", false)
def tyX2 : Nat → FieldType := fun k => match k with
  | 0 => .object "java/lang/Throwable"
  | 1 => .array (.object "java/lang/StackTraceElement")
  | 2 => .object "java/util/List"
  | 3 => .object "java/lang/String"
  | 4 => .object "java/lang/Object"
  | 5 => .int
  | _ => .int
abbrev wsX20 : List Cond := u_ws RX2 TX2 7
theorem nmX2 : ∀ a, a < 7 → ∀ b, b < 7 → a ≠ b → (TX2 a).2.1 ≠ (TX2 b).2.1 := by decide +kernel
theorem tyX2_ok : ∀ k, k < 7 → parseFieldDescriptor (TX2 k).2.2.1 = some (tyX2 k) := by decide +kernel
theorem q84 : (Jvm.Cond.initialized "LeaningStreet$Fault") ∈ lw_all := lw_g (lw_at lw_m1 6 rfl) rfl
theorem q158 : (Jvm.Cond.instantiable "LeaningStreet$Fault" (7 : Nat)) ∈ lw_all := lw_g (lw_at lw_m1 80 rfl) rfl
theorem q159 : (Jvm.Cond.castable "LeaningStreet$Fault" "LeaningStreet$Fault") ∈ lw_tbl := lw_at lw_m1 81 rfl
theorem q166 : (Jvm.Cond.selects "LeaningStreet$Fault" ({ cls := "java/lang/Throwable", name := "fillInStackTrace", desc := "(I)Ljava/lang/Throwable;" } : Jvm.MethodName) ({ cls := "java/lang/Throwable", name := "fillInStackTrace", desc := "(I)Ljava/lang/Throwable;" } : Jvm.MethodName)) ∈ lw_all := lw_g (lw_at lw_m1 88 rfl) rfl
theorem q167 : (Jvm.Cond.selects "LeaningStreet$Fault" ({ cls := "java/lang/Throwable", name := "fillInStackTrace", desc := "()Ljava/lang/Throwable;" } : Jvm.MethodName) ({ cls := "java/lang/Throwable", name := "fillInStackTrace", desc := "()Ljava/lang/Throwable;" } : Jvm.MethodName)) ∈ lw_all := lw_g (lw_at lw_m1 89 rfl) rfl
theorem q168 : (Jvm.Cond.lays "LeaningStreet$Fault" "java/lang/Throwable" "cause" "Ljava/lang/Throwable;") ∈ lw_all := lw_g (lw_at lw_m1 90 rfl) rfl
theorem q170 : (Jvm.Cond.lays "LeaningStreet$Fault" "java/lang/Throwable" "stackTrace" "[Ljava/lang/StackTraceElement;") ∈ lw_all := lw_g (lw_at lw_m1 92 rfl) rfl
theorem q172 : (Jvm.Cond.lays "LeaningStreet$Fault" "java/lang/Throwable" "suppressedExceptions" "Ljava/util/List;") ∈ lw_all := lw_g (lw_at lw_m1 94 rfl) rfl
theorem q174 : (Jvm.Cond.lays "LeaningStreet$Fault" "java/lang/Throwable" "detailMessage" "Ljava/lang/String;") ∈ lw_all := lw_g (lw_at lw_m1 96 rfl) rfl
theorem q176 : (Jvm.Cond.lays "LeaningStreet$Fault" "java/lang/Throwable" "backtrace" "Ljava/lang/Object;") ∈ lw_all := lw_g (lw_at lw_m1 98 rfl) rfl
theorem q199 : (Jvm.Cond.instanceMethod ({ cls := "LeaningStreet$Fault", name := "<init>", desc := "()V" } : Jvm.MethodName)) ∈ lw_all := lw_g (lw_at lw_m1 121 rfl) rfl
theorem q200 : (Jvm.Cond.code ({ cls := "LeaningStreet$Fault", name := "<init>", desc := "()V" } : Jvm.MethodName) prog_6_method_1_code (1 : Nat) (Option.none : Option Jvm.ClassFile.FieldType)) ∈ lw_all := lw_g (lw_at lw_m1 122 rfl) rfl
theorem q201 : (Jvm.Cond.methodLink "LeaningStreet$Fault" (1 : Nat) ({ cls := "java/lang/RuntimeException", name := "<init>", desc := "()V" } : Jvm.MethodName)) ∈ lw_all := lw_g (lw_at lw_m1 123 rfl) rfl
theorem q214 : (Jvm.Cond.lays "LeaningStreet$Fault" "LeaningStreet$Fault" "place" "I") ∈ lw_all := lw_g (lw_at lw_m1 136 rfl) rfl
theorem q215 : (Jvm.Cond.soleField "LeaningStreet$Fault" "place") ∈ lw_all := lw_g (lw_at lw_m1 137 rfl) rfl
theorem q220 : (Jvm.Cond.lays "LeaningStreet$Fault" "java/lang/Throwable" "depth" "I") ∈ lw_all := lw_g (lw_at lw_m1 142 rfl) rfl
theorem q223 : (Jvm.Cond.superclass "LeaningStreet$Fault" "java/lang/RuntimeException") ∈ lw_all := lw_g (lw_at lw_m1 145 rfl) rfl
theorem in_X2 : ∀ w ∈ wsX20, w ∈ lw_all := lw_in wsX20 [168, 170, 172, 174, 176, 220, 214] (by decide +kernel) (by decide +kernel)

/-! LeaningStreet$Sheet -/
def RX3 : String := "LeaningStreet$Sheet"
def TX3 : u_T := fun k => match k with
  | _ => ("LeaningStreet$Sheet", "row", "Ljava/lang/Object;", false)
def tyX3 : Nat → FieldType := fun k => match k with
  | _ => .object "java/lang/Object"
abbrev wsX30 : List Cond := u_ws RX3 TX3 1
theorem nmX3 : ∀ a, a < 1 → ∀ b, b < 1 → a ≠ b → (TX3 a).2.1 ≠ (TX3 b).2.1 := by decide +kernel
theorem tyX3_ok : ∀ k, k < 1 → parseFieldDescriptor (TX3 k).2.2.1 = some (tyX3 k) := by decide +kernel
theorem q85 : (Jvm.Cond.initialized "LeaningStreet$Sheet") ∈ lw_all := lw_g (lw_at lw_m1 7 rfl) rfl
theorem q228 : (Jvm.Cond.instantiable "LeaningStreet$Sheet" (1 : Nat)) ∈ lw_all := lw_g (lw_at lw_m1 150 rfl) rfl
theorem q230 : (Jvm.Cond.instanceMethod ({ cls := "LeaningStreet$Sheet", name := "<init>", desc := "()V" } : Jvm.MethodName)) ∈ lw_all := lw_g (lw_at lw_m1 152 rfl) rfl
theorem q231 : (Jvm.Cond.code ({ cls := "LeaningStreet$Sheet", name := "<init>", desc := "()V" } : Jvm.MethodName) prog_11_method_1_code (1 : Nat) (Option.none : Option Jvm.ClassFile.FieldType)) ∈ lw_all := lw_g (lw_at lw_m1 153 rfl) rfl
theorem q232 : (Jvm.Cond.methodLink "LeaningStreet$Sheet" (1 : Nat) ({ cls := "java/lang/Object", name := "<init>", desc := "()V" } : Jvm.MethodName)) ∈ lw_all := lw_g (lw_at lw_m1 154 rfl) rfl
theorem q233 : (Jvm.Cond.fieldLink "LeaningStreet$Sheet" (7 : Nat) "LeaningStreet$Sheet" "row" "Ljava/lang/Object;") ∈ lw_all := lw_g (lw_at lw_m1 155 rfl) rfl
theorem q235 : (Jvm.Cond.lays "LeaningStreet$Sheet" "LeaningStreet$Sheet" "row" "Ljava/lang/Object;") ∈ lw_all := lw_g (lw_at lw_m1 157 rfl) rfl
theorem q236 : (Jvm.Cond.soleField "LeaningStreet$Sheet" "row") ∈ lw_all := lw_g (lw_at lw_m1 158 rfl) rfl
theorem q237 : (Jvm.Cond.superclass "LeaningStreet$Sheet" "java/lang/Object") ∈ lw_all := lw_g (lw_at lw_m1 159 rfl) rfl
theorem q1020 : (Jvm.Cond.instanceMethod ({ cls := "LeaningStreet$Sheet", name := "isThere", desc := "()Z" } : Jvm.MethodName)) ∈ lw_all := lw_g (lw_at lw_m4 222 rfl) rfl
theorem q1021 : (Jvm.Cond.selects "LeaningStreet$Sheet" ({ cls := "LeaningStreet$Sheet", name := "isThere", desc := "()Z" } : Jvm.MethodName) ({ cls := "LeaningStreet$Sheet", name := "isThere", desc := "()Z" } : Jvm.MethodName)) ∈ lw_all := lw_g (lw_at lw_m4 223 rfl) rfl
theorem q1022 : (Jvm.Cond.code ({ cls := "LeaningStreet$Sheet", name := "isThere", desc := "()Z" } : Jvm.MethodName) prog_11_method_2_code (1 : Nat) (Option.some Jvm.ClassFile.FieldType.boolean)) ∈ lw_all := lw_g (lw_at lw_m4 224 rfl) rfl
theorem q1025 : (Jvm.Cond.instanceMethod ({ cls := "LeaningStreet$Sheet", name := "size", desc := "()I" } : Jvm.MethodName)) ∈ lw_all := lw_g (lw_at lw_m4 227 rfl) rfl
theorem q1026 : (Jvm.Cond.selects "LeaningStreet$Sheet" ({ cls := "LeaningStreet$Sheet", name := "size", desc := "()I" } : Jvm.MethodName) ({ cls := "LeaningStreet$Sheet", name := "size", desc := "()I" } : Jvm.MethodName)) ∈ lw_all := lw_g (lw_at lw_m4 228 rfl) rfl
theorem q1027 : (Jvm.Cond.code ({ cls := "LeaningStreet$Sheet", name := "size", desc := "()I" } : Jvm.MethodName) prog_11_method_4_code (1 : Nat) (Option.some Jvm.ClassFile.FieldType.int)) ∈ lw_all := lw_g (lw_at lw_m4 229 rfl) rfl
theorem q1028 : (Jvm.Cond.methodLink "LeaningStreet$Sheet" (15 : Nat) ({ cls := "LeaningStreet$Sheet", name := "isFloats", desc := "()Z" } : Jvm.MethodName)) ∈ lw_all := lw_g (lw_at lw_m4 230 rfl) rfl
theorem q1029 : (Jvm.Cond.instanceMethod ({ cls := "LeaningStreet$Sheet", name := "isFloats", desc := "()Z" } : Jvm.MethodName)) ∈ lw_all := lw_g (lw_at lw_m4 231 rfl) rfl
theorem q1030 : (Jvm.Cond.selects "LeaningStreet$Sheet" ({ cls := "LeaningStreet$Sheet", name := "isFloats", desc := "()Z" } : Jvm.MethodName) ({ cls := "LeaningStreet$Sheet", name := "isFloats", desc := "()Z" } : Jvm.MethodName)) ∈ lw_all := lw_g (lw_at lw_m4 232 rfl) rfl
theorem q1031 : (Jvm.Cond.code ({ cls := "LeaningStreet$Sheet", name := "isFloats", desc := "()Z" } : Jvm.MethodName) prog_11_method_3_code (1 : Nat) (Option.some Jvm.ClassFile.FieldType.boolean)) ∈ lw_all := lw_g (lw_at lw_m4 233 rfl) rfl
theorem q1032 : (Jvm.Cond.classLink "LeaningStreet$Sheet" (13 : Nat) "[F") ∈ lw_all := lw_g (lw_at lw_m4 234 rfl) rfl
theorem q1033 : (Jvm.Cond.classLink "LeaningStreet$Sheet" (19 : Nat) "[S") ∈ lw_all := lw_g (lw_at lw_m4 235 rfl) rfl
theorem q1043 : (Jvm.Cond.instanceMethod ({ cls := "LeaningStreet$Sheet", name := "put", desc := "(II)V" } : Jvm.MethodName)) ∈ lw_all := lw_g (lw_at lw_m5 5 rfl) rfl
theorem q1044 : (Jvm.Cond.selects "LeaningStreet$Sheet" ({ cls := "LeaningStreet$Sheet", name := "put", desc := "(II)V" } : Jvm.MethodName) ({ cls := "LeaningStreet$Sheet", name := "put", desc := "(II)V" } : Jvm.MethodName)) ∈ lw_all := lw_g (lw_at lw_m5 6 rfl) rfl
theorem q1045 : (Jvm.Cond.code ({ cls := "LeaningStreet$Sheet", name := "put", desc := "(II)V" } : Jvm.MethodName) prog_11_method_7_code (3 : Nat) (Option.none : Option Jvm.ClassFile.FieldType)) ∈ lw_all := lw_g (lw_at lw_m5 7 rfl) rfl
theorem q1052 : (Jvm.Cond.instanceMethod ({ cls := "LeaningStreet$Sheet", name := "isNumber", desc := "(I)Z" } : Jvm.MethodName)) ∈ lw_all := lw_g (lw_at lw_m5 14 rfl) rfl
theorem q1053 : (Jvm.Cond.selects "LeaningStreet$Sheet" ({ cls := "LeaningStreet$Sheet", name := "isNumber", desc := "(I)Z" } : Jvm.MethodName) ({ cls := "LeaningStreet$Sheet", name := "isNumber", desc := "(I)Z" } : Jvm.MethodName)) ∈ lw_all := lw_g (lw_at lw_m5 15 rfl) rfl
theorem q1054 : (Jvm.Cond.code ({ cls := "LeaningStreet$Sheet", name := "isNumber", desc := "(I)Z" } : Jvm.MethodName) prog_11_method_5_code (2 : Nat) (Option.some Jvm.ClassFile.FieldType.boolean)) ∈ lw_all := lw_g (lw_at lw_m5 16 rfl) rfl
theorem q1056 : (Jvm.Cond.instanceMethod ({ cls := "LeaningStreet$Sheet", name := "at", desc := "(I)I" } : Jvm.MethodName)) ∈ lw_all := lw_g (lw_at lw_m5 18 rfl) rfl
theorem q1057 : (Jvm.Cond.selects "LeaningStreet$Sheet" ({ cls := "LeaningStreet$Sheet", name := "at", desc := "(I)I" } : Jvm.MethodName) ({ cls := "LeaningStreet$Sheet", name := "at", desc := "(I)I" } : Jvm.MethodName)) ∈ lw_all := lw_g (lw_at lw_m5 19 rfl) rfl
theorem q1058 : (Jvm.Cond.code ({ cls := "LeaningStreet$Sheet", name := "at", desc := "(I)I" } : Jvm.MethodName) prog_11_method_6_code (2 : Nat) (Option.some Jvm.ClassFile.FieldType.int)) ∈ lw_all := lw_g (lw_at lw_m5 20 rfl) rfl
theorem in_X3 : ∀ w ∈ wsX30, w ∈ lw_all := lw_in wsX30 [235] (by decide +kernel) (by decide +kernel)

/-! LeaningStreet$Slot -/
def RX4 : String := "LeaningStreet$Slot"
def TX4 : u_T := fun k => match k with
  | _ => ("LeaningStreet$Slot", "held", "Ljava/lang/Object;", false)
def tyX4 : Nat → FieldType := fun k => match k with
  | _ => .object "java/lang/Object"
abbrev wsX40 : List Cond := u_ws RX4 TX4 1
theorem nmX4 : ∀ a, a < 1 → ∀ b, b < 1 → a ≠ b → (TX4 a).2.1 ≠ (TX4 b).2.1 := by decide +kernel
theorem tyX4_ok : ∀ k, k < 1 → parseFieldDescriptor (TX4 k).2.2.1 = some (tyX4 k) := by decide +kernel
theorem q86 : (Jvm.Cond.initialized "LeaningStreet$Slot") ∈ lw_all := lw_g (lw_at lw_m1 8 rfl) rfl
theorem q240 : (Jvm.Cond.instantiable "LeaningStreet$Slot" (1 : Nat)) ∈ lw_all := lw_g (lw_at lw_m1 162 rfl) rfl
theorem q242 : (Jvm.Cond.instanceMethod ({ cls := "LeaningStreet$Slot", name := "<init>", desc := "()V" } : Jvm.MethodName)) ∈ lw_all := lw_g (lw_at lw_m1 164 rfl) rfl
theorem q243 : (Jvm.Cond.code ({ cls := "LeaningStreet$Slot", name := "<init>", desc := "()V" } : Jvm.MethodName) prog_12_method_1_code (1 : Nat) (Option.none : Option Jvm.ClassFile.FieldType)) ∈ lw_all := lw_g (lw_at lw_m1 165 rfl) rfl
theorem q244 : (Jvm.Cond.methodLink "LeaningStreet$Slot" (1 : Nat) ({ cls := "java/lang/Object", name := "<init>", desc := "()V" } : Jvm.MethodName)) ∈ lw_all := lw_g (lw_at lw_m1 166 rfl) rfl
theorem q245 : (Jvm.Cond.fieldLink "LeaningStreet$Slot" (7 : Nat) "LeaningStreet$Slot" "held" "Ljava/lang/Object;") ∈ lw_all := lw_g (lw_at lw_m1 167 rfl) rfl
theorem q247 : (Jvm.Cond.lays "LeaningStreet$Slot" "LeaningStreet$Slot" "held" "Ljava/lang/Object;") ∈ lw_all := lw_g (lw_at lw_m1 169 rfl) rfl
theorem q248 : (Jvm.Cond.soleField "LeaningStreet$Slot" "held") ∈ lw_all := lw_g (lw_at lw_m1 170 rfl) rfl
theorem q249 : (Jvm.Cond.superclass "LeaningStreet$Slot" "java/lang/Object") ∈ lw_all := lw_g (lw_at lw_m1 171 rfl) rfl
theorem q1092 : (Jvm.Cond.instanceMethod ({ cls := "LeaningStreet$Slot", name := "thing", desc := "()I" } : Jvm.MethodName)) ∈ lw_all := lw_g (lw_at lw_m5 54 rfl) rfl
theorem q1093 : (Jvm.Cond.selects "LeaningStreet$Slot" ({ cls := "LeaningStreet$Slot", name := "thing", desc := "()I" } : Jvm.MethodName) ({ cls := "LeaningStreet$Slot", name := "thing", desc := "()I" } : Jvm.MethodName)) ∈ lw_all := lw_g (lw_at lw_m5 55 rfl) rfl
theorem q1094 : (Jvm.Cond.code ({ cls := "LeaningStreet$Slot", name := "thing", desc := "()I" } : Jvm.MethodName) prog_12_method_2_code (1 : Nat) (Option.some Jvm.ClassFile.FieldType.int)) ∈ lw_all := lw_g (lw_at lw_m5 56 rfl) rfl
theorem q1095 : (Jvm.Cond.classLink "LeaningStreet$Slot" (13 : Nat) "LeaningStreet$House") ∈ lw_all := lw_g (lw_at lw_m5 57 rfl) rfl
theorem q1096 : (Jvm.Cond.classLink "LeaningStreet$Slot" (15 : Nat) "LeaningStreet$Sheet") ∈ lw_all := lw_g (lw_at lw_m5 58 rfl) rfl
theorem in_X4 : ∀ w ∈ wsX40, w ∈ lw_all := lw_in wsX40 [247] (by decide +kernel) (by decide +kernel)

/-! LeaningStreetModel -/
def RX5 : String := "LeaningStreetModel"
def TX5 : u_T := fun k => match k with
  | 0 => ("LeaningStreetModel", "s", "[I", true)
  | 1 => ("LeaningStreetModel", "image", "[I", true)
  | 2 => ("LeaningStreetModel", "aside", "[I", true)
  | 3 => ("LeaningStreetModel", "hasImage", "Z", false)
  | 4 => ("LeaningStreetModel", "tSort", "[I", true)
  | 5 => ("LeaningStreetModel", "tSize", "[I", true)
  | 6 => ("LeaningStreetModel", "tNumber", "[I", true)
  | 7 => ("LeaningStreetModel", "held", "[I", true)
  | 8 => ("LeaningStreetModel", "heldNumber", "[I", true)
  | 9 => ("LeaningStreetModel", "heldWorth", "[I", true)
  | 10 => ("LeaningStreetModel", "heldSize", "[I", true)
  | 11 => ("LeaningStreetModel", "heldRow", "[I", true)
  | 12 => ("LeaningStreetModel", "thrusts", "[I", true)
  | 13 => ("LeaningStreetModel", "borne", "[I", true)
  | 14 => ("LeaningStreetModel", "close", "[I", true)
  | 15 => ("LeaningStreetModel", "tape", "[I", true)
  | 16 => ("LeaningStreetModel", "taped", "I", false)
  | 17 => ("LeaningStreetModel", "begin", "I", false)
  | 18 => ("LeaningStreetModel", "behind", "I", false)
  | 19 => ("LeaningStreetModel", "token", "I", false)
  | 20 => ("LeaningStreetModel", "number", "I", false)
  | 21 => ("LeaningStreetModel", "letter", "I", false)
  | 22 => ("LeaningStreetModel", "deep", "I", false)
  | 23 => ("LeaningStreetModel", "turned", "I", false)
  | 24 => ("LeaningStreetModel", "laid", "I", false)
  | 25 => ("LeaningStreetModel", "laidAt", "I", false)
  | 26 => ("LeaningStreetModel", "said", "I", false)
  | 27 => ("LeaningStreetModel", "named", "[I", true)
  | 28 => ("LeaningStreetModel", "pile", "[I", true)
  | 29 => ("LeaningStreetModel", "carried", "[I", true)
  | 30 => ("LeaningStreetModel", "waits", "[I", true)
  | 31 => ("LeaningStreetModel", "waiting", "I", false)
  | _ => ("LeaningStreetModel", "rowDue", "[I", true)
def tyX5 : Nat → FieldType := fun k => match k with
  | 0 => .array .int
  | 1 => .array .int
  | 2 => .array .int
  | 3 => .boolean
  | 4 => .array .int
  | 5 => .array .int
  | 6 => .array .int
  | 7 => .array .int
  | 8 => .array .int
  | 9 => .array .int
  | 10 => .array .int
  | 11 => .array .int
  | 12 => .array .int
  | 13 => .array .int
  | 14 => .array .int
  | 15 => .array .int
  | 16 => .int
  | 17 => .int
  | 18 => .int
  | 19 => .int
  | 20 => .int
  | 21 => .int
  | 22 => .int
  | 23 => .int
  | 24 => .int
  | 25 => .int
  | 26 => .int
  | 27 => .array .int
  | 28 => .array .int
  | 29 => .array .int
  | 30 => .array .int
  | 31 => .int
  | _ => .array .int
abbrev wsX50 : List Cond := u_ws RX5 TX5 33
set_option maxRecDepth 100000 in
theorem nmX5 : ∀ a, a < 33 → ∀ b, b < 33 → a ≠ b → (TX5 a).2.1 ≠ (TX5 b).2.1 := by decide +kernel
set_option maxRecDepth 100000 in
theorem tyX5_ok : ∀ k, k < 33 → parseFieldDescriptor (TX5 k).2.2.1 = some (tyX5 k) := by decide +kernel
theorem q87 : (Jvm.Cond.initialized "LeaningStreetModel") ∈ lw_all := lw_g (lw_at lw_m1 9 rfl) rfl
theorem q1189 : (Jvm.Cond.instantiable "LeaningStreetModel" (33 : Nat)) ∈ lw_all := lw_g (lw_at lw_m5 151 rfl) rfl
theorem q1191 : (Jvm.Cond.instanceMethod ({ cls := "LeaningStreetModel", name := "<init>", desc := "()V" } : Jvm.MethodName)) ∈ lw_all := lw_g (lw_at lw_m5 153 rfl) rfl
theorem q1192 : (Jvm.Cond.code ({ cls := "LeaningStreetModel", name := "<init>", desc := "()V" } : Jvm.MethodName) prog_18_method_1_code (2 : Nat) (Option.none : Option Jvm.ClassFile.FieldType)) ∈ lw_all := lw_g (lw_at lw_m5 154 rfl) rfl
theorem q1193 : (Jvm.Cond.methodLink "LeaningStreetModel" (1 : Nat) ({ cls := "java/lang/Object", name := "<init>", desc := "()V" } : Jvm.MethodName)) ∈ lw_all := lw_g (lw_at lw_m5 155 rfl) rfl
theorem q1194 : (Jvm.Cond.fieldLink "LeaningStreetModel" (7 : Nat) "LeaningStreetModel" "s" "[I") ∈ lw_all := lw_g (lw_at lw_m5 156 rfl) rfl
theorem q1195 : (Jvm.Cond.fieldLink "LeaningStreetModel" (13 : Nat) "LeaningStreetModel" "image" "[I") ∈ lw_all := lw_g (lw_at lw_m5 157 rfl) rfl
theorem q1196 : (Jvm.Cond.fieldLink "LeaningStreetModel" (16 : Nat) "LeaningStreetModel" "aside" "[I") ∈ lw_all := lw_g (lw_at lw_m5 158 rfl) rfl
theorem q1197 : (Jvm.Cond.fieldLink "LeaningStreetModel" (324 : Nat) "LeaningStreetModel" "hasImage" "Z") ∈ lw_all := lw_g (lw_at lw_m5 159 rfl) rfl
theorem q1198 : (Jvm.Cond.fieldLink "LeaningStreetModel" (19 : Nat) "LeaningStreetModel" "tSort" "[I") ∈ lw_all := lw_g (lw_at lw_m5 160 rfl) rfl
theorem q1199 : (Jvm.Cond.fieldLink "LeaningStreetModel" (22 : Nat) "LeaningStreetModel" "tSize" "[I") ∈ lw_all := lw_g (lw_at lw_m5 161 rfl) rfl
theorem q1200 : (Jvm.Cond.fieldLink "LeaningStreetModel" (25 : Nat) "LeaningStreetModel" "tNumber" "[I") ∈ lw_all := lw_g (lw_at lw_m5 162 rfl) rfl
theorem q1201 : (Jvm.Cond.fieldLink "LeaningStreetModel" (28 : Nat) "LeaningStreetModel" "held" "[I") ∈ lw_all := lw_g (lw_at lw_m5 163 rfl) rfl
theorem q1202 : (Jvm.Cond.fieldLink "LeaningStreetModel" (31 : Nat) "LeaningStreetModel" "heldNumber" "[I") ∈ lw_all := lw_g (lw_at lw_m5 164 rfl) rfl
theorem q1203 : (Jvm.Cond.fieldLink "LeaningStreetModel" (34 : Nat) "LeaningStreetModel" "heldWorth" "[I") ∈ lw_all := lw_g (lw_at lw_m5 165 rfl) rfl
theorem q1204 : (Jvm.Cond.fieldLink "LeaningStreetModel" (37 : Nat) "LeaningStreetModel" "heldSize" "[I") ∈ lw_all := lw_g (lw_at lw_m5 166 rfl) rfl
theorem q1205 : (Jvm.Cond.fieldLink "LeaningStreetModel" (40 : Nat) "LeaningStreetModel" "heldRow" "[I") ∈ lw_all := lw_g (lw_at lw_m5 167 rfl) rfl
theorem q1206 : (Jvm.Cond.fieldLink "LeaningStreetModel" (43 : Nat) "LeaningStreetModel" "thrusts" "[I") ∈ lw_all := lw_g (lw_at lw_m5 168 rfl) rfl
theorem q1207 : (Jvm.Cond.fieldLink "LeaningStreetModel" (46 : Nat) "LeaningStreetModel" "borne" "[I") ∈ lw_all := lw_g (lw_at lw_m5 169 rfl) rfl
theorem q1208 : (Jvm.Cond.fieldLink "LeaningStreetModel" (49 : Nat) "LeaningStreetModel" "close" "[I") ∈ lw_all := lw_g (lw_at lw_m5 170 rfl) rfl
theorem q1209 : (Jvm.Cond.fieldLink "LeaningStreetModel" (52 : Nat) "LeaningStreetModel" "tape" "[I") ∈ lw_all := lw_g (lw_at lw_m5 171 rfl) rfl
theorem q1210 : (Jvm.Cond.fieldLink "LeaningStreetModel" (200 : Nat) "LeaningStreetModel" "taped" "I") ∈ lw_all := lw_g (lw_at lw_m5 172 rfl) rfl
theorem q1211 : (Jvm.Cond.fieldLink "LeaningStreetModel" (218 : Nat) "LeaningStreetModel" "begin" "I") ∈ lw_all := lw_g (lw_at lw_m5 173 rfl) rfl
theorem q1212 : (Jvm.Cond.fieldLink "LeaningStreetModel" (212 : Nat) "LeaningStreetModel" "behind" "I") ∈ lw_all := lw_g (lw_at lw_m5 174 rfl) rfl
theorem q1213 : (Jvm.Cond.fieldLink "LeaningStreetModel" (215 : Nat) "LeaningStreetModel" "token" "I") ∈ lw_all := lw_g (lw_at lw_m5 175 rfl) rfl
theorem q1214 : (Jvm.Cond.fieldLink "LeaningStreetModel" (230 : Nat) "LeaningStreetModel" "number" "I") ∈ lw_all := lw_g (lw_at lw_m5 176 rfl) rfl
theorem q1215 : (Jvm.Cond.fieldLink "LeaningStreetModel" (224 : Nat) "LeaningStreetModel" "letter" "I") ∈ lw_all := lw_g (lw_at lw_m5 177 rfl) rfl
theorem q1216 : (Jvm.Cond.fieldLink "LeaningStreetModel" (277 : Nat) "LeaningStreetModel" "deep" "I") ∈ lw_all := lw_g (lw_at lw_m5 178 rfl) rfl
theorem q1217 : (Jvm.Cond.fieldLink "LeaningStreetModel" (274 : Nat) "LeaningStreetModel" "turned" "I") ∈ lw_all := lw_g (lw_at lw_m5 179 rfl) rfl
theorem q1218 : (Jvm.Cond.fieldLink "LeaningStreetModel" (240 : Nat) "LeaningStreetModel" "laid" "I") ∈ lw_all := lw_g (lw_at lw_m5 180 rfl) rfl
theorem q1219 : (Jvm.Cond.fieldLink "LeaningStreetModel" (237 : Nat) "LeaningStreetModel" "laidAt" "I") ∈ lw_all := lw_g (lw_at lw_m5 181 rfl) rfl
theorem q1220 : (Jvm.Cond.fieldLink "LeaningStreetModel" (268 : Nat) "LeaningStreetModel" "said" "I") ∈ lw_all := lw_g (lw_at lw_m5 182 rfl) rfl
theorem q1221 : (Jvm.Cond.fieldLink "LeaningStreetModel" (55 : Nat) "LeaningStreetModel" "named" "[I") ∈ lw_all := lw_g (lw_at lw_m5 183 rfl) rfl
theorem q1222 : (Jvm.Cond.fieldLink "LeaningStreetModel" (58 : Nat) "LeaningStreetModel" "pile" "[I") ∈ lw_all := lw_g (lw_at lw_m5 184 rfl) rfl
theorem q1223 : (Jvm.Cond.fieldLink "LeaningStreetModel" (61 : Nat) "LeaningStreetModel" "carried" "[I") ∈ lw_all := lw_g (lw_at lw_m5 185 rfl) rfl
theorem q1224 : (Jvm.Cond.fieldLink "LeaningStreetModel" (64 : Nat) "LeaningStreetModel" "waits" "[I") ∈ lw_all := lw_g (lw_at lw_m5 186 rfl) rfl
theorem q1225 : (Jvm.Cond.fieldLink "LeaningStreetModel" (319 : Nat) "LeaningStreetModel" "waiting" "I") ∈ lw_all := lw_g (lw_at lw_m5 187 rfl) rfl
theorem q1226 : (Jvm.Cond.fieldLink "LeaningStreetModel" (67 : Nat) "LeaningStreetModel" "rowDue" "[I") ∈ lw_all := lw_g (lw_at lw_m5 188 rfl) rfl
theorem q1227 : (Jvm.Cond.laysFinal "LeaningStreetModel" "LeaningStreetModel" "s" "[I") ∈ lw_all := lw_g (lw_at lw_m5 189 rfl) rfl
theorem q1228 : (Jvm.Cond.soleField "LeaningStreetModel" "s") ∈ lw_all := lw_g (lw_at lw_m5 190 rfl) rfl
theorem q1229 : (Jvm.Cond.laysFinal "LeaningStreetModel" "LeaningStreetModel" "image" "[I") ∈ lw_all := lw_g (lw_at lw_m5 191 rfl) rfl
theorem q1230 : (Jvm.Cond.soleField "LeaningStreetModel" "image") ∈ lw_all := lw_g (lw_at lw_m5 192 rfl) rfl
theorem q1231 : (Jvm.Cond.laysFinal "LeaningStreetModel" "LeaningStreetModel" "aside" "[I") ∈ lw_all := lw_g (lw_at lw_m5 193 rfl) rfl
theorem q1232 : (Jvm.Cond.soleField "LeaningStreetModel" "aside") ∈ lw_all := lw_g (lw_at lw_m5 194 rfl) rfl
theorem q1233 : (Jvm.Cond.lays "LeaningStreetModel" "LeaningStreetModel" "hasImage" "Z") ∈ lw_all := lw_g (lw_at lw_m5 195 rfl) rfl
theorem q1234 : (Jvm.Cond.soleField "LeaningStreetModel" "hasImage") ∈ lw_all := lw_g (lw_at lw_m5 196 rfl) rfl
theorem q1235 : (Jvm.Cond.laysFinal "LeaningStreetModel" "LeaningStreetModel" "tSort" "[I") ∈ lw_all := lw_g (lw_at lw_m5 197 rfl) rfl
theorem q1236 : (Jvm.Cond.soleField "LeaningStreetModel" "tSort") ∈ lw_all := lw_g (lw_at lw_m5 198 rfl) rfl
theorem q1237 : (Jvm.Cond.laysFinal "LeaningStreetModel" "LeaningStreetModel" "tSize" "[I") ∈ lw_all := lw_g (lw_at lw_m5 199 rfl) rfl
theorem q1238 : (Jvm.Cond.soleField "LeaningStreetModel" "tSize") ∈ lw_all := lw_g (lw_at lw_m5 200 rfl) rfl
theorem q1239 : (Jvm.Cond.laysFinal "LeaningStreetModel" "LeaningStreetModel" "tNumber" "[I") ∈ lw_all := lw_g (lw_at lw_m5 201 rfl) rfl
theorem q1240 : (Jvm.Cond.soleField "LeaningStreetModel" "tNumber") ∈ lw_all := lw_g (lw_at lw_m5 202 rfl) rfl
theorem q1241 : (Jvm.Cond.laysFinal "LeaningStreetModel" "LeaningStreetModel" "held" "[I") ∈ lw_all := lw_g (lw_at lw_m5 203 rfl) rfl
theorem q1242 : (Jvm.Cond.soleField "LeaningStreetModel" "held") ∈ lw_all := lw_g (lw_at lw_m5 204 rfl) rfl
theorem q1243 : (Jvm.Cond.laysFinal "LeaningStreetModel" "LeaningStreetModel" "heldNumber" "[I") ∈ lw_all := lw_g (lw_at lw_m5 205 rfl) rfl
theorem q1244 : (Jvm.Cond.soleField "LeaningStreetModel" "heldNumber") ∈ lw_all := lw_g (lw_at lw_m5 206 rfl) rfl
theorem q1245 : (Jvm.Cond.laysFinal "LeaningStreetModel" "LeaningStreetModel" "heldWorth" "[I") ∈ lw_all := lw_g (lw_at lw_m5 207 rfl) rfl
theorem q1246 : (Jvm.Cond.soleField "LeaningStreetModel" "heldWorth") ∈ lw_all := lw_g (lw_at lw_m5 208 rfl) rfl
theorem q1247 : (Jvm.Cond.laysFinal "LeaningStreetModel" "LeaningStreetModel" "heldSize" "[I") ∈ lw_all := lw_g (lw_at lw_m5 209 rfl) rfl
theorem q1248 : (Jvm.Cond.soleField "LeaningStreetModel" "heldSize") ∈ lw_all := lw_g (lw_at lw_m5 210 rfl) rfl
theorem q1249 : (Jvm.Cond.laysFinal "LeaningStreetModel" "LeaningStreetModel" "heldRow" "[I") ∈ lw_all := lw_g (lw_at lw_m5 211 rfl) rfl
theorem q1250 : (Jvm.Cond.soleField "LeaningStreetModel" "heldRow") ∈ lw_all := lw_g (lw_at lw_m5 212 rfl) rfl
theorem q1251 : (Jvm.Cond.laysFinal "LeaningStreetModel" "LeaningStreetModel" "thrusts" "[I") ∈ lw_all := lw_g (lw_at lw_m5 213 rfl) rfl
theorem q1252 : (Jvm.Cond.soleField "LeaningStreetModel" "thrusts") ∈ lw_all := lw_g (lw_at lw_m5 214 rfl) rfl
theorem q1253 : (Jvm.Cond.laysFinal "LeaningStreetModel" "LeaningStreetModel" "borne" "[I") ∈ lw_all := lw_g (lw_at lw_m5 215 rfl) rfl
theorem q1254 : (Jvm.Cond.soleField "LeaningStreetModel" "borne") ∈ lw_all := lw_g (lw_at lw_m5 216 rfl) rfl
theorem q1255 : (Jvm.Cond.laysFinal "LeaningStreetModel" "LeaningStreetModel" "close" "[I") ∈ lw_all := lw_g (lw_at lw_m5 217 rfl) rfl
theorem q1256 : (Jvm.Cond.soleField "LeaningStreetModel" "close") ∈ lw_all := lw_g (lw_at lw_m5 218 rfl) rfl
theorem q1257 : (Jvm.Cond.laysFinal "LeaningStreetModel" "LeaningStreetModel" "tape" "[I") ∈ lw_all := lw_g (lw_at lw_m5 219 rfl) rfl
theorem q1258 : (Jvm.Cond.soleField "LeaningStreetModel" "tape") ∈ lw_all := lw_g (lw_at lw_m5 220 rfl) rfl
theorem q1259 : (Jvm.Cond.lays "LeaningStreetModel" "LeaningStreetModel" "taped" "I") ∈ lw_all := lw_g (lw_at lw_m5 221 rfl) rfl
theorem q1260 : (Jvm.Cond.soleField "LeaningStreetModel" "taped") ∈ lw_all := lw_g (lw_at lw_m5 222 rfl) rfl
theorem q1261 : (Jvm.Cond.lays "LeaningStreetModel" "LeaningStreetModel" "begin" "I") ∈ lw_all := lw_g (lw_at lw_m5 223 rfl) rfl
theorem q1262 : (Jvm.Cond.soleField "LeaningStreetModel" "begin") ∈ lw_all := lw_g (lw_at lw_m5 224 rfl) rfl
theorem q1263 : (Jvm.Cond.lays "LeaningStreetModel" "LeaningStreetModel" "behind" "I") ∈ lw_all := lw_g (lw_at lw_m5 225 rfl) rfl
theorem q1264 : (Jvm.Cond.soleField "LeaningStreetModel" "behind") ∈ lw_all := lw_g (lw_at lw_m5 226 rfl) rfl
theorem q1265 : (Jvm.Cond.lays "LeaningStreetModel" "LeaningStreetModel" "token" "I") ∈ lw_all := lw_g (lw_at lw_m5 227 rfl) rfl
theorem q1266 : (Jvm.Cond.soleField "LeaningStreetModel" "token") ∈ lw_all := lw_g (lw_at lw_m5 228 rfl) rfl
theorem q1267 : (Jvm.Cond.lays "LeaningStreetModel" "LeaningStreetModel" "number" "I") ∈ lw_all := lw_g (lw_at lw_m5 229 rfl) rfl
theorem q1268 : (Jvm.Cond.soleField "LeaningStreetModel" "number") ∈ lw_all := lw_g (lw_at lw_m5 230 rfl) rfl
theorem q1269 : (Jvm.Cond.lays "LeaningStreetModel" "LeaningStreetModel" "letter" "I") ∈ lw_all := lw_g (lw_at lw_m5 231 rfl) rfl
theorem q1270 : (Jvm.Cond.soleField "LeaningStreetModel" "letter") ∈ lw_all := lw_g (lw_at lw_m5 232 rfl) rfl
theorem q1271 : (Jvm.Cond.lays "LeaningStreetModel" "LeaningStreetModel" "deep" "I") ∈ lw_all := lw_g (lw_at lw_m5 233 rfl) rfl
theorem q1272 : (Jvm.Cond.soleField "LeaningStreetModel" "deep") ∈ lw_all := lw_g (lw_at lw_m5 234 rfl) rfl
theorem q1273 : (Jvm.Cond.lays "LeaningStreetModel" "LeaningStreetModel" "turned" "I") ∈ lw_all := lw_g (lw_at lw_m5 235 rfl) rfl
theorem q1274 : (Jvm.Cond.soleField "LeaningStreetModel" "turned") ∈ lw_all := lw_g (lw_at lw_m5 236 rfl) rfl
theorem q1275 : (Jvm.Cond.lays "LeaningStreetModel" "LeaningStreetModel" "laid" "I") ∈ lw_all := lw_g (lw_at lw_m5 237 rfl) rfl
theorem q1276 : (Jvm.Cond.soleField "LeaningStreetModel" "laid") ∈ lw_all := lw_g (lw_at lw_m5 238 rfl) rfl
theorem q1277 : (Jvm.Cond.lays "LeaningStreetModel" "LeaningStreetModel" "laidAt" "I") ∈ lw_all := lw_g (lw_at lw_m5 239 rfl) rfl
theorem q1278 : (Jvm.Cond.soleField "LeaningStreetModel" "laidAt") ∈ lw_all := lw_g (lw_at lw_m6 0 rfl) rfl
theorem q1279 : (Jvm.Cond.lays "LeaningStreetModel" "LeaningStreetModel" "said" "I") ∈ lw_all := lw_g (lw_at lw_m6 1 rfl) rfl
theorem q1280 : (Jvm.Cond.soleField "LeaningStreetModel" "said") ∈ lw_all := lw_g (lw_at lw_m6 2 rfl) rfl
theorem q1281 : (Jvm.Cond.laysFinal "LeaningStreetModel" "LeaningStreetModel" "named" "[I") ∈ lw_all := lw_g (lw_at lw_m6 3 rfl) rfl
theorem q1282 : (Jvm.Cond.soleField "LeaningStreetModel" "named") ∈ lw_all := lw_g (lw_at lw_m6 4 rfl) rfl
theorem q1283 : (Jvm.Cond.laysFinal "LeaningStreetModel" "LeaningStreetModel" "pile" "[I") ∈ lw_all := lw_g (lw_at lw_m6 5 rfl) rfl
theorem q1284 : (Jvm.Cond.soleField "LeaningStreetModel" "pile") ∈ lw_all := lw_g (lw_at lw_m6 6 rfl) rfl
theorem q1285 : (Jvm.Cond.laysFinal "LeaningStreetModel" "LeaningStreetModel" "carried" "[I") ∈ lw_all := lw_g (lw_at lw_m6 7 rfl) rfl
theorem q1286 : (Jvm.Cond.soleField "LeaningStreetModel" "carried") ∈ lw_all := lw_g (lw_at lw_m6 8 rfl) rfl
theorem q1287 : (Jvm.Cond.laysFinal "LeaningStreetModel" "LeaningStreetModel" "waits" "[I") ∈ lw_all := lw_g (lw_at lw_m6 9 rfl) rfl
theorem q1288 : (Jvm.Cond.soleField "LeaningStreetModel" "waits") ∈ lw_all := lw_g (lw_at lw_m6 10 rfl) rfl
theorem q1289 : (Jvm.Cond.lays "LeaningStreetModel" "LeaningStreetModel" "waiting" "I") ∈ lw_all := lw_g (lw_at lw_m6 11 rfl) rfl
theorem q1290 : (Jvm.Cond.soleField "LeaningStreetModel" "waiting") ∈ lw_all := lw_g (lw_at lw_m6 12 rfl) rfl
theorem q1291 : (Jvm.Cond.laysFinal "LeaningStreetModel" "LeaningStreetModel" "rowDue" "[I") ∈ lw_all := lw_g (lw_at lw_m6 13 rfl) rfl
theorem q1292 : (Jvm.Cond.soleField "LeaningStreetModel" "rowDue") ∈ lw_all := lw_g (lw_at lw_m6 14 rfl) rfl
theorem q1293 : (Jvm.Cond.superclass "LeaningStreetModel" "java/lang/Object") ∈ lw_all := lw_g (lw_at lw_m6 15 rfl) rfl
theorem q1295 : (Jvm.Cond.instanceMethod ({ cls := "LeaningStreetModel", name := "house", desc := "(IIII)I" } : Jvm.MethodName)) ∈ lw_all := lw_g (lw_at lw_m6 17 rfl) rfl
theorem q1296 : (Jvm.Cond.selects "LeaningStreetModel" ({ cls := "LeaningStreetModel", name := "house", desc := "(IIII)I" } : Jvm.MethodName) ({ cls := "LeaningStreetModel", name := "house", desc := "(IIII)I" } : Jvm.MethodName)) ∈ lw_all := lw_g (lw_at lw_m6 18 rfl) rfl
theorem q1297 : (Jvm.Cond.code ({ cls := "LeaningStreetModel", name := "house", desc := "(IIII)I" } : Jvm.MethodName) prog_18_method_17_code (5 : Nat) (Option.some Jvm.ClassFile.FieldType.int)) ∈ lw_all := lw_g (lw_at lw_m6 19 rfl) rfl
theorem q1298 : (Jvm.Cond.constantLong "LeaningStreetModel" (94 : Nat) (5 : Int64)) ∈ lw_all := lw_g (lw_at lw_m6 20 rfl) rfl
theorem q1299 : (Jvm.Cond.methodLink "LeaningStreetModel" (71 : Nat) ({ cls := "LeaningStreetModel", name := "isIn", desc := "(JJJ)Z" } : Jvm.MethodName)) ∈ lw_all := lw_g (lw_at lw_m6 21 rfl) rfl
theorem q1300 : (Jvm.Cond.static ({ cls := "LeaningStreetModel", name := "isIn", desc := "(JJJ)Z" } : Jvm.MethodName)) ∈ lw_all := lw_g (lw_at lw_m6 22 rfl) rfl
theorem q1301 : (Jvm.Cond.code ({ cls := "LeaningStreetModel", name := "isIn", desc := "(JJJ)Z" } : Jvm.MethodName) prog_18_method_2_code (6 : Nat) (Option.some Jvm.ClassFile.FieldType.boolean)) ∈ lw_all := lw_g (lw_at lw_m6 23 rfl) rfl
theorem q1302 : (Jvm.Cond.methodLink "LeaningStreetModel" (96 : Nat) ({ cls := "LeaningStreetModel", name := "mayBe", desc := "(II)Z" } : Jvm.MethodName)) ∈ lw_all := lw_g (lw_at lw_m6 24 rfl) rfl
theorem q1303 : (Jvm.Cond.static ({ cls := "LeaningStreetModel", name := "mayBe", desc := "(II)Z" } : Jvm.MethodName)) ∈ lw_all := lw_g (lw_at lw_m6 25 rfl) rfl
theorem q1304 : (Jvm.Cond.code ({ cls := "LeaningStreetModel", name := "mayBe", desc := "(II)Z" } : Jvm.MethodName) prog_18_method_16_code (2 : Nat) (Option.some Jvm.ClassFile.FieldType.boolean)) ∈ lw_all := lw_g (lw_at lw_m6 26 rfl) rfl
theorem q1305 : (Jvm.Cond.constantLong "LeaningStreetModel" (84 : Nat) (99 : Int64)) ∈ lw_all := lw_g (lw_at lw_m6 27 rfl) rfl
theorem q1306 : (Jvm.Cond.constantLong "LeaningStreetModel" (86 : Nat) (-50 : Int64)) ∈ lw_all := lw_g (lw_at lw_m6 28 rfl) rfl
theorem q1307 : (Jvm.Cond.constantLong "LeaningStreetModel" (88 : Nat) (50 : Int64)) ∈ lw_all := lw_g (lw_at lw_m6 29 rfl) rfl
theorem q1308 : (Jvm.Cond.constantLong "LeaningStreetModel" (90 : Nat) (999 : Int64)) ∈ lw_all := lw_g (lw_at lw_m6 30 rfl) rfl
theorem q1309 : (Jvm.Cond.constantLong "LeaningStreetModel" (92 : Nat) (9 : Int64)) ∈ lw_all := lw_g (lw_at lw_m6 31 rfl) rfl
theorem q1310 : (Jvm.Cond.constant "LeaningStreetModel" (100 : Nat) (-1000000001 : Int32)) ∈ lw_all := lw_g (lw_at lw_m6 32 rfl) rfl
theorem q1311 : (Jvm.Cond.constant "LeaningStreetModel" (101 : Nat) (-1000000003 : Int32)) ∈ lw_all := lw_g (lw_at lw_m6 33 rfl) rfl
theorem q1312 : (Jvm.Cond.methodLink "LeaningStreetModel" (102 : Nat) ({ cls := "LeaningStreetModel", name := "comes", desc := "(IIII)V" } : Jvm.MethodName)) ∈ lw_all := lw_g (lw_at lw_m6 34 rfl) rfl
theorem q1313 : (Jvm.Cond.privateMethod ({ cls := "LeaningStreetModel", name := "comes", desc := "(IIII)V" } : Jvm.MethodName)) ∈ lw_tbl := lw_at lw_m6 35 rfl
theorem q1314 : (Jvm.Cond.instanceMethod ({ cls := "LeaningStreetModel", name := "comes", desc := "(IIII)V" } : Jvm.MethodName)) ∈ lw_all := lw_g (lw_at lw_m6 36 rfl) rfl
theorem q1315 : (Jvm.Cond.code ({ cls := "LeaningStreetModel", name := "comes", desc := "(IIII)V" } : Jvm.MethodName) prog_18_method_15_code (6 : Nat) (Option.none : Option Jvm.ClassFile.FieldType)) ∈ lw_all := lw_g (lw_at lw_m6 37 rfl) rfl
theorem q1316 : (Jvm.Cond.methodLink "LeaningStreetModel" (80 : Nat) ({ cls := "LeaningStreetModel", name := "sets", desc := "(III)V" } : Jvm.MethodName)) ∈ lw_all := lw_g (lw_at lw_m6 38 rfl) rfl
theorem q1317 : (Jvm.Cond.privateMethod ({ cls := "LeaningStreetModel", name := "sets", desc := "(III)V" } : Jvm.MethodName)) ∈ lw_tbl := lw_at lw_m6 39 rfl
theorem q1318 : (Jvm.Cond.instanceMethod ({ cls := "LeaningStreetModel", name := "sets", desc := "(III)V" } : Jvm.MethodName)) ∈ lw_all := lw_g (lw_at lw_m6 40 rfl) rfl
theorem q1319 : (Jvm.Cond.code ({ cls := "LeaningStreetModel", name := "sets", desc := "(III)V" } : Jvm.MethodName) prog_18_method_10_code (4 : Nat) (Option.none : Option Jvm.ClassFile.FieldType)) ∈ lw_all := lw_g (lw_at lw_m6 41 rfl) rfl
theorem q1321 : (Jvm.Cond.instanceMethod ({ cls := "LeaningStreetModel", name := "told", desc := "(II)I" } : Jvm.MethodName)) ∈ lw_all := lw_g (lw_at lw_m6 43 rfl) rfl
theorem q1322 : (Jvm.Cond.selects "LeaningStreetModel" ({ cls := "LeaningStreetModel", name := "told", desc := "(II)I" } : Jvm.MethodName) ({ cls := "LeaningStreetModel", name := "told", desc := "(II)I" } : Jvm.MethodName)) ∈ lw_all := lw_g (lw_at lw_m6 44 rfl) rfl
theorem q1323 : (Jvm.Cond.code ({ cls := "LeaningStreetModel", name := "told", desc := "(II)I" } : Jvm.MethodName) prog_18_method_24_code (3 : Nat) (Option.some Jvm.ClassFile.FieldType.int)) ∈ lw_all := lw_g (lw_at lw_m6 45 rfl) rfl
theorem q1324 : (Jvm.Cond.methodLink "LeaningStreetModel" (133 : Nat) ({ cls := "LeaningStreetModel", name := "isHouse", desc := "(I)Z" } : Jvm.MethodName)) ∈ lw_all := lw_g (lw_at lw_m6 46 rfl) rfl
theorem q1325 : (Jvm.Cond.privateMethod ({ cls := "LeaningStreetModel", name := "isHouse", desc := "(I)Z" } : Jvm.MethodName)) ∈ lw_tbl := lw_at lw_m6 47 rfl
theorem q1326 : (Jvm.Cond.instanceMethod ({ cls := "LeaningStreetModel", name := "isHouse", desc := "(I)Z" } : Jvm.MethodName)) ∈ lw_all := lw_g (lw_at lw_m6 48 rfl) rfl
theorem q1327 : (Jvm.Cond.code ({ cls := "LeaningStreetModel", name := "isHouse", desc := "(I)Z" } : Jvm.MethodName) prog_18_method_11_code (2 : Nat) (Option.some Jvm.ClassFile.FieldType.boolean)) ∈ lw_all := lw_g (lw_at lw_m6 49 rfl) rfl
theorem q1328 : (Jvm.Cond.methodLink "LeaningStreetModel" (75 : Nat) ({ cls := "LeaningStreetModel", name := "of", desc := "(II)I" } : Jvm.MethodName)) ∈ lw_all := lw_g (lw_at lw_m6 50 rfl) rfl
theorem q1329 : (Jvm.Cond.privateMethod ({ cls := "LeaningStreetModel", name := "of", desc := "(II)I" } : Jvm.MethodName)) ∈ lw_tbl := lw_at lw_m6 51 rfl
theorem q1330 : (Jvm.Cond.instanceMethod ({ cls := "LeaningStreetModel", name := "of", desc := "(II)I" } : Jvm.MethodName)) ∈ lw_all := lw_g (lw_at lw_m6 52 rfl) rfl
theorem q1331 : (Jvm.Cond.code ({ cls := "LeaningStreetModel", name := "of", desc := "(II)I" } : Jvm.MethodName) prog_18_method_9_code (3 : Nat) (Option.some Jvm.ClassFile.FieldType.int)) ∈ lw_all := lw_g (lw_at lw_m6 53 rfl) rfl
theorem q1332 : (Jvm.Cond.methodLink "LeaningStreetModel" (130 : Nat) ({ cls := "LeaningStreetModel", name := "pushes", desc := "(I)I" } : Jvm.MethodName)) ∈ lw_all := lw_g (lw_at lw_m6 54 rfl) rfl
theorem q1333 : (Jvm.Cond.privateMethod ({ cls := "LeaningStreetModel", name := "pushes", desc := "(I)I" } : Jvm.MethodName)) ∈ lw_tbl := lw_at lw_m6 55 rfl
theorem q1334 : (Jvm.Cond.instanceMethod ({ cls := "LeaningStreetModel", name := "pushes", desc := "(I)I" } : Jvm.MethodName)) ∈ lw_all := lw_g (lw_at lw_m6 56 rfl) rfl
theorem q1335 : (Jvm.Cond.code ({ cls := "LeaningStreetModel", name := "pushes", desc := "(I)I" } : Jvm.MethodName) prog_18_method_18_code (5 : Nat) (Option.some Jvm.ClassFile.FieldType.int)) ∈ lw_all := lw_g (lw_at lw_m6 57 rfl) rfl
theorem q1336 : (Jvm.Cond.methodLink "LeaningStreetModel" (106 : Nat) ({ cls := "LeaningStreetModel", name := "off", desc := "(II)I" } : Jvm.MethodName)) ∈ lw_all := lw_g (lw_at lw_m6 58 rfl) rfl
theorem q1337 : (Jvm.Cond.static ({ cls := "LeaningStreetModel", name := "off", desc := "(II)I" } : Jvm.MethodName)) ∈ lw_all := lw_g (lw_at lw_m6 59 rfl) rfl
theorem q1338 : (Jvm.Cond.code ({ cls := "LeaningStreetModel", name := "off", desc := "(II)I" } : Jvm.MethodName) prog_18_method_5_code (2 : Nat) (Option.some Jvm.ClassFile.FieldType.int)) ∈ lw_all := lw_g (lw_at lw_m6 60 rfl) rfl
theorem q1339 : (Jvm.Cond.methodLink "LeaningStreetModel" (109 : Nat) ({ cls := "LeaningStreetModel", name := "counts", desc := "(I)I" } : Jvm.MethodName)) ∈ lw_all := lw_g (lw_at lw_m6 61 rfl) rfl
theorem q1340 : (Jvm.Cond.privateMethod ({ cls := "LeaningStreetModel", name := "counts", desc := "(I)I" } : Jvm.MethodName)) ∈ lw_tbl := lw_at lw_m6 62 rfl
theorem q1341 : (Jvm.Cond.instanceMethod ({ cls := "LeaningStreetModel", name := "counts", desc := "(I)I" } : Jvm.MethodName)) ∈ lw_all := lw_g (lw_at lw_m6 63 rfl) rfl
theorem q1342 : (Jvm.Cond.code ({ cls := "LeaningStreetModel", name := "counts", desc := "(I)I" } : Jvm.MethodName) prog_18_method_72_code (4 : Nat) (Option.some Jvm.ClassFile.FieldType.int)) ∈ lw_all := lw_g (lw_at lw_m6 64 rfl) rfl
theorem q1343 : (Jvm.Cond.methodLink "LeaningStreetModel" (283 : Nat) ({ cls := "LeaningStreetModel", name := "textAt", desc := "(I)I" } : Jvm.MethodName)) ∈ lw_all := lw_g (lw_at lw_m6 65 rfl) rfl
theorem q1344 : (Jvm.Cond.privateMethod ({ cls := "LeaningStreetModel", name := "textAt", desc := "(I)I" } : Jvm.MethodName)) ∈ lw_tbl := lw_at lw_m6 66 rfl
theorem q1345 : (Jvm.Cond.instanceMethod ({ cls := "LeaningStreetModel", name := "textAt", desc := "(I)I" } : Jvm.MethodName)) ∈ lw_all := lw_g (lw_at lw_m6 67 rfl) rfl
theorem q1346 : (Jvm.Cond.code ({ cls := "LeaningStreetModel", name := "textAt", desc := "(I)I" } : Jvm.MethodName) prog_18_method_8_code (2 : Nat) (Option.some Jvm.ClassFile.FieldType.int)) ∈ lw_all := lw_g (lw_at lw_m6 68 rfl) rfl
theorem q1347 : (Jvm.Cond.methodLink "LeaningStreetModel" (113 : Nat) ({ cls := "LeaningStreetModel", name := "worked", desc := "(I)I" } : Jvm.MethodName)) ∈ lw_all := lw_g (lw_at lw_m6 69 rfl) rfl
theorem q1348 : (Jvm.Cond.privateMethod ({ cls := "LeaningStreetModel", name := "worked", desc := "(I)I" } : Jvm.MethodName)) ∈ lw_tbl := lw_at lw_m6 70 rfl
theorem q1349 : (Jvm.Cond.instanceMethod ({ cls := "LeaningStreetModel", name := "worked", desc := "(I)I" } : Jvm.MethodName)) ∈ lw_all := lw_g (lw_at lw_m6 71 rfl) rfl
theorem q1350 : (Jvm.Cond.code ({ cls := "LeaningStreetModel", name := "worked", desc := "(I)I" } : Jvm.MethodName) prog_18_method_75_code (6 : Nat) (Option.some Jvm.ClassFile.FieldType.int)) ∈ lw_all := lw_g (lw_at lw_m6 72 rfl) rfl
theorem q1351 : (Jvm.Cond.methodLink "LeaningStreetModel" (297 : Nat) ({ cls := "LeaningStreetModel", name := "joined", desc := "(III)I" } : Jvm.MethodName)) ∈ lw_all := lw_g (lw_at lw_m6 73 rfl) rfl
theorem q1352 : (Jvm.Cond.static ({ cls := "LeaningStreetModel", name := "joined", desc := "(III)I" } : Jvm.MethodName)) ∈ lw_all := lw_g (lw_at lw_m6 74 rfl) rfl
theorem q1353 : (Jvm.Cond.code ({ cls := "LeaningStreetModel", name := "joined", desc := "(III)I" } : Jvm.MethodName) prog_18_method_74_code (3 : Nat) (Option.some Jvm.ClassFile.FieldType.int)) ∈ lw_all := lw_g (lw_at lw_m6 75 rfl) rfl
theorem q1354 : (Jvm.Cond.methodLink "LeaningStreetModel" (116 : Nat) ({ cls := "LeaningStreetModel", name := "held", desc := "(III)I" } : Jvm.MethodName)) ∈ lw_all := lw_g (lw_at lw_m6 76 rfl) rfl
theorem q1355 : (Jvm.Cond.static ({ cls := "LeaningStreetModel", name := "held", desc := "(III)I" } : Jvm.MethodName)) ∈ lw_all := lw_g (lw_at lw_m6 77 rfl) rfl
theorem q1356 : (Jvm.Cond.code ({ cls := "LeaningStreetModel", name := "held", desc := "(III)I" } : Jvm.MethodName) prog_18_method_4_code (3 : Nat) (Option.some Jvm.ClassFile.FieldType.int)) ∈ lw_all := lw_g (lw_at lw_m6 78 rfl) rfl
theorem q1357 : (Jvm.Cond.methodLink "LeaningStreetModel" (136 : Nat) ({ cls := "LeaningStreetModel", name := "bears", desc := "(I)I" } : Jvm.MethodName)) ∈ lw_all := lw_g (lw_at lw_m6 79 rfl) rfl
theorem q1358 : (Jvm.Cond.privateMethod ({ cls := "LeaningStreetModel", name := "bears", desc := "(I)I" } : Jvm.MethodName)) ∈ lw_tbl := lw_at lw_m6 80 rfl
theorem q1359 : (Jvm.Cond.instanceMethod ({ cls := "LeaningStreetModel", name := "bears", desc := "(I)I" } : Jvm.MethodName)) ∈ lw_all := lw_g (lw_at lw_m6 81 rfl) rfl
theorem q1360 : (Jvm.Cond.code ({ cls := "LeaningStreetModel", name := "bears", desc := "(I)I" } : Jvm.MethodName) prog_18_method_19_code (3 : Nat) (Option.some Jvm.ClassFile.FieldType.int)) ∈ lw_all := lw_g (lw_at lw_m6 82 rfl) rfl
theorem q1361 : (Jvm.Cond.methodLink "LeaningStreetModel" (139 : Nat) ({ cls := "LeaningStreetModel", name := "thrust", desc := "(I)I" } : Jvm.MethodName)) ∈ lw_all := lw_g (lw_at lw_m6 83 rfl) rfl
theorem q1362 : (Jvm.Cond.privateMethod ({ cls := "LeaningStreetModel", name := "thrust", desc := "(I)I" } : Jvm.MethodName)) ∈ lw_tbl := lw_at lw_m6 84 rfl
theorem q1363 : (Jvm.Cond.instanceMethod ({ cls := "LeaningStreetModel", name := "thrust", desc := "(I)I" } : Jvm.MethodName)) ∈ lw_all := lw_g (lw_at lw_m6 85 rfl) rfl
theorem q1364 : (Jvm.Cond.code ({ cls := "LeaningStreetModel", name := "thrust", desc := "(I)I" } : Jvm.MethodName) prog_18_method_23_code (6 : Nat) (Option.some Jvm.ClassFile.FieldType.int)) ∈ lw_all := lw_g (lw_at lw_m6 86 rfl) rfl
theorem q1365 : (Jvm.Cond.methodLink "LeaningStreetModel" (119 : Nat) ({ cls := "LeaningStreetModel", name := "stands", desc := "(I)Z" } : Jvm.MethodName)) ∈ lw_all := lw_g (lw_at lw_m6 87 rfl) rfl
theorem q1366 : (Jvm.Cond.privateMethod ({ cls := "LeaningStreetModel", name := "stands", desc := "(I)Z" } : Jvm.MethodName)) ∈ lw_tbl := lw_at lw_m6 88 rfl
theorem q1367 : (Jvm.Cond.instanceMethod ({ cls := "LeaningStreetModel", name := "stands", desc := "(I)Z" } : Jvm.MethodName)) ∈ lw_all := lw_g (lw_at lw_m6 89 rfl) rfl
theorem q1368 : (Jvm.Cond.code ({ cls := "LeaningStreetModel", name := "stands", desc := "(I)Z" } : Jvm.MethodName) prog_18_method_12_code (2 : Nat) (Option.some Jvm.ClassFile.FieldType.boolean)) ∈ lw_all := lw_g (lw_at lw_m6 90 rfl) rfl
theorem q1369 : (Jvm.Cond.methodLink "LeaningStreetModel" (123 : Nat) ({ cls := "LeaningStreetModel", name := "allStanding", desc := "()I" } : Jvm.MethodName)) ∈ lw_all := lw_g (lw_at lw_m6 91 rfl) rfl
theorem q1370 : (Jvm.Cond.privateMethod ({ cls := "LeaningStreetModel", name := "allStanding", desc := "()I" } : Jvm.MethodName)) ∈ lw_tbl := lw_at lw_m6 92 rfl
theorem q1371 : (Jvm.Cond.instanceMethod ({ cls := "LeaningStreetModel", name := "allStanding", desc := "()I" } : Jvm.MethodName)) ∈ lw_all := lw_g (lw_at lw_m6 93 rfl) rfl
theorem q1372 : (Jvm.Cond.code ({ cls := "LeaningStreetModel", name := "allStanding", desc := "()I" } : Jvm.MethodName) prog_18_method_21_code (3 : Nat) (Option.some Jvm.ClassFile.FieldType.int)) ∈ lw_all := lw_g (lw_at lw_m6 94 rfl) rfl
theorem q1373 : (Jvm.Cond.methodLink "LeaningStreetModel" (127 : Nat) ({ cls := "LeaningStreetModel", name := "nextOf", desc := "(III)I" } : Jvm.MethodName)) ∈ lw_all := lw_g (lw_at lw_m6 95 rfl) rfl
theorem q1374 : (Jvm.Cond.privateMethod ({ cls := "LeaningStreetModel", name := "nextOf", desc := "(III)I" } : Jvm.MethodName)) ∈ lw_tbl := lw_at lw_m6 96 rfl
theorem q1375 : (Jvm.Cond.instanceMethod ({ cls := "LeaningStreetModel", name := "nextOf", desc := "(III)I" } : Jvm.MethodName)) ∈ lw_all := lw_g (lw_at lw_m6 97 rfl) rfl
theorem q1376 : (Jvm.Cond.code ({ cls := "LeaningStreetModel", name := "nextOf", desc := "(III)I" } : Jvm.MethodName) prog_18_method_22_code (5 : Nat) (Option.some Jvm.ClassFile.FieldType.int)) ∈ lw_all := lw_g (lw_at lw_m6 98 rfl) rfl
theorem q1377 : (Jvm.Cond.methodLink "LeaningStreetModel" (142 : Nat) ({ cls := "LeaningStreetModel", name := "worth", desc := "(I)I" } : Jvm.MethodName)) ∈ lw_all := lw_g (lw_at lw_m6 99 rfl) rfl
theorem q1378 : (Jvm.Cond.privateMethod ({ cls := "LeaningStreetModel", name := "worth", desc := "(I)I" } : Jvm.MethodName)) ∈ lw_tbl := lw_at lw_m6 100 rfl
theorem q1379 : (Jvm.Cond.instanceMethod ({ cls := "LeaningStreetModel", name := "worth", desc := "(I)I" } : Jvm.MethodName)) ∈ lw_all := lw_g (lw_at lw_m6 101 rfl) rfl
theorem q1380 : (Jvm.Cond.code ({ cls := "LeaningStreetModel", name := "worth", desc := "(I)I" } : Jvm.MethodName) prog_18_method_20_code (3 : Nat) (Option.some Jvm.ClassFile.FieldType.int)) ∈ lw_all := lw_g (lw_at lw_m6 102 rfl) rfl
theorem q1382 : (Jvm.Cond.instanceMethod ({ cls := "LeaningStreetModel", name := "as", desc := "(II)I" } : Jvm.MethodName)) ∈ lw_all := lw_g (lw_at lw_m6 104 rfl) rfl
theorem q1383 : (Jvm.Cond.selects "LeaningStreetModel" ({ cls := "LeaningStreetModel", name := "as", desc := "(II)I" } : Jvm.MethodName) ({ cls := "LeaningStreetModel", name := "as", desc := "(II)I" } : Jvm.MethodName)) ∈ lw_all := lw_g (lw_at lw_m6 105 rfl) rfl
theorem q1384 : (Jvm.Cond.code ({ cls := "LeaningStreetModel", name := "as", desc := "(II)I" } : Jvm.MethodName) prog_18_method_26_code (3 : Nat) (Option.some Jvm.ClassFile.FieldType.int)) ∈ lw_all := lw_g (lw_at lw_m6 106 rfl) rfl
theorem q1385 : (Jvm.Cond.methodLink "LeaningStreetModel" (145 : Nat) ({ cls := "LeaningStreetModel", name := "isOf", desc := "(II)Z" } : Jvm.MethodName)) ∈ lw_all := lw_g (lw_at lw_m6 107 rfl) rfl
theorem q1386 : (Jvm.Cond.static ({ cls := "LeaningStreetModel", name := "isOf", desc := "(II)Z" } : Jvm.MethodName)) ∈ lw_all := lw_g (lw_at lw_m6 108 rfl) rfl
theorem q1387 : (Jvm.Cond.code ({ cls := "LeaningStreetModel", name := "isOf", desc := "(II)Z" } : Jvm.MethodName) prog_18_method_25_code (2 : Nat) (Option.some Jvm.ClassFile.FieldType.boolean)) ∈ lw_all := lw_g (lw_at lw_m6 109 rfl) rfl
theorem q1388 : (Jvm.Cond.constant "LeaningStreetModel" (148 : Nat) (-1000000012 : Int32)) ∈ lw_all := lw_g (lw_at lw_m6 110 rfl) rfl
theorem q1390 : (Jvm.Cond.instanceMethod ({ cls := "LeaningStreetModel", name := "turns", desc := "(II)I" } : Jvm.MethodName)) ∈ lw_all := lw_g (lw_at lw_m6 112 rfl) rfl
theorem q1391 : (Jvm.Cond.selects "LeaningStreetModel" ({ cls := "LeaningStreetModel", name := "turns", desc := "(II)I" } : Jvm.MethodName) ({ cls := "LeaningStreetModel", name := "turns", desc := "(II)I" } : Jvm.MethodName)) ∈ lw_all := lw_g (lw_at lw_m6 113 rfl) rfl
theorem q1392 : (Jvm.Cond.code ({ cls := "LeaningStreetModel", name := "turns", desc := "(II)I" } : Jvm.MethodName) prog_18_method_27_code (3 : Nat) (Option.some Jvm.ClassFile.FieldType.int)) ∈ lw_all := lw_g (lw_at lw_m6 114 rfl) rfl
theorem q1393 : (Jvm.Cond.methodLink "LeaningStreetModel" (149 : Nat) ({ cls := "LeaningStreetModel", name := "becomes", desc := "(II)I" } : Jvm.MethodName)) ∈ lw_all := lw_g (lw_at lw_m6 115 rfl) rfl
theorem q1394 : (Jvm.Cond.privateMethod ({ cls := "LeaningStreetModel", name := "becomes", desc := "(II)I" } : Jvm.MethodName)) ∈ lw_tbl := lw_at lw_m6 116 rfl
theorem q1395 : (Jvm.Cond.instanceMethod ({ cls := "LeaningStreetModel", name := "becomes", desc := "(II)I" } : Jvm.MethodName)) ∈ lw_all := lw_g (lw_at lw_m6 117 rfl) rfl
theorem q1396 : (Jvm.Cond.code ({ cls := "LeaningStreetModel", name := "becomes", desc := "(II)I" } : Jvm.MethodName) prog_18_method_7_code (4 : Nat) (Option.some Jvm.ClassFile.FieldType.int)) ∈ lw_all := lw_g (lw_at lw_m6 118 rfl) rfl
theorem q1398 : (Jvm.Cond.instanceMethod ({ cls := "LeaningStreetModel", name := "set", desc := "(III)I" } : Jvm.MethodName)) ∈ lw_all := lw_g (lw_at lw_m6 120 rfl) rfl
theorem q1399 : (Jvm.Cond.selects "LeaningStreetModel" ({ cls := "LeaningStreetModel", name := "set", desc := "(III)I" } : Jvm.MethodName) ({ cls := "LeaningStreetModel", name := "set", desc := "(III)I" } : Jvm.MethodName)) ∈ lw_all := lw_g (lw_at lw_m6 121 rfl) rfl
theorem q1400 : (Jvm.Cond.code ({ cls := "LeaningStreetModel", name := "set", desc := "(III)I" } : Jvm.MethodName) prog_18_method_28_code (4 : Nat) (Option.some Jvm.ClassFile.FieldType.int)) ∈ lw_all := lw_g (lw_at lw_m6 122 rfl) rfl
theorem q1402 : (Jvm.Cond.instanceMethod ({ cls := "LeaningStreetModel", name := "fells", desc := "(I)I" } : Jvm.MethodName)) ∈ lw_all := lw_g (lw_at lw_m6 124 rfl) rfl
theorem q1403 : (Jvm.Cond.selects "LeaningStreetModel" ({ cls := "LeaningStreetModel", name := "fells", desc := "(I)I" } : Jvm.MethodName) ({ cls := "LeaningStreetModel", name := "fells", desc := "(I)I" } : Jvm.MethodName)) ∈ lw_all := lw_g (lw_at lw_m6 125 rfl) rfl
theorem q1404 : (Jvm.Cond.code ({ cls := "LeaningStreetModel", name := "fells", desc := "(I)I" } : Jvm.MethodName) prog_18_method_30_code (2 : Nat) (Option.some Jvm.ClassFile.FieldType.int)) ∈ lw_all := lw_g (lw_at lw_m6 126 rfl) rfl
theorem q1405 : (Jvm.Cond.constant "LeaningStreetModel" (152 : Nat) (-1000000002 : Int32)) ∈ lw_all := lw_g (lw_at lw_m6 127 rfl) rfl
theorem q1406 : (Jvm.Cond.methodLink "LeaningStreetModel" (153 : Nat) ({ cls := "LeaningStreetModel", name := "falls", desc := "(I)V" } : Jvm.MethodName)) ∈ lw_all := lw_g (lw_at lw_m6 128 rfl) rfl
theorem q1407 : (Jvm.Cond.privateMethod ({ cls := "LeaningStreetModel", name := "falls", desc := "(I)V" } : Jvm.MethodName)) ∈ lw_tbl := lw_at lw_m6 129 rfl
theorem q1408 : (Jvm.Cond.instanceMethod ({ cls := "LeaningStreetModel", name := "falls", desc := "(I)V" } : Jvm.MethodName)) ∈ lw_all := lw_g (lw_at lw_m6 130 rfl) rfl
theorem q1409 : (Jvm.Cond.code ({ cls := "LeaningStreetModel", name := "falls", desc := "(I)V" } : Jvm.MethodName) prog_18_method_29_code (2 : Nat) (Option.none : Option Jvm.ClassFile.FieldType)) ∈ lw_all := lw_g (lw_at lw_m6 131 rfl) rfl
theorem q1410 : (Jvm.Cond.methodLink "LeaningStreetModel" (157 : Nat) ({ cls := "LeaningStreetModel", name := "manyIn", desc := "(I)I" } : Jvm.MethodName)) ∈ lw_all := lw_g (lw_at lw_m6 132 rfl) rfl
theorem q1411 : (Jvm.Cond.static ({ cls := "LeaningStreetModel", name := "manyIn", desc := "(I)I" } : Jvm.MethodName)) ∈ lw_all := lw_g (lw_at lw_m6 133 rfl) rfl
theorem q1412 : (Jvm.Cond.code ({ cls := "LeaningStreetModel", name := "manyIn", desc := "(I)I" } : Jvm.MethodName) prog_18_method_6_code (3 : Nat) (Option.some Jvm.ClassFile.FieldType.int)) ∈ lw_all := lw_g (lw_at lw_m6 134 rfl) rfl
theorem q1414 : (Jvm.Cond.instanceMethod ({ cls := "LeaningStreetModel", name := "raises", desc := "(I)I" } : Jvm.MethodName)) ∈ lw_all := lw_g (lw_at lw_m6 136 rfl) rfl
theorem q1415 : (Jvm.Cond.selects "LeaningStreetModel" ({ cls := "LeaningStreetModel", name := "raises", desc := "(I)I" } : Jvm.MethodName) ({ cls := "LeaningStreetModel", name := "raises", desc := "(I)I" } : Jvm.MethodName)) ∈ lw_all := lw_g (lw_at lw_m6 137 rfl) rfl
theorem q1416 : (Jvm.Cond.code ({ cls := "LeaningStreetModel", name := "raises", desc := "(I)I" } : Jvm.MethodName) prog_18_method_31_code (2 : Nat) (Option.some Jvm.ClassFile.FieldType.int)) ∈ lw_all := lw_g (lw_at lw_m6 138 rfl) rfl
theorem q1418 : (Jvm.Cond.instanceMethod ({ cls := "LeaningStreetModel", name := "snow", desc := "(I)I" } : Jvm.MethodName)) ∈ lw_all := lw_g (lw_at lw_m6 140 rfl) rfl
theorem q1419 : (Jvm.Cond.selects "LeaningStreetModel" ({ cls := "LeaningStreetModel", name := "snow", desc := "(I)I" } : Jvm.MethodName) ({ cls := "LeaningStreetModel", name := "snow", desc := "(I)I" } : Jvm.MethodName)) ∈ lw_all := lw_g (lw_at lw_m6 141 rfl) rfl
theorem q1420 : (Jvm.Cond.code ({ cls := "LeaningStreetModel", name := "snow", desc := "(I)I" } : Jvm.MethodName) prog_18_method_32_code (2 : Nat) (Option.some Jvm.ClassFile.FieldType.int)) ∈ lw_all := lw_g (lw_at lw_m6 142 rfl) rfl
theorem q1421 : (Jvm.Cond.constantLong "LeaningStreetModel" (160 : Nat) (-20 : Int64)) ∈ lw_all := lw_g (lw_at lw_m6 143 rfl) rfl
theorem q1422 : (Jvm.Cond.constantLong "LeaningStreetModel" (162 : Nat) (20 : Int64)) ∈ lw_all := lw_g (lw_at lw_m6 144 rfl) rfl
theorem q1424 : (Jvm.Cond.instanceMethod ({ cls := "LeaningStreetModel", name := "deal", desc := "(I)I" } : Jvm.MethodName)) ∈ lw_all := lw_g (lw_at lw_m6 146 rfl) rfl
theorem q1425 : (Jvm.Cond.selects "LeaningStreetModel" ({ cls := "LeaningStreetModel", name := "deal", desc := "(I)I" } : Jvm.MethodName) ({ cls := "LeaningStreetModel", name := "deal", desc := "(I)I" } : Jvm.MethodName)) ∈ lw_all := lw_g (lw_at lw_m6 147 rfl) rfl
theorem q1426 : (Jvm.Cond.code ({ cls := "LeaningStreetModel", name := "deal", desc := "(I)I" } : Jvm.MethodName) prog_18_method_33_code (6 : Nat) (Option.some Jvm.ClassFile.FieldType.int)) ∈ lw_all := lw_g (lw_at lw_m6 148 rfl) rfl
theorem q1427 : (Jvm.Cond.methodLink "LeaningStreetModel" (164 : Nat) ({ cls := "LeaningStreetModel", name := "drawn", desc := "()I" } : Jvm.MethodName)) ∈ lw_all := lw_g (lw_at lw_m6 149 rfl) rfl
theorem q1428 : (Jvm.Cond.privateMethod ({ cls := "LeaningStreetModel", name := "drawn", desc := "()I" } : Jvm.MethodName)) ∈ lw_tbl := lw_at lw_m6 150 rfl
theorem q1429 : (Jvm.Cond.instanceMethod ({ cls := "LeaningStreetModel", name := "drawn", desc := "()I" } : Jvm.MethodName)) ∈ lw_all := lw_g (lw_at lw_m6 151 rfl) rfl
theorem q1430 : (Jvm.Cond.code ({ cls := "LeaningStreetModel", name := "drawn", desc := "()I" } : Jvm.MethodName) prog_18_method_14_code (1 : Nat) (Option.some Jvm.ClassFile.FieldType.int)) ∈ lw_all := lw_g (lw_at lw_m6 152 rfl) rfl
theorem q1431 : (Jvm.Cond.constant "LeaningStreetModel" (79 : Nat) (1103515245 : Int32)) ∈ lw_all := lw_g (lw_at lw_m6 153 rfl) rfl
theorem q1433 : (Jvm.Cond.instanceMethod ({ cls := "LeaningStreetModel", name := "seed", desc := "(I)I" } : Jvm.MethodName)) ∈ lw_all := lw_g (lw_at lw_m6 155 rfl) rfl
theorem q1434 : (Jvm.Cond.selects "LeaningStreetModel" ({ cls := "LeaningStreetModel", name := "seed", desc := "(I)I" } : Jvm.MethodName) ({ cls := "LeaningStreetModel", name := "seed", desc := "(I)I" } : Jvm.MethodName)) ∈ lw_all := lw_g (lw_at lw_m6 156 rfl) rfl
theorem q1435 : (Jvm.Cond.code ({ cls := "LeaningStreetModel", name := "seed", desc := "(I)I" } : Jvm.MethodName) prog_18_method_34_code (2 : Nat) (Option.some Jvm.ClassFile.FieldType.int)) ∈ lw_all := lw_g (lw_at lw_m6 157 rfl) rfl
theorem q1437 : (Jvm.Cond.instanceMethod ({ cls := "LeaningStreetModel", name := "days", desc := "(I)I" } : Jvm.MethodName)) ∈ lw_all := lw_g (lw_at lw_m6 159 rfl) rfl
theorem q1438 : (Jvm.Cond.selects "LeaningStreetModel" ({ cls := "LeaningStreetModel", name := "days", desc := "(I)I" } : Jvm.MethodName) ({ cls := "LeaningStreetModel", name := "days", desc := "(I)I" } : Jvm.MethodName)) ∈ lw_all := lw_g (lw_at lw_m6 160 rfl) rfl
theorem q1439 : (Jvm.Cond.code ({ cls := "LeaningStreetModel", name := "days", desc := "(I)I" } : Jvm.MethodName) prog_18_method_37_code (4 : Nat) (Option.some Jvm.ClassFile.FieldType.int)) ∈ lw_all := lw_g (lw_at lw_m6 161 rfl) rfl
theorem q1440 : (Jvm.Cond.constantLong "LeaningStreetModel" (170 : Nat) (100 : Int64)) ∈ lw_all := lw_g (lw_at lw_m6 162 rfl) rfl
theorem q1441 : (Jvm.Cond.methodLink "LeaningStreetModel" (172 : Nat) ({ cls := "LeaningStreetModel", name := "goesOn", desc := "()V" } : Jvm.MethodName)) ∈ lw_all := lw_g (lw_at lw_m6 163 rfl) rfl
theorem q1442 : (Jvm.Cond.privateMethod ({ cls := "LeaningStreetModel", name := "goesOn", desc := "()V" } : Jvm.MethodName)) ∈ lw_tbl := lw_at lw_m6 164 rfl
theorem q1443 : (Jvm.Cond.instanceMethod ({ cls := "LeaningStreetModel", name := "goesOn", desc := "()V" } : Jvm.MethodName)) ∈ lw_all := lw_g (lw_at lw_m6 165 rfl) rfl
theorem q1444 : (Jvm.Cond.code ({ cls := "LeaningStreetModel", name := "goesOn", desc := "()V" } : Jvm.MethodName) prog_18_method_36_code (5 : Nat) (Option.none : Option Jvm.ClassFile.FieldType)) ∈ lw_all := lw_g (lw_at lw_m6 166 rfl) rfl
theorem q1445 : (Jvm.Cond.methodLink "LeaningStreetModel" (167 : Nat) ({ cls := "LeaningStreetModel", name := "fallsWith", desc := "(II)Z" } : Jvm.MethodName)) ∈ lw_all := lw_g (lw_at lw_m6 167 rfl) rfl
theorem q1446 : (Jvm.Cond.privateMethod ({ cls := "LeaningStreetModel", name := "fallsWith", desc := "(II)Z" } : Jvm.MethodName)) ∈ lw_tbl := lw_at lw_m6 168 rfl
theorem q1447 : (Jvm.Cond.instanceMethod ({ cls := "LeaningStreetModel", name := "fallsWith", desc := "(II)Z" } : Jvm.MethodName)) ∈ lw_all := lw_g (lw_at lw_m6 169 rfl) rfl
theorem q1448 : (Jvm.Cond.code ({ cls := "LeaningStreetModel", name := "fallsWith", desc := "(II)Z" } : Jvm.MethodName) prog_18_method_35_code (5 : Nat) (Option.some Jvm.ClassFile.FieldType.boolean)) ∈ lw_all := lw_g (lw_at lw_m6 170 rfl) rfl
theorem q1450 : (Jvm.Cond.instanceMethod ({ cls := "LeaningStreetModel", name := "street", desc := "(I)I" } : Jvm.MethodName)) ∈ lw_all := lw_g (lw_at lw_m6 172 rfl) rfl
theorem q1451 : (Jvm.Cond.selects "LeaningStreetModel" ({ cls := "LeaningStreetModel", name := "street", desc := "(I)I" } : Jvm.MethodName) ({ cls := "LeaningStreetModel", name := "street", desc := "(I)I" } : Jvm.MethodName)) ∈ lw_all := lw_g (lw_at lw_m6 173 rfl) rfl
theorem q1452 : (Jvm.Cond.code ({ cls := "LeaningStreetModel", name := "street", desc := "(I)I" } : Jvm.MethodName) prog_18_method_40_code (2 : Nat) (Option.some Jvm.ClassFile.FieldType.int)) ∈ lw_all := lw_g (lw_at lw_m6 174 rfl) rfl
theorem q1453 : (Jvm.Cond.methodLink "LeaningStreetModel" (175 : Nat) ({ cls := "LeaningStreetModel", name := "allOf", desc := "(I)I" } : Jvm.MethodName)) ∈ lw_all := lw_g (lw_at lw_m6 175 rfl) rfl
theorem q1454 : (Jvm.Cond.privateMethod ({ cls := "LeaningStreetModel", name := "allOf", desc := "(I)I" } : Jvm.MethodName)) ∈ lw_tbl := lw_at lw_m6 176 rfl
theorem q1455 : (Jvm.Cond.instanceMethod ({ cls := "LeaningStreetModel", name := "allOf", desc := "(I)I" } : Jvm.MethodName)) ∈ lw_all := lw_g (lw_at lw_m6 177 rfl) rfl
theorem q1456 : (Jvm.Cond.code ({ cls := "LeaningStreetModel", name := "allOf", desc := "(I)I" } : Jvm.MethodName) prog_18_method_38_code (4 : Nat) (Option.some Jvm.ClassFile.FieldType.int)) ∈ lw_all := lw_g (lw_at lw_m6 178 rfl) rfl
theorem q1457 : (Jvm.Cond.methodLink "LeaningStreetModel" (178 : Nat) ({ cls := "LeaningStreetModel", name := "looseOnes", desc := "()I" } : Jvm.MethodName)) ∈ lw_all := lw_g (lw_at lw_m6 179 rfl) rfl
theorem q1458 : (Jvm.Cond.privateMethod ({ cls := "LeaningStreetModel", name := "looseOnes", desc := "()I" } : Jvm.MethodName)) ∈ lw_tbl := lw_at lw_m6 180 rfl
theorem q1459 : (Jvm.Cond.instanceMethod ({ cls := "LeaningStreetModel", name := "looseOnes", desc := "()I" } : Jvm.MethodName)) ∈ lw_all := lw_g (lw_at lw_m6 181 rfl) rfl
theorem q1460 : (Jvm.Cond.code ({ cls := "LeaningStreetModel", name := "looseOnes", desc := "()I" } : Jvm.MethodName) prog_18_method_39_code (3 : Nat) (Option.some Jvm.ClassFile.FieldType.int)) ∈ lw_all := lw_g (lw_at lw_m6 182 rfl) rfl
theorem q1462 : (Jvm.Cond.instanceMethod ({ cls := "LeaningStreetModel", name := "behind", desc := "(II)I" } : Jvm.MethodName)) ∈ lw_all := lw_g (lw_at lw_m6 184 rfl) rfl
theorem q1463 : (Jvm.Cond.selects "LeaningStreetModel" ({ cls := "LeaningStreetModel", name := "behind", desc := "(II)I" } : Jvm.MethodName) ({ cls := "LeaningStreetModel", name := "behind", desc := "(II)I" } : Jvm.MethodName)) ∈ lw_all := lw_g (lw_at lw_m6 185 rfl) rfl
theorem q1464 : (Jvm.Cond.code ({ cls := "LeaningStreetModel", name := "behind", desc := "(II)I" } : Jvm.MethodName) prog_18_method_44_code (4 : Nat) (Option.some Jvm.ClassFile.FieldType.int)) ∈ lw_all := lw_g (lw_at lw_m6 186 rfl) rfl
theorem q1465 : (Jvm.Cond.methodLink "LeaningStreetModel" (181 : Nat) ({ cls := "LeaningStreetModel", name := "laysBy", desc := "()V" } : Jvm.MethodName)) ∈ lw_all := lw_g (lw_at lw_m6 187 rfl) rfl
theorem q1466 : (Jvm.Cond.privateMethod ({ cls := "LeaningStreetModel", name := "laysBy", desc := "()V" } : Jvm.MethodName)) ∈ lw_tbl := lw_at lw_m6 188 rfl
theorem q1467 : (Jvm.Cond.instanceMethod ({ cls := "LeaningStreetModel", name := "laysBy", desc := "()V" } : Jvm.MethodName)) ∈ lw_all := lw_g (lw_at lw_m6 189 rfl) rfl
theorem q1468 : (Jvm.Cond.code ({ cls := "LeaningStreetModel", name := "laysBy", desc := "()V" } : Jvm.MethodName) prog_18_method_41_code (2 : Nat) (Option.none : Option Jvm.ClassFile.FieldType)) ∈ lw_all := lw_g (lw_at lw_m6 190 rfl) rfl
theorem q1469 : (Jvm.Cond.methodLink "LeaningStreetModel" (184 : Nat) ({ cls := "LeaningStreetModel", name := "goesOnMany", desc := "(I)V" } : Jvm.MethodName)) ∈ lw_all := lw_g (lw_at lw_m6 191 rfl) rfl
theorem q1470 : (Jvm.Cond.privateMethod ({ cls := "LeaningStreetModel", name := "goesOnMany", desc := "(I)V" } : Jvm.MethodName)) ∈ lw_tbl := lw_at lw_m6 192 rfl
theorem q1471 : (Jvm.Cond.instanceMethod ({ cls := "LeaningStreetModel", name := "goesOnMany", desc := "(I)V" } : Jvm.MethodName)) ∈ lw_all := lw_g (lw_at lw_m6 193 rfl) rfl
theorem q1472 : (Jvm.Cond.code ({ cls := "LeaningStreetModel", name := "goesOnMany", desc := "(I)V" } : Jvm.MethodName) prog_18_method_43_code (3 : Nat) (Option.none : Option Jvm.ClassFile.FieldType)) ∈ lw_all := lw_g (lw_at lw_m6 194 rfl) rfl
theorem q1473 : (Jvm.Cond.methodLink "LeaningStreetModel" (187 : Nat) ({ cls := "LeaningStreetModel", name := "laysBack", desc := "()V" } : Jvm.MethodName)) ∈ lw_all := lw_g (lw_at lw_m6 195 rfl) rfl
theorem q1474 : (Jvm.Cond.privateMethod ({ cls := "LeaningStreetModel", name := "laysBack", desc := "()V" } : Jvm.MethodName)) ∈ lw_tbl := lw_at lw_m6 196 rfl
theorem q1475 : (Jvm.Cond.instanceMethod ({ cls := "LeaningStreetModel", name := "laysBack", desc := "()V" } : Jvm.MethodName)) ∈ lw_all := lw_g (lw_at lw_m6 197 rfl) rfl
theorem q1476 : (Jvm.Cond.code ({ cls := "LeaningStreetModel", name := "laysBack", desc := "()V" } : Jvm.MethodName) prog_18_method_42_code (2 : Nat) (Option.none : Option Jvm.ClassFile.FieldType)) ∈ lw_all := lw_g (lw_at lw_m6 198 rfl) rfl
theorem q1478 : (Jvm.Cond.instanceMethod ({ cls := "LeaningStreetModel", name := "lasts", desc := "()I" } : Jvm.MethodName)) ∈ lw_all := lw_g (lw_at lw_m6 200 rfl) rfl
theorem q1479 : (Jvm.Cond.selects "LeaningStreetModel" ({ cls := "LeaningStreetModel", name := "lasts", desc := "()I" } : Jvm.MethodName) ({ cls := "LeaningStreetModel", name := "lasts", desc := "()I" } : Jvm.MethodName)) ∈ lw_all := lw_g (lw_at lw_m6 201 rfl) rfl
theorem q1480 : (Jvm.Cond.code ({ cls := "LeaningStreetModel", name := "lasts", desc := "()I" } : Jvm.MethodName) prog_18_method_45_code (4 : Nat) (Option.some Jvm.ClassFile.FieldType.int)) ∈ lw_all := lw_g (lw_at lw_m6 202 rfl) rfl
theorem q1481 : (Jvm.Cond.methodLink "LeaningStreetModel" (190 : Nat) ({ cls := "LeaningStreetModel", name := "orNone", desc := "(I)I" } : Jvm.MethodName)) ∈ lw_all := lw_g (lw_at lw_m6 203 rfl) rfl
theorem q1482 : (Jvm.Cond.static ({ cls := "LeaningStreetModel", name := "orNone", desc := "(I)I" } : Jvm.MethodName)) ∈ lw_all := lw_g (lw_at lw_m6 204 rfl) rfl
theorem q1483 : (Jvm.Cond.code ({ cls := "LeaningStreetModel", name := "orNone", desc := "(I)I" } : Jvm.MethodName) prog_18_method_3_code (1 : Nat) (Option.some Jvm.ClassFile.FieldType.int)) ∈ lw_all := lw_g (lw_at lw_m6 205 rfl) rfl
theorem q1484 : (Jvm.Cond.constant "LeaningStreetModel" (70 : Nat) (-1000000005 : Int32)) ∈ lw_all := lw_g (lw_at lw_m6 206 rfl) rfl
theorem q1486 : (Jvm.Cond.instanceMethod ({ cls := "LeaningStreetModel", name := "taken", desc := "(II)I" } : Jvm.MethodName)) ∈ lw_all := lw_g (lw_at lw_m6 208 rfl) rfl
theorem q1487 : (Jvm.Cond.selects "LeaningStreetModel" ({ cls := "LeaningStreetModel", name := "taken", desc := "(II)I" } : Jvm.MethodName) ({ cls := "LeaningStreetModel", name := "taken", desc := "(II)I" } : Jvm.MethodName)) ∈ lw_all := lw_g (lw_at lw_m6 209 rfl) rfl
theorem q1488 : (Jvm.Cond.code ({ cls := "LeaningStreetModel", name := "taken", desc := "(II)I" } : Jvm.MethodName) prog_18_method_46_code (5 : Nat) (Option.some Jvm.ClassFile.FieldType.int)) ∈ lw_all := lw_g (lw_at lw_m6 210 rfl) rfl
theorem q1489 : (Jvm.Cond.constantLong "LeaningStreetModel" (193 : Nat) (60 : Int64)) ∈ lw_all := lw_g (lw_at lw_m6 211 rfl) rfl
theorem q1491 : (Jvm.Cond.instanceMethod ({ cls := "LeaningStreetModel", name := "propped", desc := "(I)I" } : Jvm.MethodName)) ∈ lw_all := lw_g (lw_at lw_m6 213 rfl) rfl
theorem q1492 : (Jvm.Cond.selects "LeaningStreetModel" ({ cls := "LeaningStreetModel", name := "propped", desc := "(I)I" } : Jvm.MethodName) ({ cls := "LeaningStreetModel", name := "propped", desc := "(I)I" } : Jvm.MethodName)) ∈ lw_all := lw_g (lw_at lw_m6 214 rfl) rfl
theorem q1493 : (Jvm.Cond.code ({ cls := "LeaningStreetModel", name := "propped", desc := "(I)I" } : Jvm.MethodName) prog_18_method_48_code (4 : Nat) (Option.some Jvm.ClassFile.FieldType.int)) ∈ lw_all := lw_g (lw_at lw_m6 215 rfl) rfl
theorem q1494 : (Jvm.Cond.constantLong "LeaningStreetModel" (195 : Nat) (40 : Int64)) ∈ lw_all := lw_g (lw_at lw_m6 216 rfl) rfl
theorem q1495 : (Jvm.Cond.methodLink "LeaningStreetModel" (197 : Nat) ({ cls := "LeaningStreetModel", name := "keeps", desc := "(I)Z" } : Jvm.MethodName)) ∈ lw_all := lw_g (lw_at lw_m6 217 rfl) rfl
theorem q1496 : (Jvm.Cond.privateMethod ({ cls := "LeaningStreetModel", name := "keeps", desc := "(I)Z" } : Jvm.MethodName)) ∈ lw_tbl := lw_at lw_m6 218 rfl
theorem q1497 : (Jvm.Cond.instanceMethod ({ cls := "LeaningStreetModel", name := "keeps", desc := "(I)Z" } : Jvm.MethodName)) ∈ lw_all := lw_g (lw_at lw_m6 219 rfl) rfl
theorem q1498 : (Jvm.Cond.code ({ cls := "LeaningStreetModel", name := "keeps", desc := "(I)Z" } : Jvm.MethodName) prog_18_method_47_code (4 : Nat) (Option.some Jvm.ClassFile.FieldType.boolean)) ∈ lw_all := lw_g (lw_at lw_m6 220 rfl) rfl
theorem q1500 : (Jvm.Cond.instanceMethod ({ cls := "LeaningStreetModel", name := "wall", desc := "(II)I" } : Jvm.MethodName)) ∈ lw_all := lw_g (lw_at lw_m6 222 rfl) rfl
theorem q1501 : (Jvm.Cond.selects "LeaningStreetModel" ({ cls := "LeaningStreetModel", name := "wall", desc := "(II)I" } : Jvm.MethodName) ({ cls := "LeaningStreetModel", name := "wall", desc := "(II)I" } : Jvm.MethodName)) ∈ lw_all := lw_g (lw_at lw_m6 223 rfl) rfl
theorem q1502 : (Jvm.Cond.code ({ cls := "LeaningStreetModel", name := "wall", desc := "(II)I" } : Jvm.MethodName) prog_18_method_49_code (7 : Nat) (Option.some Jvm.ClassFile.FieldType.int)) ∈ lw_all := lw_g (lw_at lw_m6 224 rfl) rfl
theorem q1504 : (Jvm.Cond.instanceMethod ({ cls := "LeaningStreetModel", name := "snows", desc := "(I)I" } : Jvm.MethodName)) ∈ lw_all := lw_g (lw_at lw_m6 226 rfl) rfl
theorem q1505 : (Jvm.Cond.selects "LeaningStreetModel" ({ cls := "LeaningStreetModel", name := "snows", desc := "(I)I" } : Jvm.MethodName) ({ cls := "LeaningStreetModel", name := "snows", desc := "(I)I" } : Jvm.MethodName)) ∈ lw_all := lw_g (lw_at lw_m6 227 rfl) rfl
theorem q1506 : (Jvm.Cond.code ({ cls := "LeaningStreetModel", name := "snows", desc := "(I)I" } : Jvm.MethodName) prog_18_method_50_code (3 : Nat) (Option.some Jvm.ClassFile.FieldType.int)) ∈ lw_all := lw_g (lw_at lw_m6 228 rfl) rfl
theorem q1508 : (Jvm.Cond.instanceMethod ({ cls := "LeaningStreetModel", name := "fee", desc := "()I" } : Jvm.MethodName)) ∈ lw_all := lw_g (lw_at lw_m6 230 rfl) rfl
theorem q1509 : (Jvm.Cond.selects "LeaningStreetModel" ({ cls := "LeaningStreetModel", name := "fee", desc := "()I" } : Jvm.MethodName) ({ cls := "LeaningStreetModel", name := "fee", desc := "()I" } : Jvm.MethodName)) ∈ lw_all := lw_g (lw_at lw_m6 231 rfl) rfl
theorem q1510 : (Jvm.Cond.code ({ cls := "LeaningStreetModel", name := "fee", desc := "()I" } : Jvm.MethodName) prog_18_method_51_code (2 : Nat) (Option.some Jvm.ClassFile.FieldType.int)) ∈ lw_all := lw_g (lw_at lw_m6 232 rfl) rfl
theorem q1512 : (Jvm.Cond.instanceMethod ({ cls := "LeaningStreetModel", name := "fine", desc := "(I)I" } : Jvm.MethodName)) ∈ lw_all := lw_g (lw_at lw_m6 234 rfl) rfl
theorem q1513 : (Jvm.Cond.selects "LeaningStreetModel" ({ cls := "LeaningStreetModel", name := "fine", desc := "(I)I" } : Jvm.MethodName) ({ cls := "LeaningStreetModel", name := "fine", desc := "(I)I" } : Jvm.MethodName)) ∈ lw_all := lw_g (lw_at lw_m6 235 rfl) rfl
theorem q1514 : (Jvm.Cond.code ({ cls := "LeaningStreetModel", name := "fine", desc := "(I)I" } : Jvm.MethodName) prog_18_method_52_code (3 : Nat) (Option.some Jvm.ClassFile.FieldType.int)) ∈ lw_all := lw_g (lw_at lw_m6 236 rfl) rfl
theorem q1516 : (Jvm.Cond.instanceMethod ({ cls := "LeaningStreetModel", name := "feed", desc := "(III)I" } : Jvm.MethodName)) ∈ lw_all := lw_g (lw_at lw_m6 238 rfl) rfl
theorem q1517 : (Jvm.Cond.selects "LeaningStreetModel" ({ cls := "LeaningStreetModel", name := "feed", desc := "(III)I" } : Jvm.MethodName) ({ cls := "LeaningStreetModel", name := "feed", desc := "(III)I" } : Jvm.MethodName)) ∈ lw_all := lw_g (lw_at lw_m6 239 rfl) rfl
theorem q1518 : (Jvm.Cond.code ({ cls := "LeaningStreetModel", name := "feed", desc := "(III)I" } : Jvm.MethodName) prog_18_method_53_code (6 : Nat) (Option.some Jvm.ClassFile.FieldType.int)) ∈ lw_all := lw_g (lw_at lw_m7 0 rfl) rfl
theorem q1520 : (Jvm.Cond.instanceMethod ({ cls := "LeaningStreetModel", name := "trim", desc := "(I)I" } : Jvm.MethodName)) ∈ lw_all := lw_g (lw_at lw_m7 2 rfl) rfl
theorem q1521 : (Jvm.Cond.selects "LeaningStreetModel" ({ cls := "LeaningStreetModel", name := "trim", desc := "(I)I" } : Jvm.MethodName) ({ cls := "LeaningStreetModel", name := "trim", desc := "(I)I" } : Jvm.MethodName)) ∈ lw_all := lw_g (lw_at lw_m7 3 rfl) rfl
theorem q1522 : (Jvm.Cond.code ({ cls := "LeaningStreetModel", name := "trim", desc := "(I)I" } : Jvm.MethodName) prog_18_method_54_code (2 : Nat) (Option.some Jvm.ClassFile.FieldType.int)) ∈ lw_all := lw_g (lw_at lw_m7 4 rfl) rfl
theorem q1524 : (Jvm.Cond.instanceMethod ({ cls := "LeaningStreetModel", name := "text", desc := "()I" } : Jvm.MethodName)) ∈ lw_all := lw_g (lw_at lw_m7 6 rfl) rfl
theorem q1525 : (Jvm.Cond.selects "LeaningStreetModel" ({ cls := "LeaningStreetModel", name := "text", desc := "()I" } : Jvm.MethodName) ({ cls := "LeaningStreetModel", name := "text", desc := "()I" } : Jvm.MethodName)) ∈ lw_all := lw_g (lw_at lw_m7 7 rfl) rfl
theorem q1526 : (Jvm.Cond.code ({ cls := "LeaningStreetModel", name := "text", desc := "()I" } : Jvm.MethodName) prog_18_method_70_code (3 : Nat) (Option.some Jvm.ClassFile.FieldType.int)) ∈ lw_all := lw_g (lw_at lw_m7 8 rfl) rfl
theorem q1527 : (Jvm.Cond.methodLink "LeaningStreetModel" (289 : Nat) ({ cls := "LeaningStreetModel", name := "parse", desc := "()I" } : Jvm.MethodName)) ∈ lw_all := lw_g (lw_at lw_m7 9 rfl) rfl
theorem q1528 : (Jvm.Cond.privateMethod ({ cls := "LeaningStreetModel", name := "parse", desc := "()I" } : Jvm.MethodName)) ∈ lw_tbl := lw_at lw_m7 10 rfl
theorem q1529 : (Jvm.Cond.instanceMethod ({ cls := "LeaningStreetModel", name := "parse", desc := "()I" } : Jvm.MethodName)) ∈ lw_all := lw_g (lw_at lw_m7 11 rfl) rfl
theorem q1530 : (Jvm.Cond.code ({ cls := "LeaningStreetModel", name := "parse", desc := "()I" } : Jvm.MethodName) prog_18_method_69_code (3 : Nat) (Option.some Jvm.ClassFile.FieldType.int)) ∈ lw_all := lw_g (lw_at lw_m7 12 rfl) rfl
theorem q1531 : (Jvm.Cond.methodLink "LeaningStreetModel" (249 : Nat) ({ cls := "LeaningStreetModel", name := "nextToken", desc := "()V" } : Jvm.MethodName)) ∈ lw_all := lw_g (lw_at lw_m7 13 rfl) rfl
theorem q1532 : (Jvm.Cond.privateMethod ({ cls := "LeaningStreetModel", name := "nextToken", desc := "()V" } : Jvm.MethodName)) ∈ lw_tbl := lw_at lw_m7 14 rfl
theorem q1533 : (Jvm.Cond.instanceMethod ({ cls := "LeaningStreetModel", name := "nextToken", desc := "()V" } : Jvm.MethodName)) ∈ lw_all := lw_g (lw_at lw_m7 15 rfl) rfl
theorem q1534 : (Jvm.Cond.code ({ cls := "LeaningStreetModel", name := "nextToken", desc := "()V" } : Jvm.MethodName) prog_18_method_57_code (3 : Nat) (Option.none : Option Jvm.ClassFile.FieldType)) ∈ lw_all := lw_g (lw_at lw_m7 16 rfl) rfl
theorem q1535 : (Jvm.Cond.methodLink "LeaningStreetModel" (221 : Nat) ({ cls := "LeaningStreetModel", name := "isLetter", desc := "(I)Z" } : Jvm.MethodName)) ∈ lw_all := lw_g (lw_at lw_m7 17 rfl) rfl
theorem q1536 : (Jvm.Cond.privateMethod ({ cls := "LeaningStreetModel", name := "isLetter", desc := "(I)Z" } : Jvm.MethodName)) ∈ lw_tbl := lw_at lw_m7 18 rfl
theorem q1537 : (Jvm.Cond.instanceMethod ({ cls := "LeaningStreetModel", name := "isLetter", desc := "(I)Z" } : Jvm.MethodName)) ∈ lw_all := lw_g (lw_at lw_m7 19 rfl) rfl
theorem q1538 : (Jvm.Cond.code ({ cls := "LeaningStreetModel", name := "isLetter", desc := "(I)Z" } : Jvm.MethodName) prog_18_method_55_code (2 : Nat) (Option.some Jvm.ClassFile.FieldType.boolean)) ∈ lw_all := lw_g (lw_at lw_m7 20 rfl) rfl
theorem q1539 : (Jvm.Cond.constantLong "LeaningStreetModel" (204 : Nat) (97 : Int64)) ∈ lw_all := lw_g (lw_at lw_m7 21 rfl) rfl
theorem q1540 : (Jvm.Cond.constantLong "LeaningStreetModel" (206 : Nat) (122 : Int64)) ∈ lw_all := lw_g (lw_at lw_m7 22 rfl) rfl
theorem q1541 : (Jvm.Cond.methodLink "LeaningStreetModel" (227 : Nat) ({ cls := "LeaningStreetModel", name := "isDigit", desc := "(I)Z" } : Jvm.MethodName)) ∈ lw_all := lw_g (lw_at lw_m7 23 rfl) rfl
theorem q1542 : (Jvm.Cond.privateMethod ({ cls := "LeaningStreetModel", name := "isDigit", desc := "(I)Z" } : Jvm.MethodName)) ∈ lw_tbl := lw_at lw_m7 24 rfl
theorem q1543 : (Jvm.Cond.instanceMethod ({ cls := "LeaningStreetModel", name := "isDigit", desc := "(I)Z" } : Jvm.MethodName)) ∈ lw_all := lw_g (lw_at lw_m7 25 rfl) rfl
theorem q1544 : (Jvm.Cond.code ({ cls := "LeaningStreetModel", name := "isDigit", desc := "(I)Z" } : Jvm.MethodName) prog_18_method_56_code (2 : Nat) (Option.some Jvm.ClassFile.FieldType.boolean)) ∈ lw_all := lw_g (lw_at lw_m7 26 rfl) rfl
theorem q1545 : (Jvm.Cond.constantLong "LeaningStreetModel" (208 : Nat) (48 : Int64)) ∈ lw_all := lw_g (lw_at lw_m7 27 rfl) rfl
theorem q1546 : (Jvm.Cond.constantLong "LeaningStreetModel" (210 : Nat) (57 : Int64)) ∈ lw_all := lw_g (lw_at lw_m7 28 rfl) rfl
theorem q1547 : (Jvm.Cond.methodLink "LeaningStreetModel" (286 : Nat) ({ cls := "LeaningStreetModel", name := "key", desc := "()I" } : Jvm.MethodName)) ∈ lw_all := lw_g (lw_at lw_m7 29 rfl) rfl
theorem q1548 : (Jvm.Cond.privateMethod ({ cls := "LeaningStreetModel", name := "key", desc := "()I" } : Jvm.MethodName)) ∈ lw_tbl := lw_at lw_m7 30 rfl
theorem q1549 : (Jvm.Cond.instanceMethod ({ cls := "LeaningStreetModel", name := "key", desc := "()I" } : Jvm.MethodName)) ∈ lw_all := lw_g (lw_at lw_m7 31 rfl) rfl
theorem q1550 : (Jvm.Cond.code ({ cls := "LeaningStreetModel", name := "key", desc := "()I" } : Jvm.MethodName) prog_18_method_60_code (1 : Nat) (Option.some Jvm.ClassFile.FieldType.int)) ∈ lw_all := lw_g (lw_at lw_m7 32 rfl) rfl
theorem q1551 : (Jvm.Cond.methodLink "LeaningStreetModel" (233 : Nat) ({ cls := "LeaningStreetModel", name := "isWordAt", desc := "(IIII)Z" } : Jvm.MethodName)) ∈ lw_all := lw_g (lw_at lw_m7 33 rfl) rfl
theorem q1552 : (Jvm.Cond.privateMethod ({ cls := "LeaningStreetModel", name := "isWordAt", desc := "(IIII)Z" } : Jvm.MethodName)) ∈ lw_tbl := lw_at lw_m7 34 rfl
theorem q1553 : (Jvm.Cond.instanceMethod ({ cls := "LeaningStreetModel", name := "isWordAt", desc := "(IIII)Z" } : Jvm.MethodName)) ∈ lw_all := lw_g (lw_at lw_m7 35 rfl) rfl
theorem q1554 : (Jvm.Cond.code ({ cls := "LeaningStreetModel", name := "isWordAt", desc := "(IIII)Z" } : Jvm.MethodName) prog_18_method_59_code (6 : Nat) (Option.some Jvm.ClassFile.FieldType.boolean)) ∈ lw_all := lw_g (lw_at lw_m7 36 rfl) rfl
theorem q1555 : (Jvm.Cond.methodLink "LeaningStreetModel" (280 : Nat) ({ cls := "LeaningStreetModel", name := "either", desc := "(I)Z" } : Jvm.MethodName)) ∈ lw_all := lw_g (lw_at lw_m7 37 rfl) rfl
theorem q1556 : (Jvm.Cond.privateMethod ({ cls := "LeaningStreetModel", name := "either", desc := "(I)Z" } : Jvm.MethodName)) ∈ lw_tbl := lw_at lw_m7 38 rfl
theorem q1557 : (Jvm.Cond.instanceMethod ({ cls := "LeaningStreetModel", name := "either", desc := "(I)Z" } : Jvm.MethodName)) ∈ lw_all := lw_g (lw_at lw_m7 39 rfl) rfl
theorem q1558 : (Jvm.Cond.code ({ cls := "LeaningStreetModel", name := "either", desc := "(I)Z" } : Jvm.MethodName) prog_18_method_63_code (2 : Nat) (Option.some Jvm.ClassFile.FieldType.boolean)) ∈ lw_all := lw_g (lw_at lw_m7 40 rfl) rfl
theorem q1559 : (Jvm.Cond.methodLink "LeaningStreetModel" (243 : Nat) ({ cls := "LeaningStreetModel", name := "both", desc := "(I)Z" } : Jvm.MethodName)) ∈ lw_all := lw_g (lw_at lw_m7 41 rfl) rfl
theorem q1560 : (Jvm.Cond.privateMethod ({ cls := "LeaningStreetModel", name := "both", desc := "(I)Z" } : Jvm.MethodName)) ∈ lw_tbl := lw_at lw_m7 42 rfl
theorem q1561 : (Jvm.Cond.instanceMethod ({ cls := "LeaningStreetModel", name := "both", desc := "(I)Z" } : Jvm.MethodName)) ∈ lw_all := lw_g (lw_at lw_m7 43 rfl) rfl
theorem q1562 : (Jvm.Cond.code ({ cls := "LeaningStreetModel", name := "both", desc := "(I)Z" } : Jvm.MethodName) prog_18_method_64_code (2 : Nat) (Option.some Jvm.ClassFile.FieldType.boolean)) ∈ lw_all := lw_g (lw_at lw_m7 44 rfl) rfl
theorem q1563 : (Jvm.Cond.methodLink "LeaningStreetModel" (256 : Nat) ({ cls := "LeaningStreetModel", name := "test", desc := "(I)Z" } : Jvm.MethodName)) ∈ lw_all := lw_g (lw_at lw_m7 45 rfl) rfl
theorem q1564 : (Jvm.Cond.privateMethod ({ cls := "LeaningStreetModel", name := "test", desc := "(I)Z" } : Jvm.MethodName)) ∈ lw_tbl := lw_at lw_m7 46 rfl
theorem q1565 : (Jvm.Cond.instanceMethod ({ cls := "LeaningStreetModel", name := "test", desc := "(I)Z" } : Jvm.MethodName)) ∈ lw_all := lw_g (lw_at lw_m7 47 rfl) rfl
theorem q1566 : (Jvm.Cond.code ({ cls := "LeaningStreetModel", name := "test", desc := "(I)Z" } : Jvm.MethodName) prog_18_method_65_code (3 : Nat) (Option.some Jvm.ClassFile.FieldType.boolean)) ∈ lw_all := lw_g (lw_at lw_m7 48 rfl) rfl
theorem q1567 : (Jvm.Cond.methodLink "LeaningStreetModel" (259 : Nat) ({ cls := "LeaningStreetModel", name := "sum", desc := "(I)Z" } : Jvm.MethodName)) ∈ lw_all := lw_g (lw_at lw_m7 49 rfl) rfl
theorem q1568 : (Jvm.Cond.privateMethod ({ cls := "LeaningStreetModel", name := "sum", desc := "(I)Z" } : Jvm.MethodName)) ∈ lw_tbl := lw_at lw_m7 50 rfl
theorem q1569 : (Jvm.Cond.instanceMethod ({ cls := "LeaningStreetModel", name := "sum", desc := "(I)Z" } : Jvm.MethodName)) ∈ lw_all := lw_g (lw_at lw_m7 51 rfl) rfl
theorem q1570 : (Jvm.Cond.code ({ cls := "LeaningStreetModel", name := "sum", desc := "(I)Z" } : Jvm.MethodName) prog_18_method_66_code (3 : Nat) (Option.some Jvm.ClassFile.FieldType.boolean)) ∈ lw_all := lw_g (lw_at lw_m7 52 rfl) rfl
theorem q1571 : (Jvm.Cond.methodLink "LeaningStreetModel" (262 : Nat) ({ cls := "LeaningStreetModel", name := "term", desc := "(I)Z" } : Jvm.MethodName)) ∈ lw_all := lw_g (lw_at lw_m7 53 rfl) rfl
theorem q1572 : (Jvm.Cond.privateMethod ({ cls := "LeaningStreetModel", name := "term", desc := "(I)Z" } : Jvm.MethodName)) ∈ lw_tbl := lw_at lw_m7 54 rfl
theorem q1573 : (Jvm.Cond.instanceMethod ({ cls := "LeaningStreetModel", name := "term", desc := "(I)Z" } : Jvm.MethodName)) ∈ lw_all := lw_g (lw_at lw_m7 55 rfl) rfl
theorem q1574 : (Jvm.Cond.code ({ cls := "LeaningStreetModel", name := "term", desc := "(I)Z" } : Jvm.MethodName) prog_18_method_67_code (3 : Nat) (Option.some Jvm.ClassFile.FieldType.boolean)) ∈ lw_all := lw_g (lw_at lw_m7 56 rfl) rfl
theorem q1575 : (Jvm.Cond.methodLink "LeaningStreetModel" (265 : Nat) ({ cls := "LeaningStreetModel", name := "part0", desc := "(I)Z" } : Jvm.MethodName)) ∈ lw_all := lw_g (lw_at lw_m7 57 rfl) rfl
theorem q1576 : (Jvm.Cond.privateMethod ({ cls := "LeaningStreetModel", name := "part0", desc := "(I)Z" } : Jvm.MethodName)) ∈ lw_tbl := lw_at lw_m7 58 rfl
theorem q1577 : (Jvm.Cond.instanceMethod ({ cls := "LeaningStreetModel", name := "part0", desc := "(I)Z" } : Jvm.MethodName)) ∈ lw_all := lw_g (lw_at lw_m7 59 rfl) rfl
theorem q1578 : (Jvm.Cond.code ({ cls := "LeaningStreetModel", name := "part0", desc := "(I)Z" } : Jvm.MethodName) prog_18_method_68_code (2 : Nat) (Option.some Jvm.ClassFile.FieldType.boolean)) ∈ lw_all := lw_g (lw_at lw_m7 60 rfl) rfl
theorem q1579 : (Jvm.Cond.methodLink "LeaningStreetModel" (252 : Nat) ({ cls := "LeaningStreetModel", name := "step", desc := "(II)V" } : Jvm.MethodName)) ∈ lw_all := lw_g (lw_at lw_m7 61 rfl) rfl
theorem q1580 : (Jvm.Cond.privateMethod ({ cls := "LeaningStreetModel", name := "step", desc := "(II)V" } : Jvm.MethodName)) ∈ lw_tbl := lw_at lw_m7 62 rfl
theorem q1581 : (Jvm.Cond.instanceMethod ({ cls := "LeaningStreetModel", name := "step", desc := "(II)V" } : Jvm.MethodName)) ∈ lw_all := lw_g (lw_at lw_m7 63 rfl) rfl
theorem q1582 : (Jvm.Cond.code ({ cls := "LeaningStreetModel", name := "step", desc := "(II)V" } : Jvm.MethodName) prog_18_method_62_code (3 : Nat) (Option.none : Option Jvm.ClassFile.FieldType)) ∈ lw_all := lw_g (lw_at lw_m7 64 rfl) rfl
theorem q1583 : (Jvm.Cond.methodLink "LeaningStreetModel" (271 : Nat) ({ cls := "LeaningStreetModel", name := "isName", desc := "(II)Z" } : Jvm.MethodName)) ∈ lw_all := lw_g (lw_at lw_m7 65 rfl) rfl
theorem q1584 : (Jvm.Cond.static ({ cls := "LeaningStreetModel", name := "isName", desc := "(II)Z" } : Jvm.MethodName)) ∈ lw_all := lw_g (lw_at lw_m7 66 rfl) rfl
theorem q1585 : (Jvm.Cond.code ({ cls := "LeaningStreetModel", name := "isName", desc := "(II)Z" } : Jvm.MethodName) prog_18_method_61_code (2 : Nat) (Option.some Jvm.ClassFile.FieldType.boolean)) ∈ lw_all := lw_g (lw_at lw_m7 67 rfl) rfl
theorem q1586 : (Jvm.Cond.methodLink "LeaningStreetModel" (246 : Nat) ({ cls := "LeaningStreetModel", name := "isSign", desc := "(I)Z" } : Jvm.MethodName)) ∈ lw_all := lw_g (lw_at lw_m7 68 rfl) rfl
theorem q1587 : (Jvm.Cond.privateMethod ({ cls := "LeaningStreetModel", name := "isSign", desc := "(I)Z" } : Jvm.MethodName)) ∈ lw_tbl := lw_at lw_m7 69 rfl
theorem q1588 : (Jvm.Cond.instanceMethod ({ cls := "LeaningStreetModel", name := "isSign", desc := "(I)Z" } : Jvm.MethodName)) ∈ lw_all := lw_g (lw_at lw_m7 70 rfl) rfl
theorem q1589 : (Jvm.Cond.code ({ cls := "LeaningStreetModel", name := "isSign", desc := "(I)Z" } : Jvm.MethodName) prog_18_method_58_code (2 : Nat) (Option.some Jvm.ClassFile.FieldType.boolean)) ∈ lw_all := lw_g (lw_at lw_m7 71 rfl) rfl
theorem q1591 : (Jvm.Cond.instanceMethod ({ cls := "LeaningStreetModel", name := "textTold", desc := "(II)I" } : Jvm.MethodName)) ∈ lw_all := lw_g (lw_at lw_m7 73 rfl) rfl
theorem q1592 : (Jvm.Cond.selects "LeaningStreetModel" ({ cls := "LeaningStreetModel", name := "textTold", desc := "(II)I" } : Jvm.MethodName) ({ cls := "LeaningStreetModel", name := "textTold", desc := "(II)I" } : Jvm.MethodName)) ∈ lw_all := lw_g (lw_at lw_m7 74 rfl) rfl
theorem q1593 : (Jvm.Cond.code ({ cls := "LeaningStreetModel", name := "textTold", desc := "(II)I" } : Jvm.MethodName) prog_18_method_71_code (3 : Nat) (Option.some Jvm.ClassFile.FieldType.int)) ∈ lw_all := lw_g (lw_at lw_m7 75 rfl) rfl
theorem q1594 : (Jvm.Cond.methodLink "LeaningStreetModel" (292 : Nat) ({ cls := "LeaningStreetModel", name := "isText", desc := "(I)Z" } : Jvm.MethodName)) ∈ lw_all := lw_g (lw_at lw_m7 76 rfl) rfl
theorem q1595 : (Jvm.Cond.privateMethod ({ cls := "LeaningStreetModel", name := "isText", desc := "(I)Z" } : Jvm.MethodName)) ∈ lw_tbl := lw_at lw_m7 77 rfl
theorem q1596 : (Jvm.Cond.instanceMethod ({ cls := "LeaningStreetModel", name := "isText", desc := "(I)Z" } : Jvm.MethodName)) ∈ lw_all := lw_g (lw_at lw_m7 78 rfl) rfl
theorem q1597 : (Jvm.Cond.code ({ cls := "LeaningStreetModel", name := "isText", desc := "(I)Z" } : Jvm.MethodName) prog_18_method_13_code (2 : Nat) (Option.some Jvm.ClassFile.FieldType.boolean)) ∈ lw_all := lw_g (lw_at lw_m7 79 rfl) rfl
theorem q1599 : (Jvm.Cond.instanceMethod ({ cls := "LeaningStreetModel", name := "why", desc := "(I)I" } : Jvm.MethodName)) ∈ lw_all := lw_g (lw_at lw_m7 81 rfl) rfl
theorem q1600 : (Jvm.Cond.selects "LeaningStreetModel" ({ cls := "LeaningStreetModel", name := "why", desc := "(I)I" } : Jvm.MethodName) ({ cls := "LeaningStreetModel", name := "why", desc := "(I)I" } : Jvm.MethodName)) ∈ lw_all := lw_g (lw_at lw_m7 82 rfl) rfl
theorem q1601 : (Jvm.Cond.code ({ cls := "LeaningStreetModel", name := "why", desc := "(I)I" } : Jvm.MethodName) prog_18_method_73_code (2 : Nat) (Option.some Jvm.ClassFile.FieldType.int)) ∈ lw_all := lw_g (lw_at lw_m7 83 rfl) rfl
theorem q1602 : (Jvm.Cond.constantLong "LeaningStreetModel" (295 : Nat) (2 : Int64)) ∈ lw_all := lw_g (lw_at lw_m7 84 rfl) rfl
theorem q1604 : (Jvm.Cond.instanceMethod ({ cls := "LeaningStreetModel", name := "sheet", desc := "(III)I" } : Jvm.MethodName)) ∈ lw_all := lw_g (lw_at lw_m7 86 rfl) rfl
theorem q1605 : (Jvm.Cond.selects "LeaningStreetModel" ({ cls := "LeaningStreetModel", name := "sheet", desc := "(III)I" } : Jvm.MethodName) ({ cls := "LeaningStreetModel", name := "sheet", desc := "(III)I" } : Jvm.MethodName)) ∈ lw_all := lw_g (lw_at lw_m7 87 rfl) rfl
theorem q1606 : (Jvm.Cond.code ({ cls := "LeaningStreetModel", name := "sheet", desc := "(III)I" } : Jvm.MethodName) prog_18_method_77_code (5 : Nat) (Option.some Jvm.ClassFile.FieldType.int)) ∈ lw_all := lw_g (lw_at lw_m7 88 rfl) rfl
theorem q1607 : (Jvm.Cond.methodLink "LeaningStreetModel" (302 : Nat) ({ cls := "LeaningStreetModel", name := "isSheet", desc := "(I)Z" } : Jvm.MethodName)) ∈ lw_all := lw_g (lw_at lw_m7 89 rfl) rfl
theorem q1608 : (Jvm.Cond.static ({ cls := "LeaningStreetModel", name := "isSheet", desc := "(I)Z" } : Jvm.MethodName)) ∈ lw_all := lw_g (lw_at lw_m7 90 rfl) rfl
theorem q1609 : (Jvm.Cond.code ({ cls := "LeaningStreetModel", name := "isSheet", desc := "(I)Z" } : Jvm.MethodName) prog_18_method_76_code (1 : Nat) (Option.some Jvm.ClassFile.FieldType.boolean)) ∈ lw_all := lw_g (lw_at lw_m7 91 rfl) rfl
theorem q1610 : (Jvm.Cond.constantLong "LeaningStreetModel" (300 : Nat) (3 : Int64)) ∈ lw_all := lw_g (lw_at lw_m7 92 rfl) rfl
theorem q1611 : (Jvm.Cond.constantLong "LeaningStreetModel" (305 : Nat) (-1 : Int64)) ∈ lw_all := lw_g (lw_at lw_m7 93 rfl) rfl
theorem q1612 : (Jvm.Cond.constant "LeaningStreetModel" (307 : Nat) (-1000000014 : Int32)) ∈ lw_all := lw_g (lw_at lw_m7 94 rfl) rfl
theorem q1614 : (Jvm.Cond.instanceMethod ({ cls := "LeaningStreetModel", name := "mark", desc := "(III)I" } : Jvm.MethodName)) ∈ lw_all := lw_g (lw_at lw_m7 96 rfl) rfl
theorem q1615 : (Jvm.Cond.selects "LeaningStreetModel" ({ cls := "LeaningStreetModel", name := "mark", desc := "(III)I" } : Jvm.MethodName) ({ cls := "LeaningStreetModel", name := "mark", desc := "(III)I" } : Jvm.MethodName)) ∈ lw_all := lw_g (lw_at lw_m7 97 rfl) rfl
theorem q1616 : (Jvm.Cond.code ({ cls := "LeaningStreetModel", name := "mark", desc := "(III)I" } : Jvm.MethodName) prog_18_method_78_code (4 : Nat) (Option.some Jvm.ClassFile.FieldType.int)) ∈ lw_all := lw_g (lw_at lw_m7 98 rfl) rfl
theorem q1617 : (Jvm.Cond.constant "LeaningStreetModel" (308 : Nat) (-1000000011 : Int32)) ∈ lw_all := lw_g (lw_at lw_m7 99 rfl) rfl
theorem q1618 : (Jvm.Cond.constant "LeaningStreetModel" (309 : Nat) (-1000000013 : Int32)) ∈ lw_all := lw_g (lw_at lw_m7 100 rfl) rfl
theorem q1619 : (Jvm.Cond.constantLong "LeaningStreetModel" (310 : Nat) (-99999 : Int64)) ∈ lw_all := lw_g (lw_at lw_m7 101 rfl) rfl
theorem q1620 : (Jvm.Cond.constantLong "LeaningStreetModel" (312 : Nat) (99999 : Int64)) ∈ lw_all := lw_g (lw_at lw_m7 102 rfl) rfl
theorem q1622 : (Jvm.Cond.instanceMethod ({ cls := "LeaningStreetModel", name := "pour", desc := "(I)I" } : Jvm.MethodName)) ∈ lw_all := lw_g (lw_at lw_m7 104 rfl) rfl
theorem q1623 : (Jvm.Cond.selects "LeaningStreetModel" ({ cls := "LeaningStreetModel", name := "pour", desc := "(I)I" } : Jvm.MethodName) ({ cls := "LeaningStreetModel", name := "pour", desc := "(I)I" } : Jvm.MethodName)) ∈ lw_all := lw_g (lw_at lw_m7 105 rfl) rfl
theorem q1624 : (Jvm.Cond.code ({ cls := "LeaningStreetModel", name := "pour", desc := "(I)I" } : Jvm.MethodName) prog_18_method_79_code (6 : Nat) (Option.some Jvm.ClassFile.FieldType.int)) ∈ lw_all := lw_g (lw_at lw_m7 106 rfl) rfl
theorem q1626 : (Jvm.Cond.instanceMethod ({ cls := "LeaningStreetModel", name := "reads", desc := "(I)I" } : Jvm.MethodName)) ∈ lw_all := lw_g (lw_at lw_m7 108 rfl) rfl
theorem q1627 : (Jvm.Cond.selects "LeaningStreetModel" ({ cls := "LeaningStreetModel", name := "reads", desc := "(I)I" } : Jvm.MethodName) ({ cls := "LeaningStreetModel", name := "reads", desc := "(I)I" } : Jvm.MethodName)) ∈ lw_all := lw_g (lw_at lw_m7 109 rfl) rfl
theorem q1628 : (Jvm.Cond.code ({ cls := "LeaningStreetModel", name := "reads", desc := "(I)I" } : Jvm.MethodName) prog_18_method_80_code (4 : Nat) (Option.some Jvm.ClassFile.FieldType.int)) ∈ lw_all := lw_g (lw_at lw_m7 110 rfl) rfl
theorem q1630 : (Jvm.Cond.instanceMethod ({ cls := "LeaningStreetModel", name := "began", desc := "(III)I" } : Jvm.MethodName)) ∈ lw_all := lw_g (lw_at lw_m7 112 rfl) rfl
theorem q1631 : (Jvm.Cond.selects "LeaningStreetModel" ({ cls := "LeaningStreetModel", name := "began", desc := "(III)I" } : Jvm.MethodName) ({ cls := "LeaningStreetModel", name := "began", desc := "(III)I" } : Jvm.MethodName)) ∈ lw_all := lw_g (lw_at lw_m7 113 rfl) rfl
theorem q1632 : (Jvm.Cond.code ({ cls := "LeaningStreetModel", name := "began", desc := "(III)I" } : Jvm.MethodName) prog_18_method_81_code (10 : Nat) (Option.some Jvm.ClassFile.FieldType.int)) ∈ lw_all := lw_g (lw_at lw_m7 114 rfl) rfl
theorem q1634 : (Jvm.Cond.instanceMethod ({ cls := "LeaningStreetModel", name := "copy", desc := "(IIIII)I" } : Jvm.MethodName)) ∈ lw_all := lw_g (lw_at lw_m7 116 rfl) rfl
theorem q1635 : (Jvm.Cond.selects "LeaningStreetModel" ({ cls := "LeaningStreetModel", name := "copy", desc := "(IIIII)I" } : Jvm.MethodName) ({ cls := "LeaningStreetModel", name := "copy", desc := "(IIIII)I" } : Jvm.MethodName)) ∈ lw_all := lw_g (lw_at lw_m7 117 rfl) rfl
theorem q1636 : (Jvm.Cond.code ({ cls := "LeaningStreetModel", name := "copy", desc := "(IIIII)I" } : Jvm.MethodName) prog_18_method_82_code (7 : Nat) (Option.some Jvm.ClassFile.FieldType.int)) ∈ lw_all := lw_g (lw_at lw_m7 118 rfl) rfl
theorem q1638 : (Jvm.Cond.instanceMethod ({ cls := "LeaningStreetModel", name := "lay", desc := "(III)I" } : Jvm.MethodName)) ∈ lw_all := lw_g (lw_at lw_m7 120 rfl) rfl
theorem q1639 : (Jvm.Cond.selects "LeaningStreetModel" ({ cls := "LeaningStreetModel", name := "lay", desc := "(III)I" } : Jvm.MethodName) ({ cls := "LeaningStreetModel", name := "lay", desc := "(III)I" } : Jvm.MethodName)) ∈ lw_all := lw_g (lw_at lw_m7 121 rfl) rfl
theorem q1640 : (Jvm.Cond.code ({ cls := "LeaningStreetModel", name := "lay", desc := "(III)I" } : Jvm.MethodName) prog_18_method_84_code (7 : Nat) (Option.some Jvm.ClassFile.FieldType.int)) ∈ lw_all := lw_g (lw_at lw_m7 122 rfl) rfl
theorem q1641 : (Jvm.Cond.methodLink "LeaningStreetModel" (316 : Nat) ({ cls := "LeaningStreetModel", name := "isSlot", desc := "(I)Z" } : Jvm.MethodName)) ∈ lw_all := lw_g (lw_at lw_m7 123 rfl) rfl
theorem q1642 : (Jvm.Cond.static ({ cls := "LeaningStreetModel", name := "isSlot", desc := "(I)Z" } : Jvm.MethodName)) ∈ lw_all := lw_g (lw_at lw_m7 124 rfl) rfl
theorem q1643 : (Jvm.Cond.code ({ cls := "LeaningStreetModel", name := "isSlot", desc := "(I)Z" } : Jvm.MethodName) prog_18_method_83_code (1 : Nat) (Option.some Jvm.ClassFile.FieldType.boolean)) ∈ lw_all := lw_g (lw_at lw_m7 125 rfl) rfl
theorem q1644 : (Jvm.Cond.constantLong "LeaningStreetModel" (314 : Nat) (4 : Int64)) ∈ lw_all := lw_g (lw_at lw_m7 126 rfl) rfl
theorem q1646 : (Jvm.Cond.instanceMethod ({ cls := "LeaningStreetModel", name := "ask", desc := "(II)I" } : Jvm.MethodName)) ∈ lw_all := lw_g (lw_at lw_m7 128 rfl) rfl
theorem q1647 : (Jvm.Cond.selects "LeaningStreetModel" ({ cls := "LeaningStreetModel", name := "ask", desc := "(II)I" } : Jvm.MethodName) ({ cls := "LeaningStreetModel", name := "ask", desc := "(II)I" } : Jvm.MethodName)) ∈ lw_all := lw_g (lw_at lw_m7 129 rfl) rfl
theorem q1648 : (Jvm.Cond.code ({ cls := "LeaningStreetModel", name := "ask", desc := "(II)I" } : Jvm.MethodName) prog_18_method_85_code (3 : Nat) (Option.some Jvm.ClassFile.FieldType.int)) ∈ lw_all := lw_g (lw_at lw_m7 130 rfl) rfl
theorem q1650 : (Jvm.Cond.instanceMethod ({ cls := "LeaningStreetModel", name := "item", desc := "(II)I" } : Jvm.MethodName)) ∈ lw_all := lw_g (lw_at lw_m7 132 rfl) rfl
theorem q1651 : (Jvm.Cond.selects "LeaningStreetModel" ({ cls := "LeaningStreetModel", name := "item", desc := "(II)I" } : Jvm.MethodName) ({ cls := "LeaningStreetModel", name := "item", desc := "(II)I" } : Jvm.MethodName)) ∈ lw_all := lw_g (lw_at lw_m7 133 rfl) rfl
theorem q1652 : (Jvm.Cond.code ({ cls := "LeaningStreetModel", name := "item", desc := "(II)I" } : Jvm.MethodName) prog_18_method_86_code (4 : Nat) (Option.some Jvm.ClassFile.FieldType.int)) ∈ lw_all := lw_g (lw_at lw_m7 134 rfl) rfl
theorem q1654 : (Jvm.Cond.instanceMethod ({ cls := "LeaningStreetModel", name := "rest", desc := "(II)I" } : Jvm.MethodName)) ∈ lw_all := lw_g (lw_at lw_m7 136 rfl) rfl
theorem q1655 : (Jvm.Cond.selects "LeaningStreetModel" ({ cls := "LeaningStreetModel", name := "rest", desc := "(II)I" } : Jvm.MethodName) ({ cls := "LeaningStreetModel", name := "rest", desc := "(II)I" } : Jvm.MethodName)) ∈ lw_all := lw_g (lw_at lw_m7 137 rfl) rfl
theorem q1656 : (Jvm.Cond.code ({ cls := "LeaningStreetModel", name := "rest", desc := "(II)I" } : Jvm.MethodName) prog_18_method_87_code (3 : Nat) (Option.some Jvm.ClassFile.FieldType.int)) ∈ lw_all := lw_g (lw_at lw_m7 138 rfl) rfl
theorem q1658 : (Jvm.Cond.instanceMethod ({ cls := "LeaningStreetModel", name := "tell", desc := "(I)I" } : Jvm.MethodName)) ∈ lw_all := lw_g (lw_at lw_m7 140 rfl) rfl
theorem q1659 : (Jvm.Cond.selects "LeaningStreetModel" ({ cls := "LeaningStreetModel", name := "tell", desc := "(I)I" } : Jvm.MethodName) ({ cls := "LeaningStreetModel", name := "tell", desc := "(I)I" } : Jvm.MethodName)) ∈ lw_all := lw_g (lw_at lw_m7 141 rfl) rfl
theorem q1660 : (Jvm.Cond.code ({ cls := "LeaningStreetModel", name := "tell", desc := "(I)I" } : Jvm.MethodName) prog_18_method_88_code (2 : Nat) (Option.some Jvm.ClassFile.FieldType.int)) ∈ lw_all := lw_g (lw_at lw_m7 142 rfl) rfl
theorem q1662 : (Jvm.Cond.instanceMethod ({ cls := "LeaningStreetModel", name := "check", desc := "(I)I" } : Jvm.MethodName)) ∈ lw_all := lw_g (lw_at lw_m7 144 rfl) rfl
theorem q1663 : (Jvm.Cond.selects "LeaningStreetModel" ({ cls := "LeaningStreetModel", name := "check", desc := "(I)I" } : Jvm.MethodName) ({ cls := "LeaningStreetModel", name := "check", desc := "(I)I" } : Jvm.MethodName)) ∈ lw_all := lw_g (lw_at lw_m7 145 rfl) rfl
theorem q1664 : (Jvm.Cond.code ({ cls := "LeaningStreetModel", name := "check", desc := "(I)I" } : Jvm.MethodName) prog_18_method_90_code (5 : Nat) (Option.some Jvm.ClassFile.FieldType.int)) ∈ lw_all := lw_g (lw_at lw_m7 146 rfl) rfl
theorem q1665 : (Jvm.Cond.constantLong "LeaningStreetModel" (322 : Nat) (30 : Int64)) ∈ lw_all := lw_g (lw_at lw_m7 147 rfl) rfl
theorem q1666 : (Jvm.Cond.methodLink "LeaningStreetModel" (328 : Nat) ({ cls := "LeaningStreetModel", name := "setAside", desc := "([I[I)V" } : Jvm.MethodName)) ∈ lw_all := lw_g (lw_at lw_m7 148 rfl) rfl
theorem q1667 : (Jvm.Cond.privateMethod ({ cls := "LeaningStreetModel", name := "setAside", desc := "([I[I)V" } : Jvm.MethodName)) ∈ lw_tbl := lw_at lw_m7 149 rfl
theorem q1668 : (Jvm.Cond.instanceMethod ({ cls := "LeaningStreetModel", name := "setAside", desc := "([I[I)V" } : Jvm.MethodName)) ∈ lw_all := lw_g (lw_at lw_m7 150 rfl) rfl
theorem q1669 : (Jvm.Cond.code ({ cls := "LeaningStreetModel", name := "setAside", desc := "([I[I)V" } : Jvm.MethodName) prog_18_method_89_code (4 : Nat) (Option.none : Option Jvm.ClassFile.FieldType)) ∈ lw_all := lw_g (lw_at lw_m7 151 rfl) rfl
theorem q1671 : (Jvm.Cond.instanceMethod ({ cls := "LeaningStreetModel", name := "keep", desc := "()I" } : Jvm.MethodName)) ∈ lw_all := lw_g (lw_at lw_m7 153 rfl) rfl
theorem q1672 : (Jvm.Cond.selects "LeaningStreetModel" ({ cls := "LeaningStreetModel", name := "keep", desc := "()I" } : Jvm.MethodName) ({ cls := "LeaningStreetModel", name := "keep", desc := "()I" } : Jvm.MethodName)) ∈ lw_all := lw_g (lw_at lw_m7 154 rfl) rfl
theorem q1673 : (Jvm.Cond.code ({ cls := "LeaningStreetModel", name := "keep", desc := "()I" } : Jvm.MethodName) prog_18_method_91_code (1 : Nat) (Option.some Jvm.ClassFile.FieldType.int)) ∈ lw_all := lw_g (lw_at lw_m7 155 rfl) rfl
theorem q1675 : (Jvm.Cond.instanceMethod ({ cls := "LeaningStreetModel", name := "back", desc := "()I" } : Jvm.MethodName)) ∈ lw_all := lw_g (lw_at lw_m7 157 rfl) rfl
theorem q1676 : (Jvm.Cond.selects "LeaningStreetModel" ({ cls := "LeaningStreetModel", name := "back", desc := "()I" } : Jvm.MethodName) ({ cls := "LeaningStreetModel", name := "back", desc := "()I" } : Jvm.MethodName)) ∈ lw_all := lw_g (lw_at lw_m7 158 rfl) rfl
theorem q1677 : (Jvm.Cond.code ({ cls := "LeaningStreetModel", name := "back", desc := "()I" } : Jvm.MethodName) prog_18_method_92_code (1 : Nat) (Option.some Jvm.ClassFile.FieldType.int)) ∈ lw_all := lw_g (lw_at lw_m7 159 rfl) rfl
theorem q1679 : (Jvm.Cond.instanceMethod ({ cls := "LeaningStreetModel", name := "count", desc := "(I)I" } : Jvm.MethodName)) ∈ lw_all := lw_g (lw_at lw_m7 161 rfl) rfl
theorem q1680 : (Jvm.Cond.selects "LeaningStreetModel" ({ cls := "LeaningStreetModel", name := "count", desc := "(I)I" } : Jvm.MethodName) ({ cls := "LeaningStreetModel", name := "count", desc := "(I)I" } : Jvm.MethodName)) ∈ lw_all := lw_g (lw_at lw_m7 162 rfl) rfl
theorem q1681 : (Jvm.Cond.code ({ cls := "LeaningStreetModel", name := "count", desc := "(I)I" } : Jvm.MethodName) prog_18_method_93_code (2 : Nat) (Option.some Jvm.ClassFile.FieldType.int)) ∈ lw_all := lw_g (lw_at lw_m7 163 rfl) rfl
theorem in_X5 : ∀ w ∈ wsX50, w ∈ lw_all := lw_in wsX50 [1227, 1229, 1231, 1233, 1235, 1237, 1239, 1241, 1243, 1245, 1247, 1249, 1251, 1253, 1255, 1257, 1259, 1261, 1263, 1265, 1267, 1269, 1271, 1273, 1275, 1277, 1279, 1281, 1283, 1285, 1287, 1289, 1291] (by decide +kernel) (by decide +kernel)

/-! LeaningStreet$House -/
def RX6 : String := "LeaningStreet$House"
def TX6 : u_T := fun k => match k with
  | 0 => ("LeaningStreet$House", "weight", "I", false)
  | 1 => ("LeaningStreet$House", "lean", "I", false)
  | 2 => ("LeaningStreet$House", "wall", "I", false)
  | 3 => ("LeaningStreet$House", "crack", "I", false)
  | 4 => ("LeaningStreet$House", "prop", "I", false)
  | _ => ("LeaningStreet$House", "stands", "Z", false)
def tyX6 : Nat → FieldType := fun k => match k with
  | 0 => .int
  | 1 => .int
  | 2 => .int
  | 3 => .int
  | 4 => .int
  | _ => .boolean
abbrev wsX60 : List Cond := u_ws RX6 TX6 6
theorem nmX6 : ∀ a, a < 6 → ∀ b, b < 6 → a ≠ b → (TX6 a).2.1 ≠ (TX6 b).2.1 := by decide +kernel
theorem tyX6_ok : ∀ k, k < 6 → parseFieldDescriptor (TX6 k).2.2.1 = some (tyX6 k) := by decide +kernel
theorem q88 : (Jvm.Cond.initialized "LeaningStreet$House") ∈ lw_all := lw_g (lw_at lw_m1 10 rfl) rfl
theorem q543 : (Jvm.Cond.instanceMethod ({ cls := "LeaningStreet$House", name := "<init>", desc := "()V" } : Jvm.MethodName)) ∈ lw_all := lw_g (lw_at lw_m2 225 rfl) rfl
theorem q544 : (Jvm.Cond.code ({ cls := "LeaningStreet$House", name := "<init>", desc := "()V" } : Jvm.MethodName) prog_9_method_1_code (1 : Nat) (Option.none : Option Jvm.ClassFile.FieldType)) ∈ lw_all := lw_g (lw_at lw_m2 226 rfl) rfl
theorem q545 : (Jvm.Cond.methodLink "LeaningStreet$House" (1 : Nat) ({ cls := "java/lang/Object", name := "<init>", desc := "()V" } : Jvm.MethodName)) ∈ lw_all := lw_g (lw_at lw_m2 227 rfl) rfl
theorem q546 : (Jvm.Cond.fieldLink "LeaningStreet$House" (21 : Nat) "LeaningStreet$House" "weight" "I") ∈ lw_all := lw_g (lw_at lw_m2 228 rfl) rfl
theorem q548 : (Jvm.Cond.fieldLink "LeaningStreet$House" (24 : Nat) "LeaningStreet$House" "lean" "I") ∈ lw_all := lw_g (lw_at lw_m2 230 rfl) rfl
theorem q550 : (Jvm.Cond.fieldLink "LeaningStreet$House" (13 : Nat) "LeaningStreet$House" "wall" "I") ∈ lw_all := lw_g (lw_at lw_m2 232 rfl) rfl
theorem q553 : (Jvm.Cond.fieldLink "LeaningStreet$House" (27 : Nat) "LeaningStreet$House" "crack" "I") ∈ lw_all := lw_g (lw_at lw_m2 235 rfl) rfl
theorem q555 : (Jvm.Cond.fieldLink "LeaningStreet$House" (17 : Nat) "LeaningStreet$House" "prop" "I") ∈ lw_all := lw_g (lw_at lw_m2 237 rfl) rfl
theorem q558 : (Jvm.Cond.fieldLink "LeaningStreet$House" (7 : Nat) "LeaningStreet$House" "stands" "Z") ∈ lw_all := lw_g (lw_at lw_m3 0 rfl) rfl
theorem q562 : (Jvm.Cond.soleField "LeaningStreet$House" "weight") ∈ lw_all := lw_g (lw_at lw_m3 4 rfl) rfl
theorem q564 : (Jvm.Cond.soleField "LeaningStreet$House" "lean") ∈ lw_all := lw_g (lw_at lw_m3 6 rfl) rfl
theorem q566 : (Jvm.Cond.soleField "LeaningStreet$House" "wall") ∈ lw_all := lw_g (lw_at lw_m3 8 rfl) rfl
theorem q568 : (Jvm.Cond.soleField "LeaningStreet$House" "crack") ∈ lw_all := lw_g (lw_at lw_m3 10 rfl) rfl
theorem q570 : (Jvm.Cond.soleField "LeaningStreet$House" "prop") ∈ lw_all := lw_g (lw_at lw_m3 12 rfl) rfl
theorem q572 : (Jvm.Cond.soleField "LeaningStreet$House" "stands") ∈ lw_all := lw_g (lw_at lw_m3 14 rfl) rfl
theorem q627 : (Jvm.Cond.instantiable "LeaningStreet$House" (6 : Nat)) ∈ lw_all := lw_g (lw_at lw_m3 69 rfl) rfl
theorem q629 : (Jvm.Cond.lays "LeaningStreet$House" "LeaningStreet$House" "weight" "I") ∈ lw_all := lw_g (lw_at lw_m3 71 rfl) rfl
theorem q630 : (Jvm.Cond.lays "LeaningStreet$House" "LeaningStreet$House" "lean" "I") ∈ lw_all := lw_g (lw_at lw_m3 72 rfl) rfl
theorem q631 : (Jvm.Cond.lays "LeaningStreet$House" "LeaningStreet$House" "wall" "I") ∈ lw_all := lw_g (lw_at lw_m3 73 rfl) rfl
theorem q632 : (Jvm.Cond.lays "LeaningStreet$House" "LeaningStreet$House" "crack" "I") ∈ lw_all := lw_g (lw_at lw_m3 74 rfl) rfl
theorem q633 : (Jvm.Cond.lays "LeaningStreet$House" "LeaningStreet$House" "prop" "I") ∈ lw_all := lw_g (lw_at lw_m3 75 rfl) rfl
theorem q634 : (Jvm.Cond.lays "LeaningStreet$House" "LeaningStreet$House" "stands" "Z") ∈ lw_all := lw_g (lw_at lw_m3 76 rfl) rfl
theorem q635 : (Jvm.Cond.superclass "LeaningStreet$House" "java/lang/Object") ∈ lw_all := lw_g (lw_at lw_m3 77 rfl) rfl
theorem q645 : (Jvm.Cond.instanceMethod ({ cls := "LeaningStreet$House", name := "kind", desc := "()I" } : Jvm.MethodName)) ∈ lw_all := lw_g (lw_at lw_m3 87 rfl) rfl
theorem q646 : (Jvm.Cond.selects "LeaningStreet$House" ({ cls := "LeaningStreet$House", name := "kind", desc := "()I" } : Jvm.MethodName) ({ cls := "LeaningStreet$House", name := "kind", desc := "()I" } : Jvm.MethodName)) ∈ lw_all := lw_g (lw_at lw_m3 88 rfl) rfl
theorem q647 : (Jvm.Cond.sameMethod "LeaningStreet$House" "LeaningStreet$House" "kind" "()I") ∈ lw_all := lw_g (lw_at lw_m3 89 rfl) rfl
theorem q665 : (Jvm.Cond.code ({ cls := "LeaningStreet$House", name := "kind", desc := "()I" } : Jvm.MethodName) prog_9_method_2_code (1 : Nat) (Option.some Jvm.ClassFile.FieldType.int)) ∈ lw_all := lw_g (lw_at lw_m3 107 rfl) rfl
theorem q702 : (Jvm.Cond.unhidden "LeaningStreet$House" "pushes" "(I)I") ∈ lw_tbl := lw_at lw_m3 144 rfl
theorem q713 : (Jvm.Cond.instanceMethod ({ cls := "LeaningStreet$House", name := "bears", desc := "()I" } : Jvm.MethodName)) ∈ lw_all := lw_g (lw_at lw_m3 155 rfl) rfl
theorem q714 : (Jvm.Cond.selects "LeaningStreet$House" ({ cls := "LeaningStreet$House", name := "bears", desc := "()I" } : Jvm.MethodName) ({ cls := "LeaningStreet$House", name := "bears", desc := "()I" } : Jvm.MethodName)) ∈ lw_all := lw_g (lw_at lw_m3 156 rfl) rfl
theorem q715 : (Jvm.Cond.sameMethod "LeaningStreet$House" "LeaningStreet$House" "bears" "()I") ∈ lw_all := lw_g (lw_at lw_m3 157 rfl) rfl
theorem q729 : (Jvm.Cond.code ({ cls := "LeaningStreet$House", name := "bears", desc := "()I" } : Jvm.MethodName) prog_9_method_3_code (1 : Nat) (Option.some Jvm.ClassFile.FieldType.int)) ∈ lw_all := lw_g (lw_at lw_m3 171 rfl) rfl
theorem q743 : (Jvm.Cond.instanceMethod ({ cls := "LeaningStreet$House", name := "worth", desc := "()I" } : Jvm.MethodName)) ∈ lw_all := lw_g (lw_at lw_m3 185 rfl) rfl
theorem q744 : (Jvm.Cond.selects "LeaningStreet$House" ({ cls := "LeaningStreet$House", name := "worth", desc := "()I" } : Jvm.MethodName) ({ cls := "LeaningStreet$House", name := "worth", desc := "()I" } : Jvm.MethodName)) ∈ lw_all := lw_g (lw_at lw_m3 186 rfl) rfl
theorem q745 : (Jvm.Cond.sameMethod "LeaningStreet$House" "LeaningStreet$House" "worth" "()I") ∈ lw_all := lw_g (lw_at lw_m3 187 rfl) rfl
theorem q765 : (Jvm.Cond.code ({ cls := "LeaningStreet$House", name := "worth", desc := "()I" } : Jvm.MethodName) prog_9_method_4_code (1 : Nat) (Option.some Jvm.ClassFile.FieldType.int)) ∈ lw_all := lw_g (lw_at lw_m3 207 rfl) rfl
theorem q806 : (Jvm.Cond.instanceMethod ({ cls := "LeaningStreet$House", name := "takes", desc := "(LLeaningStreet$House;)V" } : Jvm.MethodName)) ∈ lw_all := lw_g (lw_at lw_m4 8 rfl) rfl
theorem q807 : (Jvm.Cond.selects "LeaningStreet$House" ({ cls := "LeaningStreet$House", name := "takes", desc := "(LLeaningStreet$House;)V" } : Jvm.MethodName) ({ cls := "LeaningStreet$House", name := "takes", desc := "(LLeaningStreet$House;)V" } : Jvm.MethodName)) ∈ lw_all := lw_g (lw_at lw_m4 9 rfl) rfl
theorem q808 : (Jvm.Cond.sameMethod "LeaningStreet$House" "LeaningStreet$House" "takes" "(LLeaningStreet$House;)V") ∈ lw_all := lw_g (lw_at lw_m4 10 rfl) rfl
theorem q814 : (Jvm.Cond.code ({ cls := "LeaningStreet$House", name := "takes", desc := "(LLeaningStreet$House;)V" } : Jvm.MethodName) prog_9_method_6_code (2 : Nat) (Option.none : Option Jvm.ClassFile.FieldType)) ∈ lw_all := lw_g (lw_at lw_m4 16 rfl) rfl
theorem q828 : (Jvm.Cond.instanceMethod ({ cls := "LeaningStreet$House", name := "falls", desc := "()V" } : Jvm.MethodName)) ∈ lw_all := lw_g (lw_at lw_m4 30 rfl) rfl
theorem q829 : (Jvm.Cond.selects "LeaningStreet$House" ({ cls := "LeaningStreet$House", name := "falls", desc := "()V" } : Jvm.MethodName) ({ cls := "LeaningStreet$House", name := "falls", desc := "()V" } : Jvm.MethodName)) ∈ lw_all := lw_g (lw_at lw_m4 31 rfl) rfl
theorem q830 : (Jvm.Cond.sameMethod "LeaningStreet$House" "LeaningStreet$House" "falls" "()V") ∈ lw_all := lw_g (lw_at lw_m4 32 rfl) rfl
theorem q836 : (Jvm.Cond.code ({ cls := "LeaningStreet$House", name := "falls", desc := "()V" } : Jvm.MethodName) prog_9_method_8_code (1 : Nat) (Option.none : Option Jvm.ClassFile.FieldType)) ∈ lw_all := lw_g (lw_at lw_m4 38 rfl) rfl
theorem q918 : (Jvm.Cond.instanceMethod ({ cls := "LeaningStreet$House", name := "another", desc := "()LLeaningStreet$House;" } : Jvm.MethodName)) ∈ lw_all := lw_g (lw_at lw_m4 120 rfl) rfl
theorem q919 : (Jvm.Cond.selects "LeaningStreet$House" ({ cls := "LeaningStreet$House", name := "another", desc := "()LLeaningStreet$House;" } : Jvm.MethodName) ({ cls := "LeaningStreet$House", name := "another", desc := "()LLeaningStreet$House;" } : Jvm.MethodName)) ∈ lw_all := lw_g (lw_at lw_m4 121 rfl) rfl
theorem q920 : (Jvm.Cond.sameMethod "LeaningStreet$House" "LeaningStreet$House" "another" "()LLeaningStreet$House;") ∈ lw_all := lw_g (lw_at lw_m4 122 rfl) rfl
theorem q946 : (Jvm.Cond.code ({ cls := "LeaningStreet$House", name := "another", desc := "()LLeaningStreet$House;" } : Jvm.MethodName) prog_9_method_5_code (1 : Nat) (Option.some (Jvm.ClassFile.FieldType.object "LeaningStreet$House"))) ∈ lw_all := lw_g (lw_at lw_m4 148 rfl) rfl
theorem q947 : (Jvm.Cond.classLink "LeaningStreet$House" (8 : Nat) "LeaningStreet$House") ∈ lw_all := lw_g (lw_at lw_m4 149 rfl) rfl
theorem q948 : (Jvm.Cond.methodLink "LeaningStreet$House" (20 : Nat) ({ cls := "LeaningStreet$House", name := "<init>", desc := "()V" } : Jvm.MethodName)) ∈ lw_all := lw_g (lw_at lw_m4 150 rfl) rfl
theorem q1098 : (Jvm.Cond.instanceMethod ({ cls := "LeaningStreet$House", name := "copy", desc := "()LLeaningStreet$House;" } : Jvm.MethodName)) ∈ lw_all := lw_g (lw_at lw_m5 60 rfl) rfl
theorem q1099 : (Jvm.Cond.selects "LeaningStreet$House" ({ cls := "LeaningStreet$House", name := "copy", desc := "()LLeaningStreet$House;" } : Jvm.MethodName) ({ cls := "LeaningStreet$House", name := "copy", desc := "()LLeaningStreet$House;" } : Jvm.MethodName)) ∈ lw_all := lw_g (lw_at lw_m5 61 rfl) rfl
theorem q1100 : (Jvm.Cond.sameMethod "LeaningStreet$House" "LeaningStreet$House" "copy" "()LLeaningStreet$House;") ∈ lw_all := lw_g (lw_at lw_m5 62 rfl) rfl
theorem q1106 : (Jvm.Cond.code ({ cls := "LeaningStreet$House", name := "copy", desc := "()LLeaningStreet$House;" } : Jvm.MethodName) prog_9_method_7_code (2 : Nat) (Option.some (Jvm.ClassFile.FieldType.object "LeaningStreet$House"))) ∈ lw_all := lw_g (lw_at lw_m5 68 rfl) rfl
theorem q1107 : (Jvm.Cond.methodLink "LeaningStreet$House" (30 : Nat) ({ cls := "LeaningStreet$House", name := "another", desc := "()LLeaningStreet$House;" } : Jvm.MethodName)) ∈ lw_all := lw_g (lw_at lw_m5 69 rfl) rfl
theorem q1108 : (Jvm.Cond.methodLink "LeaningStreet$House" (34 : Nat) ({ cls := "LeaningStreet$House", name := "takes", desc := "(LLeaningStreet$House;)V" } : Jvm.MethodName)) ∈ lw_all := lw_g (lw_at lw_m5 70 rfl) rfl
theorem q1148 : (Jvm.Cond.castable "LeaningStreet$House" "LeaningStreet$Bears") ∈ lw_tbl := lw_at lw_m5 110 rfl
theorem q1149 : (Jvm.Cond.selects "LeaningStreet$House" ({ cls := "LeaningStreet$Bears", name := "worth", desc := "()I" } : Jvm.MethodName) ({ cls := "LeaningStreet$House", name := "worth", desc := "()I" } : Jvm.MethodName)) ∈ lw_all := lw_g (lw_at lw_m5 111 rfl) rfl
theorem q1150 : (Jvm.Cond.unhidden "LeaningStreet$House" "worth" "()I") ∈ lw_tbl := lw_at lw_m5 112 rfl
theorem q1151 : (Jvm.Cond.publicMethod ({ cls := "LeaningStreet$House", name := "worth", desc := "()I" } : Jvm.MethodName)) ∈ lw_tbl := lw_at lw_m5 113 rfl
theorem in_X6 : ∀ w ∈ wsX60, w ∈ lw_all := lw_in wsX60 [629, 630, 631, 632, 633, 634] (by decide +kernel) (by decide +kernel)

/-! LeaningStreet$TimberHouse -/
def RX7 : String := "LeaningStreet$TimberHouse"
def TX7 : u_T := fun k => match k with
  | 0 => ("LeaningStreet$House", "weight", "I", false)
  | 1 => ("LeaningStreet$House", "lean", "I", false)
  | 2 => ("LeaningStreet$House", "wall", "I", false)
  | 3 => ("LeaningStreet$House", "crack", "I", false)
  | 4 => ("LeaningStreet$House", "prop", "I", false)
  | _ => ("LeaningStreet$House", "stands", "Z", false)
def tyX7 : Nat → FieldType := fun k => match k with
  | 0 => .int
  | 1 => .int
  | 2 => .int
  | 3 => .int
  | 4 => .int
  | _ => .boolean
abbrev wsX70 : List Cond := u_ws RX7 TX7 6
theorem nmX7 : ∀ a, a < 6 → ∀ b, b < 6 → a ≠ b → (TX7 a).2.1 ≠ (TX7 b).2.1 := by decide +kernel
theorem tyX7_ok : ∀ k, k < 6 → parseFieldDescriptor (TX7 k).2.2.1 = some (tyX7 k) := by decide +kernel
theorem q89 : (Jvm.Cond.initialized "LeaningStreet$TimberHouse") ∈ lw_all := lw_g (lw_at lw_m1 11 rfl) rfl
theorem q538 : (Jvm.Cond.instantiable "LeaningStreet$TimberHouse" (6 : Nat)) ∈ lw_all := lw_g (lw_at lw_m2 220 rfl) rfl
theorem q540 : (Jvm.Cond.instanceMethod ({ cls := "LeaningStreet$TimberHouse", name := "<init>", desc := "()V" } : Jvm.MethodName)) ∈ lw_all := lw_g (lw_at lw_m2 222 rfl) rfl
theorem q541 : (Jvm.Cond.code ({ cls := "LeaningStreet$TimberHouse", name := "<init>", desc := "()V" } : Jvm.MethodName) prog_15_method_1_code (1 : Nat) (Option.none : Option Jvm.ClassFile.FieldType)) ∈ lw_all := lw_g (lw_at lw_m2 223 rfl) rfl
theorem q542 : (Jvm.Cond.methodLinkNest "LeaningStreet$TimberHouse" (3 : Nat) ({ cls := "LeaningStreet$House", name := "<init>", desc := "()V" } : Jvm.MethodName) "LeaningStreet") ∈ lw_tbl := lw_at lw_m2 224 rfl
theorem q561 : (Jvm.Cond.lays "LeaningStreet$TimberHouse" "LeaningStreet$House" "weight" "I") ∈ lw_all := lw_g (lw_at lw_m3 3 rfl) rfl
theorem q563 : (Jvm.Cond.lays "LeaningStreet$TimberHouse" "LeaningStreet$House" "lean" "I") ∈ lw_all := lw_g (lw_at lw_m3 5 rfl) rfl
theorem q565 : (Jvm.Cond.lays "LeaningStreet$TimberHouse" "LeaningStreet$House" "wall" "I") ∈ lw_all := lw_g (lw_at lw_m3 7 rfl) rfl
theorem q567 : (Jvm.Cond.lays "LeaningStreet$TimberHouse" "LeaningStreet$House" "crack" "I") ∈ lw_all := lw_g (lw_at lw_m3 9 rfl) rfl
theorem q569 : (Jvm.Cond.lays "LeaningStreet$TimberHouse" "LeaningStreet$House" "prop" "I") ∈ lw_all := lw_g (lw_at lw_m3 11 rfl) rfl
theorem q571 : (Jvm.Cond.lays "LeaningStreet$TimberHouse" "LeaningStreet$House" "stands" "Z") ∈ lw_all := lw_g (lw_at lw_m3 13 rfl) rfl
theorem q573 : (Jvm.Cond.superclass "LeaningStreet$TimberHouse" "LeaningStreet$House") ∈ lw_all := lw_g (lw_at lw_m3 15 rfl) rfl
theorem q659 : (Jvm.Cond.instanceMethod ({ cls := "LeaningStreet$TimberHouse", name := "kind", desc := "()I" } : Jvm.MethodName)) ∈ lw_all := lw_g (lw_at lw_m3 101 rfl) rfl
theorem q660 : (Jvm.Cond.code ({ cls := "LeaningStreet$TimberHouse", name := "kind", desc := "()I" } : Jvm.MethodName) prog_15_method_2_code (1 : Nat) (Option.some Jvm.ClassFile.FieldType.int)) ∈ lw_all := lw_g (lw_at lw_m3 102 rfl) rfl
theorem q664 : (Jvm.Cond.selects "LeaningStreet$TimberHouse" ({ cls := "LeaningStreet$House", name := "kind", desc := "()I" } : Jvm.MethodName) ({ cls := "LeaningStreet$TimberHouse", name := "kind", desc := "()I" } : Jvm.MethodName)) ∈ lw_all := lw_g (lw_at lw_m3 106 rfl) rfl
theorem q696 : (Jvm.Cond.instanceMethod ({ cls := "LeaningStreet$TimberHouse", name := "pushes", desc := "(I)I" } : Jvm.MethodName)) ∈ lw_all := lw_g (lw_at lw_m3 138 rfl) rfl
theorem q697 : (Jvm.Cond.code ({ cls := "LeaningStreet$TimberHouse", name := "pushes", desc := "(I)I" } : Jvm.MethodName) prog_15_method_3_code (2 : Nat) (Option.some Jvm.ClassFile.FieldType.int)) ∈ lw_all := lw_g (lw_at lw_m3 139 rfl) rfl
theorem q703 : (Jvm.Cond.selects "LeaningStreet$TimberHouse" ({ cls := "LeaningStreet$Pushes", name := "pushes", desc := "(I)I" } : Jvm.MethodName) ({ cls := "LeaningStreet$TimberHouse", name := "pushes", desc := "(I)I" } : Jvm.MethodName)) ∈ lw_all := lw_g (lw_at lw_m3 145 rfl) rfl
theorem q722 : (Jvm.Cond.instanceMethod ({ cls := "LeaningStreet$TimberHouse", name := "bears", desc := "()I" } : Jvm.MethodName)) ∈ lw_all := lw_g (lw_at lw_m3 164 rfl) rfl
theorem q723 : (Jvm.Cond.code ({ cls := "LeaningStreet$TimberHouse", name := "bears", desc := "()I" } : Jvm.MethodName) prog_15_method_4_code (1 : Nat) (Option.some Jvm.ClassFile.FieldType.int)) ∈ lw_all := lw_g (lw_at lw_m3 165 rfl) rfl
theorem q724 : (Jvm.Cond.methodLink "LeaningStreet$TimberHouse" (13 : Nat) ({ cls := "LeaningStreet$House", name := "bears", desc := "()I" } : Jvm.MethodName)) ∈ lw_all := lw_g (lw_at lw_m3 166 rfl) rfl
theorem q728 : (Jvm.Cond.selects "LeaningStreet$TimberHouse" ({ cls := "LeaningStreet$House", name := "bears", desc := "()I" } : Jvm.MethodName) ({ cls := "LeaningStreet$TimberHouse", name := "bears", desc := "()I" } : Jvm.MethodName)) ∈ lw_all := lw_g (lw_at lw_m3 170 rfl) rfl
theorem q758 : (Jvm.Cond.instanceMethod ({ cls := "LeaningStreet$TimberHouse", name := "worth", desc := "()I" } : Jvm.MethodName)) ∈ lw_all := lw_g (lw_at lw_m3 200 rfl) rfl
theorem q759 : (Jvm.Cond.code ({ cls := "LeaningStreet$TimberHouse", name := "worth", desc := "()I" } : Jvm.MethodName) prog_15_method_5_code (1 : Nat) (Option.some Jvm.ClassFile.FieldType.int)) ∈ lw_all := lw_g (lw_at lw_m3 201 rfl) rfl
theorem q760 : (Jvm.Cond.methodLink "LeaningStreet$TimberHouse" (17 : Nat) ({ cls := "LeaningStreet$House", name := "worth", desc := "()I" } : Jvm.MethodName)) ∈ lw_all := lw_g (lw_at lw_m3 202 rfl) rfl
theorem q764 : (Jvm.Cond.selects "LeaningStreet$TimberHouse" ({ cls := "LeaningStreet$House", name := "worth", desc := "()I" } : Jvm.MethodName) ({ cls := "LeaningStreet$TimberHouse", name := "worth", desc := "()I" } : Jvm.MethodName)) ∈ lw_all := lw_g (lw_at lw_m3 206 rfl) rfl
theorem q813 : (Jvm.Cond.selects "LeaningStreet$TimberHouse" ({ cls := "LeaningStreet$House", name := "takes", desc := "(LLeaningStreet$House;)V" } : Jvm.MethodName) ({ cls := "LeaningStreet$House", name := "takes", desc := "(LLeaningStreet$House;)V" } : Jvm.MethodName)) ∈ lw_all := lw_g (lw_at lw_m4 15 rfl) rfl
theorem q835 : (Jvm.Cond.selects "LeaningStreet$TimberHouse" ({ cls := "LeaningStreet$House", name := "falls", desc := "()V" } : Jvm.MethodName) ({ cls := "LeaningStreet$House", name := "falls", desc := "()V" } : Jvm.MethodName)) ∈ lw_all := lw_g (lw_at lw_m4 37 rfl) rfl
theorem q941 : (Jvm.Cond.selects "LeaningStreet$TimberHouse" ({ cls := "LeaningStreet$House", name := "another", desc := "()LLeaningStreet$House;" } : Jvm.MethodName) ({ cls := "LeaningStreet$TimberHouse", name := "another", desc := "()LLeaningStreet$House;" } : Jvm.MethodName)) ∈ lw_all := lw_g (lw_at lw_m4 143 rfl) rfl
theorem q942 : (Jvm.Cond.instanceMethod ({ cls := "LeaningStreet$TimberHouse", name := "another", desc := "()LLeaningStreet$House;" } : Jvm.MethodName)) ∈ lw_all := lw_g (lw_at lw_m4 144 rfl) rfl
theorem q943 : (Jvm.Cond.code ({ cls := "LeaningStreet$TimberHouse", name := "another", desc := "()LLeaningStreet$House;" } : Jvm.MethodName) prog_15_method_6_code (1 : Nat) (Option.some (Jvm.ClassFile.FieldType.object "LeaningStreet$House"))) ∈ lw_all := lw_g (lw_at lw_m4 145 rfl) rfl
theorem q944 : (Jvm.Cond.classLink "LeaningStreet$TimberHouse" (20 : Nat) "LeaningStreet$TimberHouse") ∈ lw_all := lw_g (lw_at lw_m4 146 rfl) rfl
theorem q945 : (Jvm.Cond.methodLink "LeaningStreet$TimberHouse" (22 : Nat) ({ cls := "LeaningStreet$TimberHouse", name := "<init>", desc := "()V" } : Jvm.MethodName)) ∈ lw_all := lw_g (lw_at lw_m4 147 rfl) rfl
theorem q1105 : (Jvm.Cond.selects "LeaningStreet$TimberHouse" ({ cls := "LeaningStreet$House", name := "copy", desc := "()LLeaningStreet$House;" } : Jvm.MethodName) ({ cls := "LeaningStreet$House", name := "copy", desc := "()LLeaningStreet$House;" } : Jvm.MethodName)) ∈ lw_all := lw_g (lw_at lw_m5 67 rfl) rfl
theorem q1152 : (Jvm.Cond.castable "LeaningStreet$TimberHouse" "LeaningStreet$Bears") ∈ lw_tbl := lw_at lw_m5 114 rfl
theorem q1153 : (Jvm.Cond.selects "LeaningStreet$TimberHouse" ({ cls := "LeaningStreet$Bears", name := "worth", desc := "()I" } : Jvm.MethodName) ({ cls := "LeaningStreet$TimberHouse", name := "worth", desc := "()I" } : Jvm.MethodName)) ∈ lw_all := lw_g (lw_at lw_m5 115 rfl) rfl
theorem q1154 : (Jvm.Cond.unhidden "LeaningStreet$TimberHouse" "worth" "()I") ∈ lw_tbl := lw_at lw_m5 116 rfl
theorem q1155 : (Jvm.Cond.publicMethod ({ cls := "LeaningStreet$TimberHouse", name := "worth", desc := "()I" } : Jvm.MethodName)) ∈ lw_tbl := lw_at lw_m5 117 rfl
theorem q1684 : (Jvm.Cond.sameMethod "LeaningStreet$TimberHouse" "LeaningStreet$TimberHouse" "kind" "()I") ∈ lw_all := lw_g (lw_at lw_m7 166 rfl) rfl
theorem q1686 : (Jvm.Cond.sameMethod "LeaningStreet$TimberHouse" "LeaningStreet$TimberHouse" "pushes" "(I)I") ∈ lw_all := lw_g (lw_at lw_m7 168 rfl) rfl
theorem q1688 : (Jvm.Cond.sameMethod "LeaningStreet$TimberHouse" "LeaningStreet$TimberHouse" "worth" "()I") ∈ lw_all := lw_g (lw_at lw_m7 170 rfl) rfl
theorem q1695 : (Jvm.Cond.castable "LeaningStreet$TimberHouse" "LeaningStreet$House") ∈ lw_tbl := lw_at lw_m7 177 rfl
theorem in_X7 : ∀ w ∈ wsX70, w ∈ lw_all := lw_in wsX70 [561, 563, 565, 567, 569, 571] (by decide +kernel) (by decide +kernel)

/-! LeaningStreet$BrickHouse -/
def RX8 : String := "LeaningStreet$BrickHouse"
def TX8 : u_T := fun k => match k with
  | 0 => ("LeaningStreet$House", "weight", "I", false)
  | 1 => ("LeaningStreet$House", "lean", "I", false)
  | 2 => ("LeaningStreet$House", "wall", "I", false)
  | 3 => ("LeaningStreet$House", "crack", "I", false)
  | 4 => ("LeaningStreet$House", "prop", "I", false)
  | _ => ("LeaningStreet$House", "stands", "Z", false)
def tyX8 : Nat → FieldType := fun k => match k with
  | 0 => .int
  | 1 => .int
  | 2 => .int
  | 3 => .int
  | 4 => .int
  | _ => .boolean
abbrev wsX80 : List Cond := u_ws RX8 TX8 6
theorem nmX8 : ∀ a, a < 6 → ∀ b, b < 6 → a ≠ b → (TX8 a).2.1 ≠ (TX8 b).2.1 := by decide +kernel
theorem tyX8_ok : ∀ k, k < 6 → parseFieldDescriptor (TX8 k).2.2.1 = some (tyX8 k) := by decide +kernel
theorem q90 : (Jvm.Cond.initialized "LeaningStreet$BrickHouse") ∈ lw_all := lw_g (lw_at lw_m1 12 rfl) rfl
theorem q575 : (Jvm.Cond.instantiable "LeaningStreet$BrickHouse" (6 : Nat)) ∈ lw_all := lw_g (lw_at lw_m3 17 rfl) rfl
theorem q577 : (Jvm.Cond.instanceMethod ({ cls := "LeaningStreet$BrickHouse", name := "<init>", desc := "()V" } : Jvm.MethodName)) ∈ lw_all := lw_g (lw_at lw_m3 19 rfl) rfl
theorem q578 : (Jvm.Cond.code ({ cls := "LeaningStreet$BrickHouse", name := "<init>", desc := "()V" } : Jvm.MethodName) prog_3_method_1_code (1 : Nat) (Option.none : Option Jvm.ClassFile.FieldType)) ∈ lw_all := lw_g (lw_at lw_m3 20 rfl) rfl
theorem q579 : (Jvm.Cond.methodLinkNest "LeaningStreet$BrickHouse" (3 : Nat) ({ cls := "LeaningStreet$House", name := "<init>", desc := "()V" } : Jvm.MethodName) "LeaningStreet") ∈ lw_tbl := lw_at lw_m3 21 rfl
theorem q580 : (Jvm.Cond.lays "LeaningStreet$BrickHouse" "LeaningStreet$House" "weight" "I") ∈ lw_all := lw_g (lw_at lw_m3 22 rfl) rfl
theorem q581 : (Jvm.Cond.lays "LeaningStreet$BrickHouse" "LeaningStreet$House" "lean" "I") ∈ lw_all := lw_g (lw_at lw_m3 23 rfl) rfl
theorem q582 : (Jvm.Cond.lays "LeaningStreet$BrickHouse" "LeaningStreet$House" "wall" "I") ∈ lw_all := lw_g (lw_at lw_m3 24 rfl) rfl
theorem q583 : (Jvm.Cond.lays "LeaningStreet$BrickHouse" "LeaningStreet$House" "crack" "I") ∈ lw_all := lw_g (lw_at lw_m3 25 rfl) rfl
theorem q584 : (Jvm.Cond.lays "LeaningStreet$BrickHouse" "LeaningStreet$House" "prop" "I") ∈ lw_all := lw_g (lw_at lw_m3 26 rfl) rfl
theorem q585 : (Jvm.Cond.lays "LeaningStreet$BrickHouse" "LeaningStreet$House" "stands" "Z") ∈ lw_all := lw_g (lw_at lw_m3 27 rfl) rfl
theorem q586 : (Jvm.Cond.superclass "LeaningStreet$BrickHouse" "LeaningStreet$House") ∈ lw_all := lw_g (lw_at lw_m3 28 rfl) rfl
theorem q648 : (Jvm.Cond.selects "LeaningStreet$BrickHouse" ({ cls := "LeaningStreet$House", name := "kind", desc := "()I" } : Jvm.MethodName) ({ cls := "LeaningStreet$BrickHouse", name := "kind", desc := "()I" } : Jvm.MethodName)) ∈ lw_all := lw_g (lw_at lw_m3 90 rfl) rfl
theorem q649 : (Jvm.Cond.instanceMethod ({ cls := "LeaningStreet$BrickHouse", name := "kind", desc := "()I" } : Jvm.MethodName)) ∈ lw_all := lw_g (lw_at lw_m3 91 rfl) rfl
theorem q650 : (Jvm.Cond.code ({ cls := "LeaningStreet$BrickHouse", name := "kind", desc := "()I" } : Jvm.MethodName) prog_3_method_2_code (1 : Nat) (Option.some Jvm.ClassFile.FieldType.int)) ∈ lw_all := lw_g (lw_at lw_m3 92 rfl) rfl
theorem q683 : (Jvm.Cond.selects "LeaningStreet$BrickHouse" ({ cls := "LeaningStreet$Pushes", name := "pushes", desc := "(I)I" } : Jvm.MethodName) ({ cls := "LeaningStreet$BrickHouse", name := "pushes", desc := "(I)I" } : Jvm.MethodName)) ∈ lw_all := lw_g (lw_at lw_m3 125 rfl) rfl
theorem q684 : (Jvm.Cond.instanceMethod ({ cls := "LeaningStreet$BrickHouse", name := "pushes", desc := "(I)I" } : Jvm.MethodName)) ∈ lw_all := lw_g (lw_at lw_m3 126 rfl) rfl
theorem q685 : (Jvm.Cond.code ({ cls := "LeaningStreet$BrickHouse", name := "pushes", desc := "(I)I" } : Jvm.MethodName) prog_3_method_3_code (2 : Nat) (Option.some Jvm.ClassFile.FieldType.int)) ∈ lw_all := lw_g (lw_at lw_m3 127 rfl) rfl
theorem q716 : (Jvm.Cond.selects "LeaningStreet$BrickHouse" ({ cls := "LeaningStreet$House", name := "bears", desc := "()I" } : Jvm.MethodName) ({ cls := "LeaningStreet$BrickHouse", name := "bears", desc := "()I" } : Jvm.MethodName)) ∈ lw_all := lw_g (lw_at lw_m3 158 rfl) rfl
theorem q717 : (Jvm.Cond.instanceMethod ({ cls := "LeaningStreet$BrickHouse", name := "bears", desc := "()I" } : Jvm.MethodName)) ∈ lw_all := lw_g (lw_at lw_m3 159 rfl) rfl
theorem q718 : (Jvm.Cond.code ({ cls := "LeaningStreet$BrickHouse", name := "bears", desc := "()I" } : Jvm.MethodName) prog_3_method_4_code (1 : Nat) (Option.some Jvm.ClassFile.FieldType.int)) ∈ lw_all := lw_g (lw_at lw_m3 160 rfl) rfl
theorem q719 : (Jvm.Cond.methodLink "LeaningStreet$BrickHouse" (13 : Nat) ({ cls := "LeaningStreet$House", name := "bears", desc := "()I" } : Jvm.MethodName)) ∈ lw_all := lw_g (lw_at lw_m3 161 rfl) rfl
theorem q746 : (Jvm.Cond.selects "LeaningStreet$BrickHouse" ({ cls := "LeaningStreet$House", name := "worth", desc := "()I" } : Jvm.MethodName) ({ cls := "LeaningStreet$BrickHouse", name := "worth", desc := "()I" } : Jvm.MethodName)) ∈ lw_all := lw_g (lw_at lw_m3 188 rfl) rfl
theorem q747 : (Jvm.Cond.instanceMethod ({ cls := "LeaningStreet$BrickHouse", name := "worth", desc := "()I" } : Jvm.MethodName)) ∈ lw_all := lw_g (lw_at lw_m3 189 rfl) rfl
theorem q748 : (Jvm.Cond.code ({ cls := "LeaningStreet$BrickHouse", name := "worth", desc := "()I" } : Jvm.MethodName) prog_3_method_5_code (1 : Nat) (Option.some Jvm.ClassFile.FieldType.int)) ∈ lw_all := lw_g (lw_at lw_m3 190 rfl) rfl
theorem q749 : (Jvm.Cond.methodLink "LeaningStreet$BrickHouse" (17 : Nat) ({ cls := "LeaningStreet$House", name := "worth", desc := "()I" } : Jvm.MethodName)) ∈ lw_all := lw_g (lw_at lw_m3 191 rfl) rfl
theorem q809 : (Jvm.Cond.selects "LeaningStreet$BrickHouse" ({ cls := "LeaningStreet$House", name := "takes", desc := "(LLeaningStreet$House;)V" } : Jvm.MethodName) ({ cls := "LeaningStreet$House", name := "takes", desc := "(LLeaningStreet$House;)V" } : Jvm.MethodName)) ∈ lw_all := lw_g (lw_at lw_m4 11 rfl) rfl
theorem q831 : (Jvm.Cond.selects "LeaningStreet$BrickHouse" ({ cls := "LeaningStreet$House", name := "falls", desc := "()V" } : Jvm.MethodName) ({ cls := "LeaningStreet$House", name := "falls", desc := "()V" } : Jvm.MethodName)) ∈ lw_all := lw_g (lw_at lw_m4 33 rfl) rfl
theorem q921 : (Jvm.Cond.selects "LeaningStreet$BrickHouse" ({ cls := "LeaningStreet$House", name := "another", desc := "()LLeaningStreet$House;" } : Jvm.MethodName) ({ cls := "LeaningStreet$BrickHouse", name := "another", desc := "()LLeaningStreet$House;" } : Jvm.MethodName)) ∈ lw_all := lw_g (lw_at lw_m4 123 rfl) rfl
theorem q922 : (Jvm.Cond.instanceMethod ({ cls := "LeaningStreet$BrickHouse", name := "another", desc := "()LLeaningStreet$House;" } : Jvm.MethodName)) ∈ lw_all := lw_g (lw_at lw_m4 124 rfl) rfl
theorem q923 : (Jvm.Cond.code ({ cls := "LeaningStreet$BrickHouse", name := "another", desc := "()LLeaningStreet$House;" } : Jvm.MethodName) prog_3_method_6_code (1 : Nat) (Option.some (Jvm.ClassFile.FieldType.object "LeaningStreet$House"))) ∈ lw_all := lw_g (lw_at lw_m4 125 rfl) rfl
theorem q924 : (Jvm.Cond.classLink "LeaningStreet$BrickHouse" (20 : Nat) "LeaningStreet$BrickHouse") ∈ lw_all := lw_g (lw_at lw_m4 126 rfl) rfl
theorem q925 : (Jvm.Cond.methodLink "LeaningStreet$BrickHouse" (22 : Nat) ({ cls := "LeaningStreet$BrickHouse", name := "<init>", desc := "()V" } : Jvm.MethodName)) ∈ lw_all := lw_g (lw_at lw_m4 127 rfl) rfl
theorem q1101 : (Jvm.Cond.selects "LeaningStreet$BrickHouse" ({ cls := "LeaningStreet$House", name := "copy", desc := "()LLeaningStreet$House;" } : Jvm.MethodName) ({ cls := "LeaningStreet$House", name := "copy", desc := "()LLeaningStreet$House;" } : Jvm.MethodName)) ∈ lw_all := lw_g (lw_at lw_m5 63 rfl) rfl
theorem q1132 : (Jvm.Cond.castable "LeaningStreet$BrickHouse" "LeaningStreet$Bears") ∈ lw_tbl := lw_at lw_m5 94 rfl
theorem q1133 : (Jvm.Cond.selects "LeaningStreet$BrickHouse" ({ cls := "LeaningStreet$Bears", name := "worth", desc := "()I" } : Jvm.MethodName) ({ cls := "LeaningStreet$BrickHouse", name := "worth", desc := "()I" } : Jvm.MethodName)) ∈ lw_all := lw_g (lw_at lw_m5 95 rfl) rfl
theorem q1134 : (Jvm.Cond.unhidden "LeaningStreet$BrickHouse" "worth" "()I") ∈ lw_tbl := lw_at lw_m5 96 rfl
theorem q1135 : (Jvm.Cond.publicMethod ({ cls := "LeaningStreet$BrickHouse", name := "worth", desc := "()I" } : Jvm.MethodName)) ∈ lw_tbl := lw_at lw_m5 97 rfl
theorem q1683 : (Jvm.Cond.sameMethod "LeaningStreet$BrickHouse" "LeaningStreet$BrickHouse" "kind" "()I") ∈ lw_all := lw_g (lw_at lw_m7 165 rfl) rfl
theorem q1685 : (Jvm.Cond.sameMethod "LeaningStreet$BrickHouse" "LeaningStreet$BrickHouse" "pushes" "(I)I") ∈ lw_all := lw_g (lw_at lw_m7 167 rfl) rfl
theorem q1687 : (Jvm.Cond.sameMethod "LeaningStreet$BrickHouse" "LeaningStreet$BrickHouse" "worth" "()I") ∈ lw_all := lw_g (lw_at lw_m7 169 rfl) rfl
theorem q1691 : (Jvm.Cond.castable "LeaningStreet$BrickHouse" "LeaningStreet$House") ∈ lw_tbl := lw_at lw_m7 173 rfl
theorem in_X8 : ∀ w ∈ wsX80, w ∈ lw_all := lw_in wsX80 [580, 581, 582, 583, 584, 585] (by decide +kernel) (by decide +kernel)

/-! LeaningStreet$EmptyHouse -/
def RX9 : String := "LeaningStreet$EmptyHouse"
def TX9 : u_T := fun k => match k with
  | 0 => ("LeaningStreet$House", "weight", "I", false)
  | 1 => ("LeaningStreet$House", "lean", "I", false)
  | 2 => ("LeaningStreet$House", "wall", "I", false)
  | 3 => ("LeaningStreet$House", "crack", "I", false)
  | 4 => ("LeaningStreet$House", "prop", "I", false)
  | _ => ("LeaningStreet$House", "stands", "Z", false)
def tyX9 : Nat → FieldType := fun k => match k with
  | 0 => .int
  | 1 => .int
  | 2 => .int
  | 3 => .int
  | 4 => .int
  | _ => .boolean
abbrev wsX90 : List Cond := u_ws RX9 TX9 6
theorem nmX9 : ∀ a, a < 6 → ∀ b, b < 6 → a ≠ b → (TX9 a).2.1 ≠ (TX9 b).2.1 := by decide +kernel
theorem tyX9_ok : ∀ k, k < 6 → parseFieldDescriptor (TX9 k).2.2.1 = some (tyX9 k) := by decide +kernel
theorem q91 : (Jvm.Cond.initialized "LeaningStreet$EmptyHouse") ∈ lw_all := lw_g (lw_at lw_m1 13 rfl) rfl
theorem q588 : (Jvm.Cond.instantiable "LeaningStreet$EmptyHouse" (6 : Nat)) ∈ lw_all := lw_g (lw_at lw_m3 30 rfl) rfl
theorem q590 : (Jvm.Cond.instanceMethod ({ cls := "LeaningStreet$EmptyHouse", name := "<init>", desc := "()V" } : Jvm.MethodName)) ∈ lw_all := lw_g (lw_at lw_m3 32 rfl) rfl
theorem q591 : (Jvm.Cond.code ({ cls := "LeaningStreet$EmptyHouse", name := "<init>", desc := "()V" } : Jvm.MethodName) prog_5_method_1_code (1 : Nat) (Option.none : Option Jvm.ClassFile.FieldType)) ∈ lw_all := lw_g (lw_at lw_m3 33 rfl) rfl
theorem q592 : (Jvm.Cond.methodLinkNest "LeaningStreet$EmptyHouse" (1 : Nat) ({ cls := "LeaningStreet$TimberHouse", name := "<init>", desc := "()V" } : Jvm.MethodName) "LeaningStreet") ∈ lw_tbl := lw_at lw_m3 34 rfl
theorem q593 : (Jvm.Cond.lays "LeaningStreet$EmptyHouse" "LeaningStreet$House" "weight" "I") ∈ lw_all := lw_g (lw_at lw_m3 35 rfl) rfl
theorem q594 : (Jvm.Cond.lays "LeaningStreet$EmptyHouse" "LeaningStreet$House" "lean" "I") ∈ lw_all := lw_g (lw_at lw_m3 36 rfl) rfl
theorem q595 : (Jvm.Cond.lays "LeaningStreet$EmptyHouse" "LeaningStreet$House" "wall" "I") ∈ lw_all := lw_g (lw_at lw_m3 37 rfl) rfl
theorem q596 : (Jvm.Cond.lays "LeaningStreet$EmptyHouse" "LeaningStreet$House" "crack" "I") ∈ lw_all := lw_g (lw_at lw_m3 38 rfl) rfl
theorem q597 : (Jvm.Cond.lays "LeaningStreet$EmptyHouse" "LeaningStreet$House" "prop" "I") ∈ lw_all := lw_g (lw_at lw_m3 39 rfl) rfl
theorem q598 : (Jvm.Cond.lays "LeaningStreet$EmptyHouse" "LeaningStreet$House" "stands" "Z") ∈ lw_all := lw_g (lw_at lw_m3 40 rfl) rfl
theorem q599 : (Jvm.Cond.superclass "LeaningStreet$EmptyHouse" "LeaningStreet$TimberHouse") ∈ lw_all := lw_g (lw_at lw_m3 41 rfl) rfl
theorem q655 : (Jvm.Cond.selects "LeaningStreet$EmptyHouse" ({ cls := "LeaningStreet$House", name := "kind", desc := "()I" } : Jvm.MethodName) ({ cls := "LeaningStreet$EmptyHouse", name := "kind", desc := "()I" } : Jvm.MethodName)) ∈ lw_all := lw_g (lw_at lw_m3 97 rfl) rfl
theorem q656 : (Jvm.Cond.instanceMethod ({ cls := "LeaningStreet$EmptyHouse", name := "kind", desc := "()I" } : Jvm.MethodName)) ∈ lw_all := lw_g (lw_at lw_m3 98 rfl) rfl
theorem q657 : (Jvm.Cond.code ({ cls := "LeaningStreet$EmptyHouse", name := "kind", desc := "()I" } : Jvm.MethodName) prog_5_method_2_code (1 : Nat) (Option.some Jvm.ClassFile.FieldType.int)) ∈ lw_all := lw_g (lw_at lw_m3 99 rfl) rfl
theorem q658 : (Jvm.Cond.methodLink "LeaningStreet$EmptyHouse" (7 : Nat) ({ cls := "LeaningStreet$TimberHouse", name := "kind", desc := "()I" } : Jvm.MethodName)) ∈ lw_all := lw_g (lw_at lw_m3 100 rfl) rfl
theorem q692 : (Jvm.Cond.selects "LeaningStreet$EmptyHouse" ({ cls := "LeaningStreet$Pushes", name := "pushes", desc := "(I)I" } : Jvm.MethodName) ({ cls := "LeaningStreet$EmptyHouse", name := "pushes", desc := "(I)I" } : Jvm.MethodName)) ∈ lw_all := lw_g (lw_at lw_m3 134 rfl) rfl
theorem q693 : (Jvm.Cond.instanceMethod ({ cls := "LeaningStreet$EmptyHouse", name := "pushes", desc := "(I)I" } : Jvm.MethodName)) ∈ lw_all := lw_g (lw_at lw_m3 135 rfl) rfl
theorem q694 : (Jvm.Cond.code ({ cls := "LeaningStreet$EmptyHouse", name := "pushes", desc := "(I)I" } : Jvm.MethodName) prog_5_method_3_code (2 : Nat) (Option.some Jvm.ClassFile.FieldType.int)) ∈ lw_all := lw_g (lw_at lw_m3 136 rfl) rfl
theorem q695 : (Jvm.Cond.methodLink "LeaningStreet$EmptyHouse" (11 : Nat) ({ cls := "LeaningStreet$TimberHouse", name := "pushes", desc := "(I)I" } : Jvm.MethodName)) ∈ lw_all := lw_g (lw_at lw_m3 137 rfl) rfl
theorem q698 : (Jvm.Cond.methodLink "LeaningStreet$EmptyHouse" (15 : Nat) ({ cls := "java/lang/Math", name := "max", desc := "(II)I" } : Jvm.MethodName)) ∈ lw_all := lw_g (lw_at lw_m3 140 rfl) rfl
theorem q721 : (Jvm.Cond.selects "LeaningStreet$EmptyHouse" ({ cls := "LeaningStreet$House", name := "bears", desc := "()I" } : Jvm.MethodName) ({ cls := "LeaningStreet$TimberHouse", name := "bears", desc := "()I" } : Jvm.MethodName)) ∈ lw_all := lw_g (lw_at lw_m3 163 rfl) rfl
theorem q754 : (Jvm.Cond.selects "LeaningStreet$EmptyHouse" ({ cls := "LeaningStreet$House", name := "worth", desc := "()I" } : Jvm.MethodName) ({ cls := "LeaningStreet$EmptyHouse", name := "worth", desc := "()I" } : Jvm.MethodName)) ∈ lw_all := lw_g (lw_at lw_m3 196 rfl) rfl
theorem q755 : (Jvm.Cond.instanceMethod ({ cls := "LeaningStreet$EmptyHouse", name := "worth", desc := "()I" } : Jvm.MethodName)) ∈ lw_all := lw_g (lw_at lw_m3 197 rfl) rfl
theorem q756 : (Jvm.Cond.code ({ cls := "LeaningStreet$EmptyHouse", name := "worth", desc := "()I" } : Jvm.MethodName) prog_5_method_4_code (1 : Nat) (Option.some Jvm.ClassFile.FieldType.int)) ∈ lw_all := lw_g (lw_at lw_m3 198 rfl) rfl
theorem q757 : (Jvm.Cond.methodLink "LeaningStreet$EmptyHouse" (21 : Nat) ({ cls := "LeaningStreet$TimberHouse", name := "worth", desc := "()I" } : Jvm.MethodName)) ∈ lw_all := lw_g (lw_at lw_m3 199 rfl) rfl
theorem q811 : (Jvm.Cond.selects "LeaningStreet$EmptyHouse" ({ cls := "LeaningStreet$House", name := "takes", desc := "(LLeaningStreet$House;)V" } : Jvm.MethodName) ({ cls := "LeaningStreet$House", name := "takes", desc := "(LLeaningStreet$House;)V" } : Jvm.MethodName)) ∈ lw_all := lw_g (lw_at lw_m4 13 rfl) rfl
theorem q833 : (Jvm.Cond.selects "LeaningStreet$EmptyHouse" ({ cls := "LeaningStreet$House", name := "falls", desc := "()V" } : Jvm.MethodName) ({ cls := "LeaningStreet$House", name := "falls", desc := "()V" } : Jvm.MethodName)) ∈ lw_all := lw_g (lw_at lw_m4 35 rfl) rfl
theorem q931 : (Jvm.Cond.selects "LeaningStreet$EmptyHouse" ({ cls := "LeaningStreet$House", name := "another", desc := "()LLeaningStreet$House;" } : Jvm.MethodName) ({ cls := "LeaningStreet$EmptyHouse", name := "another", desc := "()LLeaningStreet$House;" } : Jvm.MethodName)) ∈ lw_all := lw_g (lw_at lw_m4 133 rfl) rfl
theorem q932 : (Jvm.Cond.instanceMethod ({ cls := "LeaningStreet$EmptyHouse", name := "another", desc := "()LLeaningStreet$House;" } : Jvm.MethodName)) ∈ lw_all := lw_g (lw_at lw_m4 134 rfl) rfl
theorem q933 : (Jvm.Cond.code ({ cls := "LeaningStreet$EmptyHouse", name := "another", desc := "()LLeaningStreet$House;" } : Jvm.MethodName) prog_5_method_5_code (1 : Nat) (Option.some (Jvm.ClassFile.FieldType.object "LeaningStreet$House"))) ∈ lw_all := lw_g (lw_at lw_m4 135 rfl) rfl
theorem q934 : (Jvm.Cond.classLink "LeaningStreet$EmptyHouse" (24 : Nat) "LeaningStreet$EmptyHouse") ∈ lw_all := lw_g (lw_at lw_m4 136 rfl) rfl
theorem q935 : (Jvm.Cond.methodLink "LeaningStreet$EmptyHouse" (26 : Nat) ({ cls := "LeaningStreet$EmptyHouse", name := "<init>", desc := "()V" } : Jvm.MethodName)) ∈ lw_all := lw_g (lw_at lw_m4 137 rfl) rfl
theorem q1103 : (Jvm.Cond.selects "LeaningStreet$EmptyHouse" ({ cls := "LeaningStreet$House", name := "copy", desc := "()LLeaningStreet$House;" } : Jvm.MethodName) ({ cls := "LeaningStreet$House", name := "copy", desc := "()LLeaningStreet$House;" } : Jvm.MethodName)) ∈ lw_all := lw_g (lw_at lw_m5 65 rfl) rfl
theorem q1140 : (Jvm.Cond.castable "LeaningStreet$EmptyHouse" "LeaningStreet$Bears") ∈ lw_tbl := lw_at lw_m5 102 rfl
theorem q1141 : (Jvm.Cond.selects "LeaningStreet$EmptyHouse" ({ cls := "LeaningStreet$Bears", name := "worth", desc := "()I" } : Jvm.MethodName) ({ cls := "LeaningStreet$EmptyHouse", name := "worth", desc := "()I" } : Jvm.MethodName)) ∈ lw_all := lw_g (lw_at lw_m5 103 rfl) rfl
theorem q1142 : (Jvm.Cond.unhidden "LeaningStreet$EmptyHouse" "worth" "()I") ∈ lw_tbl := lw_at lw_m5 104 rfl
theorem q1143 : (Jvm.Cond.publicMethod ({ cls := "LeaningStreet$EmptyHouse", name := "worth", desc := "()I" } : Jvm.MethodName)) ∈ lw_tbl := lw_at lw_m5 105 rfl
theorem q1689 : (Jvm.Cond.castable "LeaningStreet$EmptyHouse" "LeaningStreet$TimberHouse") ∈ lw_tbl := lw_at lw_m7 171 rfl
theorem q1693 : (Jvm.Cond.castable "LeaningStreet$EmptyHouse" "LeaningStreet$House") ∈ lw_tbl := lw_at lw_m7 175 rfl
theorem in_X9 : ∀ w ∈ wsX90, w ∈ lw_all := lw_in wsX90 [593, 594, 595, 596, 597, 598] (by decide +kernel) (by decide +kernel)

/-! LeaningStreet$DoubleHouse -/
def RX10 : String := "LeaningStreet$DoubleHouse"
def TX10 : u_T := fun k => match k with
  | 0 => ("LeaningStreet$House", "weight", "I", false)
  | 1 => ("LeaningStreet$House", "lean", "I", false)
  | 2 => ("LeaningStreet$House", "wall", "I", false)
  | 3 => ("LeaningStreet$House", "crack", "I", false)
  | 4 => ("LeaningStreet$House", "prop", "I", false)
  | _ => ("LeaningStreet$House", "stands", "Z", false)
def tyX10 : Nat → FieldType := fun k => match k with
  | 0 => .int
  | 1 => .int
  | 2 => .int
  | 3 => .int
  | 4 => .int
  | _ => .boolean
abbrev wsX100 : List Cond := u_ws RX10 TX10 6
theorem nmX10 : ∀ a, a < 6 → ∀ b, b < 6 → a ≠ b → (TX10 a).2.1 ≠ (TX10 b).2.1 := by decide +kernel
theorem tyX10_ok : ∀ k, k < 6 → parseFieldDescriptor (TX10 k).2.2.1 = some (tyX10 k) := by decide +kernel
theorem q92 : (Jvm.Cond.initialized "LeaningStreet$DoubleHouse") ∈ lw_all := lw_g (lw_at lw_m1 14 rfl) rfl
theorem q601 : (Jvm.Cond.instantiable "LeaningStreet$DoubleHouse" (6 : Nat)) ∈ lw_all := lw_g (lw_at lw_m3 43 rfl) rfl
theorem q603 : (Jvm.Cond.instanceMethod ({ cls := "LeaningStreet$DoubleHouse", name := "<init>", desc := "()V" } : Jvm.MethodName)) ∈ lw_all := lw_g (lw_at lw_m3 45 rfl) rfl
theorem q604 : (Jvm.Cond.code ({ cls := "LeaningStreet$DoubleHouse", name := "<init>", desc := "()V" } : Jvm.MethodName) prog_4_method_1_code (1 : Nat) (Option.none : Option Jvm.ClassFile.FieldType)) ∈ lw_all := lw_g (lw_at lw_m3 46 rfl) rfl
theorem q605 : (Jvm.Cond.methodLinkNest "LeaningStreet$DoubleHouse" (1 : Nat) ({ cls := "LeaningStreet$BrickHouse", name := "<init>", desc := "()V" } : Jvm.MethodName) "LeaningStreet") ∈ lw_tbl := lw_at lw_m3 47 rfl
theorem q606 : (Jvm.Cond.lays "LeaningStreet$DoubleHouse" "LeaningStreet$House" "weight" "I") ∈ lw_all := lw_g (lw_at lw_m3 48 rfl) rfl
theorem q607 : (Jvm.Cond.lays "LeaningStreet$DoubleHouse" "LeaningStreet$House" "lean" "I") ∈ lw_all := lw_g (lw_at lw_m3 49 rfl) rfl
theorem q608 : (Jvm.Cond.lays "LeaningStreet$DoubleHouse" "LeaningStreet$House" "wall" "I") ∈ lw_all := lw_g (lw_at lw_m3 50 rfl) rfl
theorem q609 : (Jvm.Cond.lays "LeaningStreet$DoubleHouse" "LeaningStreet$House" "crack" "I") ∈ lw_all := lw_g (lw_at lw_m3 51 rfl) rfl
theorem q610 : (Jvm.Cond.lays "LeaningStreet$DoubleHouse" "LeaningStreet$House" "prop" "I") ∈ lw_all := lw_g (lw_at lw_m3 52 rfl) rfl
theorem q611 : (Jvm.Cond.lays "LeaningStreet$DoubleHouse" "LeaningStreet$House" "stands" "Z") ∈ lw_all := lw_g (lw_at lw_m3 53 rfl) rfl
theorem q612 : (Jvm.Cond.superclass "LeaningStreet$DoubleHouse" "LeaningStreet$BrickHouse") ∈ lw_all := lw_g (lw_at lw_m3 54 rfl) rfl
theorem q651 : (Jvm.Cond.selects "LeaningStreet$DoubleHouse" ({ cls := "LeaningStreet$House", name := "kind", desc := "()I" } : Jvm.MethodName) ({ cls := "LeaningStreet$DoubleHouse", name := "kind", desc := "()I" } : Jvm.MethodName)) ∈ lw_all := lw_g (lw_at lw_m3 93 rfl) rfl
theorem q652 : (Jvm.Cond.instanceMethod ({ cls := "LeaningStreet$DoubleHouse", name := "kind", desc := "()I" } : Jvm.MethodName)) ∈ lw_all := lw_g (lw_at lw_m3 94 rfl) rfl
theorem q653 : (Jvm.Cond.code ({ cls := "LeaningStreet$DoubleHouse", name := "kind", desc := "()I" } : Jvm.MethodName) prog_4_method_2_code (1 : Nat) (Option.some Jvm.ClassFile.FieldType.int)) ∈ lw_all := lw_g (lw_at lw_m3 95 rfl) rfl
theorem q654 : (Jvm.Cond.methodLink "LeaningStreet$DoubleHouse" (7 : Nat) ({ cls := "LeaningStreet$BrickHouse", name := "kind", desc := "()I" } : Jvm.MethodName)) ∈ lw_all := lw_g (lw_at lw_m3 96 rfl) rfl
theorem q688 : (Jvm.Cond.selects "LeaningStreet$DoubleHouse" ({ cls := "LeaningStreet$Pushes", name := "pushes", desc := "(I)I" } : Jvm.MethodName) ({ cls := "LeaningStreet$DoubleHouse", name := "pushes", desc := "(I)I" } : Jvm.MethodName)) ∈ lw_all := lw_g (lw_at lw_m3 130 rfl) rfl
theorem q689 : (Jvm.Cond.instanceMethod ({ cls := "LeaningStreet$DoubleHouse", name := "pushes", desc := "(I)I" } : Jvm.MethodName)) ∈ lw_all := lw_g (lw_at lw_m3 131 rfl) rfl
theorem q690 : (Jvm.Cond.code ({ cls := "LeaningStreet$DoubleHouse", name := "pushes", desc := "(I)I" } : Jvm.MethodName) prog_4_method_3_code (2 : Nat) (Option.some Jvm.ClassFile.FieldType.int)) ∈ lw_all := lw_g (lw_at lw_m3 132 rfl) rfl
theorem q691 : (Jvm.Cond.methodLink "LeaningStreet$DoubleHouse" (11 : Nat) ({ cls := "LeaningStreet$BrickHouse", name := "pushes", desc := "(I)I" } : Jvm.MethodName)) ∈ lw_all := lw_g (lw_at lw_m3 133 rfl) rfl
theorem q720 : (Jvm.Cond.selects "LeaningStreet$DoubleHouse" ({ cls := "LeaningStreet$House", name := "bears", desc := "()I" } : Jvm.MethodName) ({ cls := "LeaningStreet$BrickHouse", name := "bears", desc := "()I" } : Jvm.MethodName)) ∈ lw_all := lw_g (lw_at lw_m3 162 rfl) rfl
theorem q750 : (Jvm.Cond.selects "LeaningStreet$DoubleHouse" ({ cls := "LeaningStreet$House", name := "worth", desc := "()I" } : Jvm.MethodName) ({ cls := "LeaningStreet$DoubleHouse", name := "worth", desc := "()I" } : Jvm.MethodName)) ∈ lw_all := lw_g (lw_at lw_m3 192 rfl) rfl
theorem q751 : (Jvm.Cond.instanceMethod ({ cls := "LeaningStreet$DoubleHouse", name := "worth", desc := "()I" } : Jvm.MethodName)) ∈ lw_all := lw_g (lw_at lw_m3 193 rfl) rfl
theorem q752 : (Jvm.Cond.code ({ cls := "LeaningStreet$DoubleHouse", name := "worth", desc := "()I" } : Jvm.MethodName) prog_4_method_4_code (1 : Nat) (Option.some Jvm.ClassFile.FieldType.int)) ∈ lw_all := lw_g (lw_at lw_m3 194 rfl) rfl
theorem q753 : (Jvm.Cond.methodLink "LeaningStreet$DoubleHouse" (15 : Nat) ({ cls := "LeaningStreet$BrickHouse", name := "worth", desc := "()I" } : Jvm.MethodName)) ∈ lw_all := lw_g (lw_at lw_m3 195 rfl) rfl
theorem q810 : (Jvm.Cond.selects "LeaningStreet$DoubleHouse" ({ cls := "LeaningStreet$House", name := "takes", desc := "(LLeaningStreet$House;)V" } : Jvm.MethodName) ({ cls := "LeaningStreet$House", name := "takes", desc := "(LLeaningStreet$House;)V" } : Jvm.MethodName)) ∈ lw_all := lw_g (lw_at lw_m4 12 rfl) rfl
theorem q832 : (Jvm.Cond.selects "LeaningStreet$DoubleHouse" ({ cls := "LeaningStreet$House", name := "falls", desc := "()V" } : Jvm.MethodName) ({ cls := "LeaningStreet$House", name := "falls", desc := "()V" } : Jvm.MethodName)) ∈ lw_all := lw_g (lw_at lw_m4 34 rfl) rfl
theorem q926 : (Jvm.Cond.selects "LeaningStreet$DoubleHouse" ({ cls := "LeaningStreet$House", name := "another", desc := "()LLeaningStreet$House;" } : Jvm.MethodName) ({ cls := "LeaningStreet$DoubleHouse", name := "another", desc := "()LLeaningStreet$House;" } : Jvm.MethodName)) ∈ lw_all := lw_g (lw_at lw_m4 128 rfl) rfl
theorem q927 : (Jvm.Cond.instanceMethod ({ cls := "LeaningStreet$DoubleHouse", name := "another", desc := "()LLeaningStreet$House;" } : Jvm.MethodName)) ∈ lw_all := lw_g (lw_at lw_m4 129 rfl) rfl
theorem q928 : (Jvm.Cond.code ({ cls := "LeaningStreet$DoubleHouse", name := "another", desc := "()LLeaningStreet$House;" } : Jvm.MethodName) prog_4_method_5_code (1 : Nat) (Option.some (Jvm.ClassFile.FieldType.object "LeaningStreet$House"))) ∈ lw_all := lw_g (lw_at lw_m4 130 rfl) rfl
theorem q929 : (Jvm.Cond.classLink "LeaningStreet$DoubleHouse" (18 : Nat) "LeaningStreet$DoubleHouse") ∈ lw_all := lw_g (lw_at lw_m4 131 rfl) rfl
theorem q930 : (Jvm.Cond.methodLink "LeaningStreet$DoubleHouse" (20 : Nat) ({ cls := "LeaningStreet$DoubleHouse", name := "<init>", desc := "()V" } : Jvm.MethodName)) ∈ lw_all := lw_g (lw_at lw_m4 132 rfl) rfl
theorem q1102 : (Jvm.Cond.selects "LeaningStreet$DoubleHouse" ({ cls := "LeaningStreet$House", name := "copy", desc := "()LLeaningStreet$House;" } : Jvm.MethodName) ({ cls := "LeaningStreet$House", name := "copy", desc := "()LLeaningStreet$House;" } : Jvm.MethodName)) ∈ lw_all := lw_g (lw_at lw_m5 64 rfl) rfl
theorem q1136 : (Jvm.Cond.castable "LeaningStreet$DoubleHouse" "LeaningStreet$Bears") ∈ lw_tbl := lw_at lw_m5 98 rfl
theorem q1137 : (Jvm.Cond.selects "LeaningStreet$DoubleHouse" ({ cls := "LeaningStreet$Bears", name := "worth", desc := "()I" } : Jvm.MethodName) ({ cls := "LeaningStreet$DoubleHouse", name := "worth", desc := "()I" } : Jvm.MethodName)) ∈ lw_all := lw_g (lw_at lw_m5 99 rfl) rfl
theorem q1138 : (Jvm.Cond.unhidden "LeaningStreet$DoubleHouse" "worth" "()I") ∈ lw_tbl := lw_at lw_m5 100 rfl
theorem q1139 : (Jvm.Cond.publicMethod ({ cls := "LeaningStreet$DoubleHouse", name := "worth", desc := "()I" } : Jvm.MethodName)) ∈ lw_tbl := lw_at lw_m5 101 rfl
theorem q1690 : (Jvm.Cond.castable "LeaningStreet$DoubleHouse" "LeaningStreet$BrickHouse") ∈ lw_tbl := lw_at lw_m7 172 rfl
theorem q1692 : (Jvm.Cond.castable "LeaningStreet$DoubleHouse" "LeaningStreet$House") ∈ lw_tbl := lw_at lw_m7 174 rfl
theorem in_X10 : ∀ w ∈ wsX100, w ∈ lw_all := lw_in wsX100 [606, 607, 608, 609, 610, 611] (by decide +kernel) (by decide +kernel)

/-! LeaningStreet$FloatingHouse -/
def RX11 : String := "LeaningStreet$FloatingHouse"
def TX11 : u_T := fun k => match k with
  | 0 => ("LeaningStreet$House", "weight", "I", false)
  | 1 => ("LeaningStreet$House", "lean", "I", false)
  | 2 => ("LeaningStreet$House", "wall", "I", false)
  | 3 => ("LeaningStreet$House", "crack", "I", false)
  | 4 => ("LeaningStreet$House", "prop", "I", false)
  | _ => ("LeaningStreet$House", "stands", "Z", false)
def tyX11 : Nat → FieldType := fun k => match k with
  | 0 => .int
  | 1 => .int
  | 2 => .int
  | 3 => .int
  | 4 => .int
  | _ => .boolean
abbrev wsX110 : List Cond := u_ws RX11 TX11 6
theorem nmX11 : ∀ a, a < 6 → ∀ b, b < 6 → a ≠ b → (TX11 a).2.1 ≠ (TX11 b).2.1 := by decide +kernel
theorem tyX11_ok : ∀ k, k < 6 → parseFieldDescriptor (TX11 k).2.2.1 = some (tyX11 k) := by decide +kernel
theorem q93 : (Jvm.Cond.initialized "LeaningStreet$FloatingHouse") ∈ lw_all := lw_g (lw_at lw_m1 15 rfl) rfl
theorem q614 : (Jvm.Cond.instantiable "LeaningStreet$FloatingHouse" (6 : Nat)) ∈ lw_all := lw_g (lw_at lw_m3 56 rfl) rfl
theorem q616 : (Jvm.Cond.instanceMethod ({ cls := "LeaningStreet$FloatingHouse", name := "<init>", desc := "()V" } : Jvm.MethodName)) ∈ lw_all := lw_g (lw_at lw_m3 58 rfl) rfl
theorem q617 : (Jvm.Cond.code ({ cls := "LeaningStreet$FloatingHouse", name := "<init>", desc := "()V" } : Jvm.MethodName) prog_8_method_1_code (1 : Nat) (Option.none : Option Jvm.ClassFile.FieldType)) ∈ lw_all := lw_g (lw_at lw_m3 59 rfl) rfl
theorem q618 : (Jvm.Cond.methodLinkNest "LeaningStreet$FloatingHouse" (3 : Nat) ({ cls := "LeaningStreet$House", name := "<init>", desc := "()V" } : Jvm.MethodName) "LeaningStreet") ∈ lw_tbl := lw_at lw_m3 60 rfl
theorem q619 : (Jvm.Cond.lays "LeaningStreet$FloatingHouse" "LeaningStreet$House" "weight" "I") ∈ lw_all := lw_g (lw_at lw_m3 61 rfl) rfl
theorem q620 : (Jvm.Cond.lays "LeaningStreet$FloatingHouse" "LeaningStreet$House" "lean" "I") ∈ lw_all := lw_g (lw_at lw_m3 62 rfl) rfl
theorem q621 : (Jvm.Cond.lays "LeaningStreet$FloatingHouse" "LeaningStreet$House" "wall" "I") ∈ lw_all := lw_g (lw_at lw_m3 63 rfl) rfl
theorem q622 : (Jvm.Cond.lays "LeaningStreet$FloatingHouse" "LeaningStreet$House" "crack" "I") ∈ lw_all := lw_g (lw_at lw_m3 64 rfl) rfl
theorem q623 : (Jvm.Cond.lays "LeaningStreet$FloatingHouse" "LeaningStreet$House" "prop" "I") ∈ lw_all := lw_g (lw_at lw_m3 65 rfl) rfl
theorem q624 : (Jvm.Cond.lays "LeaningStreet$FloatingHouse" "LeaningStreet$House" "stands" "Z") ∈ lw_all := lw_g (lw_at lw_m3 66 rfl) rfl
theorem q625 : (Jvm.Cond.superclass "LeaningStreet$FloatingHouse" "LeaningStreet$House") ∈ lw_all := lw_g (lw_at lw_m3 67 rfl) rfl
theorem q661 : (Jvm.Cond.selects "LeaningStreet$FloatingHouse" ({ cls := "LeaningStreet$House", name := "kind", desc := "()I" } : Jvm.MethodName) ({ cls := "LeaningStreet$FloatingHouse", name := "kind", desc := "()I" } : Jvm.MethodName)) ∈ lw_all := lw_g (lw_at lw_m3 103 rfl) rfl
theorem q662 : (Jvm.Cond.instanceMethod ({ cls := "LeaningStreet$FloatingHouse", name := "kind", desc := "()I" } : Jvm.MethodName)) ∈ lw_all := lw_g (lw_at lw_m3 104 rfl) rfl
theorem q663 : (Jvm.Cond.code ({ cls := "LeaningStreet$FloatingHouse", name := "kind", desc := "()I" } : Jvm.MethodName) prog_8_method_2_code (1 : Nat) (Option.some Jvm.ClassFile.FieldType.int)) ∈ lw_all := lw_g (lw_at lw_m3 105 rfl) rfl
theorem q699 : (Jvm.Cond.selects "LeaningStreet$FloatingHouse" ({ cls := "LeaningStreet$Pushes", name := "pushes", desc := "(I)I" } : Jvm.MethodName) ({ cls := "LeaningStreet$FloatingHouse", name := "pushes", desc := "(I)I" } : Jvm.MethodName)) ∈ lw_all := lw_g (lw_at lw_m3 141 rfl) rfl
theorem q700 : (Jvm.Cond.instanceMethod ({ cls := "LeaningStreet$FloatingHouse", name := "pushes", desc := "(I)I" } : Jvm.MethodName)) ∈ lw_all := lw_g (lw_at lw_m3 142 rfl) rfl
theorem q701 : (Jvm.Cond.code ({ cls := "LeaningStreet$FloatingHouse", name := "pushes", desc := "(I)I" } : Jvm.MethodName) prog_8_method_3_code (2 : Nat) (Option.some Jvm.ClassFile.FieldType.int)) ∈ lw_all := lw_g (lw_at lw_m3 143 rfl) rfl
theorem q725 : (Jvm.Cond.selects "LeaningStreet$FloatingHouse" ({ cls := "LeaningStreet$House", name := "bears", desc := "()I" } : Jvm.MethodName) ({ cls := "LeaningStreet$FloatingHouse", name := "bears", desc := "()I" } : Jvm.MethodName)) ∈ lw_all := lw_g (lw_at lw_m3 167 rfl) rfl
theorem q726 : (Jvm.Cond.instanceMethod ({ cls := "LeaningStreet$FloatingHouse", name := "bears", desc := "()I" } : Jvm.MethodName)) ∈ lw_all := lw_g (lw_at lw_m3 168 rfl) rfl
theorem q727 : (Jvm.Cond.code ({ cls := "LeaningStreet$FloatingHouse", name := "bears", desc := "()I" } : Jvm.MethodName) prog_8_method_4_code (1 : Nat) (Option.some Jvm.ClassFile.FieldType.int)) ∈ lw_all := lw_g (lw_at lw_m3 169 rfl) rfl
theorem q761 : (Jvm.Cond.selects "LeaningStreet$FloatingHouse" ({ cls := "LeaningStreet$House", name := "worth", desc := "()I" } : Jvm.MethodName) ({ cls := "LeaningStreet$FloatingHouse", name := "worth", desc := "()I" } : Jvm.MethodName)) ∈ lw_all := lw_g (lw_at lw_m3 203 rfl) rfl
theorem q762 : (Jvm.Cond.instanceMethod ({ cls := "LeaningStreet$FloatingHouse", name := "worth", desc := "()I" } : Jvm.MethodName)) ∈ lw_all := lw_g (lw_at lw_m3 204 rfl) rfl
theorem q763 : (Jvm.Cond.code ({ cls := "LeaningStreet$FloatingHouse", name := "worth", desc := "()I" } : Jvm.MethodName) prog_8_method_5_code (1 : Nat) (Option.some Jvm.ClassFile.FieldType.int)) ∈ lw_all := lw_g (lw_at lw_m3 205 rfl) rfl
theorem q812 : (Jvm.Cond.selects "LeaningStreet$FloatingHouse" ({ cls := "LeaningStreet$House", name := "takes", desc := "(LLeaningStreet$House;)V" } : Jvm.MethodName) ({ cls := "LeaningStreet$House", name := "takes", desc := "(LLeaningStreet$House;)V" } : Jvm.MethodName)) ∈ lw_all := lw_g (lw_at lw_m4 14 rfl) rfl
theorem q834 : (Jvm.Cond.selects "LeaningStreet$FloatingHouse" ({ cls := "LeaningStreet$House", name := "falls", desc := "()V" } : Jvm.MethodName) ({ cls := "LeaningStreet$House", name := "falls", desc := "()V" } : Jvm.MethodName)) ∈ lw_all := lw_g (lw_at lw_m4 36 rfl) rfl
theorem q936 : (Jvm.Cond.selects "LeaningStreet$FloatingHouse" ({ cls := "LeaningStreet$House", name := "another", desc := "()LLeaningStreet$House;" } : Jvm.MethodName) ({ cls := "LeaningStreet$FloatingHouse", name := "another", desc := "()LLeaningStreet$House;" } : Jvm.MethodName)) ∈ lw_all := lw_g (lw_at lw_m4 138 rfl) rfl
theorem q937 : (Jvm.Cond.instanceMethod ({ cls := "LeaningStreet$FloatingHouse", name := "another", desc := "()LLeaningStreet$House;" } : Jvm.MethodName)) ∈ lw_all := lw_g (lw_at lw_m4 139 rfl) rfl
theorem q938 : (Jvm.Cond.code ({ cls := "LeaningStreet$FloatingHouse", name := "another", desc := "()LLeaningStreet$House;" } : Jvm.MethodName) prog_8_method_6_code (1 : Nat) (Option.some (Jvm.ClassFile.FieldType.object "LeaningStreet$House"))) ∈ lw_all := lw_g (lw_at lw_m4 140 rfl) rfl
theorem q939 : (Jvm.Cond.classLink "LeaningStreet$FloatingHouse" (9 : Nat) "LeaningStreet$FloatingHouse") ∈ lw_all := lw_g (lw_at lw_m4 141 rfl) rfl
theorem q940 : (Jvm.Cond.methodLink "LeaningStreet$FloatingHouse" (11 : Nat) ({ cls := "LeaningStreet$FloatingHouse", name := "<init>", desc := "()V" } : Jvm.MethodName)) ∈ lw_all := lw_g (lw_at lw_m4 142 rfl) rfl
theorem q1104 : (Jvm.Cond.selects "LeaningStreet$FloatingHouse" ({ cls := "LeaningStreet$House", name := "copy", desc := "()LLeaningStreet$House;" } : Jvm.MethodName) ({ cls := "LeaningStreet$House", name := "copy", desc := "()LLeaningStreet$House;" } : Jvm.MethodName)) ∈ lw_all := lw_g (lw_at lw_m5 66 rfl) rfl
theorem q1144 : (Jvm.Cond.castable "LeaningStreet$FloatingHouse" "LeaningStreet$Bears") ∈ lw_tbl := lw_at lw_m5 106 rfl
theorem q1145 : (Jvm.Cond.selects "LeaningStreet$FloatingHouse" ({ cls := "LeaningStreet$Bears", name := "worth", desc := "()I" } : Jvm.MethodName) ({ cls := "LeaningStreet$FloatingHouse", name := "worth", desc := "()I" } : Jvm.MethodName)) ∈ lw_all := lw_g (lw_at lw_m5 107 rfl) rfl
theorem q1146 : (Jvm.Cond.unhidden "LeaningStreet$FloatingHouse" "worth" "()I") ∈ lw_tbl := lw_at lw_m5 108 rfl
theorem q1147 : (Jvm.Cond.publicMethod ({ cls := "LeaningStreet$FloatingHouse", name := "worth", desc := "()I" } : Jvm.MethodName)) ∈ lw_tbl := lw_at lw_m5 109 rfl
theorem q1694 : (Jvm.Cond.castable "LeaningStreet$FloatingHouse" "LeaningStreet$House") ∈ lw_tbl := lw_at lw_m7 176 rfl
theorem in_X11 : ∀ w ∈ wsX110, w ∈ lw_all := lw_in wsX110 [619, 620, 621, 622, 623, 624] (by decide +kernel) (by decide +kernel)

/-! java/lang/Math -/
def RJ3 : String := "java/lang/Math"
theorem q94 : (Jvm.Cond.initialized "java/lang/Math") ∈ lw_all := lw_g (lw_at lw_m1 16 rfl) rfl
theorem q671 : (Jvm.Cond.static ({ cls := "java/lang/Math", name := "abs", desc := "(I)I" } : Jvm.MethodName)) ∈ lw_all := lw_g (lw_at lw_m3 113 rfl) rfl
theorem q672 : (Jvm.Cond.code ({ cls := "java/lang/Math", name := "abs", desc := "(I)I" } : Jvm.MethodName) prog_22_method_59_code (1 : Nat) (Option.some Jvm.ClassFile.FieldType.int)) ∈ lw_all := lw_g (lw_at lw_m3 114 rfl) rfl
theorem q677 : (Jvm.Cond.static ({ cls := "java/lang/Math", name := "min", desc := "(II)I" } : Jvm.MethodName)) ∈ lw_all := lw_g (lw_at lw_m3 119 rfl) rfl
theorem q678 : (Jvm.Cond.code ({ cls := "java/lang/Math", name := "min", desc := "(II)I" } : Jvm.MethodName) prog_22_method_69_code (2 : Nat) (Option.some Jvm.ClassFile.FieldType.int)) ∈ lw_all := lw_g (lw_at lw_m3 120 rfl) rfl
theorem q680 : (Jvm.Cond.static ({ cls := "java/lang/Math", name := "max", desc := "(II)I" } : Jvm.MethodName)) ∈ lw_all := lw_g (lw_at lw_m3 122 rfl) rfl
theorem q681 : (Jvm.Cond.code ({ cls := "java/lang/Math", name := "max", desc := "(II)I" } : Jvm.MethodName) prog_22_method_65_code (2 : Nat) (Option.some Jvm.ClassFile.FieldType.int)) ∈ lw_all := lw_g (lw_at lw_m3 123 rfl) rfl
theorem q1072 : (Jvm.Cond.static ({ cls := "java/lang/Math", name := "abs", desc := "(J)J" } : Jvm.MethodName)) ∈ lw_all := lw_g (lw_at lw_m5 34 rfl) rfl
theorem q1073 : (Jvm.Cond.code ({ cls := "java/lang/Math", name := "abs", desc := "(J)J" } : Jvm.MethodName) prog_22_method_61_code (2 : Nat) (Option.some Jvm.ClassFile.FieldType.long)) ∈ lw_all := lw_g (lw_at lw_m5 35 rfl) rfl

/-! java/lang/ClassCastException -/
def RJ4 : String := "java/lang/ClassCastException"
def TJ4 : u_T := fun k => match k with
  | 0 => ("java/lang/Throwable", "backtrace", "Ljava/lang/Object;", false)
  | 1 => ("java/lang/Throwable", "detailMessage", "Ljava/lang/String;", false)
  | 2 => ("java/lang/Throwable", "cause", "Ljava/lang/Throwable;", false)
  | 3 => ("java/lang/Throwable", "stackTrace", "[Ljava/lang/StackTraceElement;", false)
  | 4 => ("java/lang/Throwable", "depth", "I", false)
  | _ => ("java/lang/Throwable", "suppressedExceptions", "Ljava/util/List;", false)
def tyJ4 : Nat → FieldType := fun k => match k with
  | 0 => .object "java/lang/Object"
  | 1 => .object "java/lang/String"
  | 2 => .object "java/lang/Throwable"
  | 3 => .array (.object "java/lang/StackTraceElement")
  | 4 => .int
  | _ => .object "java/util/List"
abbrev wsJ40 : List Cond := u_ws RJ4 TJ4 6
theorem nmJ4 : ∀ a, a < 6 → ∀ b, b < 6 → a ≠ b → (TJ4 a).2.1 ≠ (TJ4 b).2.1 := by decide +kernel
theorem tyJ4_ok : ∀ k, k < 6 → parseFieldDescriptor (TJ4 k).2.2.1 = some (tyJ4 k) := by decide +kernel
theorem q95 : (Jvm.Cond.initialized "java/lang/ClassCastException") ∈ lw_all := lw_g (lw_at lw_m1 17 rfl) rfl
theorem q190 : (Jvm.Cond.selects "java/lang/ClassCastException" ({ cls := "java/lang/Throwable", name := "fillInStackTrace", desc := "()Ljava/lang/Throwable;" } : Jvm.MethodName) ({ cls := "java/lang/Throwable", name := "fillInStackTrace", desc := "()Ljava/lang/Throwable;" } : Jvm.MethodName)) ∈ lw_all := lw_g (lw_at lw_m1 112 rfl) rfl
theorem q771 : (Jvm.Cond.instantiable "java/lang/ClassCastException" (6 : Nat)) ∈ lw_all := lw_g (lw_at lw_m3 213 rfl) rfl
theorem q772 : (Jvm.Cond.instanceMethod ({ cls := "java/lang/ClassCastException", name := "<init>", desc := "(Ljava/lang/String;)V" } : Jvm.MethodName)) ∈ lw_all := lw_g (lw_at lw_m3 214 rfl) rfl
theorem q773 : (Jvm.Cond.code ({ cls := "java/lang/ClassCastException", name := "<init>", desc := "(Ljava/lang/String;)V" } : Jvm.MethodName) prog_19_method_2_code (2 : Nat) (Option.none : Option Jvm.ClassFile.FieldType)) ∈ lw_all := lw_g (lw_at lw_m3 215 rfl) rfl
theorem q774 : (Jvm.Cond.methodLink "java/lang/ClassCastException" (7 : Nat) ({ cls := "java/lang/RuntimeException", name := "<init>", desc := "(Ljava/lang/String;)V" } : Jvm.MethodName)) ∈ lw_all := lw_g (lw_at lw_m3 216 rfl) rfl
theorem q783 : (Jvm.Cond.lays "java/lang/ClassCastException" "java/lang/Throwable" "backtrace" "Ljava/lang/Object;") ∈ lw_all := lw_g (lw_at lw_m3 225 rfl) rfl
theorem q784 : (Jvm.Cond.lays "java/lang/ClassCastException" "java/lang/Throwable" "detailMessage" "Ljava/lang/String;") ∈ lw_all := lw_g (lw_at lw_m3 226 rfl) rfl
theorem q785 : (Jvm.Cond.lays "java/lang/ClassCastException" "java/lang/Throwable" "cause" "Ljava/lang/Throwable;") ∈ lw_all := lw_g (lw_at lw_m3 227 rfl) rfl
theorem q786 : (Jvm.Cond.lays "java/lang/ClassCastException" "java/lang/Throwable" "stackTrace" "[Ljava/lang/StackTraceElement;") ∈ lw_all := lw_g (lw_at lw_m3 228 rfl) rfl
theorem q787 : (Jvm.Cond.lays "java/lang/ClassCastException" "java/lang/Throwable" "depth" "I") ∈ lw_all := lw_g (lw_at lw_m3 229 rfl) rfl
theorem q788 : (Jvm.Cond.lays "java/lang/ClassCastException" "java/lang/Throwable" "suppressedExceptions" "Ljava/util/List;") ∈ lw_all := lw_g (lw_at lw_m3 230 rfl) rfl
theorem q789 : (Jvm.Cond.superclass "java/lang/ClassCastException" "java/lang/RuntimeException") ∈ lw_all := lw_g (lw_at lw_m3 231 rfl) rfl
theorem q790 : (Jvm.Cond.castable "java/lang/ClassCastException" "java/lang/ClassCastException") ∈ lw_tbl := lw_at lw_m3 232 rfl
theorem q791 : (Jvm.Cond.selects "java/lang/ClassCastException" ({ cls := "java/lang/Throwable", name := "fillInStackTrace", desc := "(I)Ljava/lang/Throwable;" } : Jvm.MethodName) ({ cls := "java/lang/Throwable", name := "fillInStackTrace", desc := "(I)Ljava/lang/Throwable;" } : Jvm.MethodName)) ∈ lw_all := lw_g (lw_at lw_m3 233 rfl) rfl
theorem in_J4 : ∀ w ∈ wsJ40, w ∈ lw_all := lw_in wsJ40 [783, 784, 785, 786, 787, 788] (by decide +kernel) (by decide +kernel)

/-! java/lang/String -/
def RJ5 : String := "java/lang/String"
def TJ5 : u_T := fun k => match k with
  | 0 => ("java/lang/String", "value", "[B", true)
  | _ => ("java/lang/String", "coder", "B", true)
def tyJ5 : Nat → FieldType := fun k => match k with
  | 0 => .array .byte
  | _ => .byte
abbrev wsJ50 : List Cond := u_ws RJ5 TJ5 2
theorem nmJ5 : ∀ a, a < 2 → ∀ b, b < 2 → a ≠ b → (TJ5 a).2.1 ≠ (TJ5 b).2.1 := by decide +kernel
theorem tyJ5_ok : ∀ k, k < 2 → parseFieldDescriptor (TJ5 k).2.2.1 = some (tyJ5 k) := by decide +kernel
theorem q96 : (Jvm.Cond.initialized "java/lang/String") ∈ lw_all := lw_g (lw_at lw_m1 18 rfl) rfl
theorem q376 : (Jvm.Cond.instanceMethod ({ cls := "java/lang/String", name := "length", desc := "()I" } : Jvm.MethodName)) ∈ lw_all := lw_g (lw_at lw_m2 58 rfl) rfl
theorem q377 : (Jvm.Cond.selects "java/lang/String" ({ cls := "java/lang/String", name := "length", desc := "()I" } : Jvm.MethodName) ({ cls := "java/lang/String", name := "length", desc := "()I" } : Jvm.MethodName)) ∈ lw_all := lw_g (lw_at lw_m2 59 rfl) rfl
theorem q378 : (Jvm.Cond.code ({ cls := "java/lang/String", name := "length", desc := "()I" } : Jvm.MethodName) prog_25_method_54_code (1 : Nat) (Option.some Jvm.ClassFile.FieldType.int)) ∈ lw_all := lw_g (lw_at lw_m2 60 rfl) rfl
theorem q379 : (Jvm.Cond.methodLink "java/lang/String" (335 : Nat) ({ cls := "java/lang/String", name := "coder", desc := "()B" } : Jvm.MethodName)) ∈ lw_all := lw_g (lw_at lw_m2 61 rfl) rfl
theorem q380 : (Jvm.Cond.instanceMethod ({ cls := "java/lang/String", name := "coder", desc := "()B" } : Jvm.MethodName)) ∈ lw_all := lw_g (lw_at lw_m2 62 rfl) rfl
theorem q381 : (Jvm.Cond.selects "java/lang/String" ({ cls := "java/lang/String", name := "coder", desc := "()B" } : Jvm.MethodName) ({ cls := "java/lang/String", name := "coder", desc := "()B" } : Jvm.MethodName)) ∈ lw_all := lw_g (lw_at lw_m2 63 rfl) rfl
theorem q382 : (Jvm.Cond.code ({ cls := "java/lang/String", name := "coder", desc := "()B" } : Jvm.MethodName) prog_25_method_152_code (1 : Nat) (Option.some Jvm.ClassFile.FieldType.byte)) ∈ lw_all := lw_g (lw_at lw_m2 64 rfl) rfl
theorem q383 : (Jvm.Cond.fieldLink "java/lang/String" (38 : Nat) "java/lang/String" "COMPACT_STRINGS" "Z") ∈ lw_all := lw_g (lw_at lw_m2 65 rfl) rfl
theorem q384 : (Jvm.Cond.laysStatic "java/lang/String" "COMPACT_STRINGS" "Z") ∈ lw_tbl := lw_at lw_m2 66 rfl
theorem q386 : (Jvm.Cond.instanceMethod ({ cls := "java/lang/String", name := "charAt", desc := "(I)C" } : Jvm.MethodName)) ∈ lw_all := lw_g (lw_at lw_m2 68 rfl) rfl
theorem q387 : (Jvm.Cond.selects "java/lang/String" ({ cls := "java/lang/String", name := "charAt", desc := "(I)C" } : Jvm.MethodName) ({ cls := "java/lang/String", name := "charAt", desc := "(I)C" } : Jvm.MethodName)) ∈ lw_all := lw_g (lw_at lw_m2 69 rfl) rfl
theorem q388 : (Jvm.Cond.code ({ cls := "java/lang/String", name := "charAt", desc := "(I)C" } : Jvm.MethodName) prog_25_method_56_code (2 : Nat) (Option.some Jvm.ClassFile.FieldType.char)) ∈ lw_all := lw_g (lw_at lw_m2 70 rfl) rfl
theorem q389 : (Jvm.Cond.methodLink "java/lang/String" (492 : Nat) ({ cls := "java/lang/String", name := "isLatin1", desc := "()Z" } : Jvm.MethodName)) ∈ lw_all := lw_g (lw_at lw_m2 71 rfl) rfl
theorem q390 : (Jvm.Cond.instanceMethod ({ cls := "java/lang/String", name := "isLatin1", desc := "()Z" } : Jvm.MethodName)) ∈ lw_all := lw_g (lw_at lw_m2 72 rfl) rfl
theorem q391 : (Jvm.Cond.selects "java/lang/String" ({ cls := "java/lang/String", name := "isLatin1", desc := "()Z" } : Jvm.MethodName) ({ cls := "java/lang/String", name := "isLatin1", desc := "()Z" } : Jvm.MethodName)) ∈ lw_all := lw_g (lw_at lw_m2 73 rfl) rfl
theorem q392 : (Jvm.Cond.code ({ cls := "java/lang/String", name := "isLatin1", desc := "()Z" } : Jvm.MethodName) prog_25_method_154_code (1 : Nat) (Option.some Jvm.ClassFile.FieldType.boolean)) ∈ lw_all := lw_g (lw_at lw_m2 74 rfl) rfl
theorem q393 : (Jvm.Cond.methodLink "java/lang/String" (495 : Nat) ({ cls := "java/lang/StringLatin1", name := "charAt", desc := "([BI)C" } : Jvm.MethodName)) ∈ lw_all := lw_g (lw_at lw_m2 75 rfl) rfl
theorem q397 : (Jvm.Cond.static ({ cls := "java/lang/String", name := "checkIndex", desc := "(II)V" } : Jvm.MethodName)) ∈ lw_all := lw_g (lw_at lw_m2 79 rfl) rfl
theorem q398 : (Jvm.Cond.code ({ cls := "java/lang/String", name := "checkIndex", desc := "(II)V" } : Jvm.MethodName) prog_25_method_155_code (2 : Nat) (Option.none : Option Jvm.ClassFile.FieldType)) ∈ lw_all := lw_g (lw_at lw_m2 80 rfl) rfl
theorem q399 : (Jvm.Cond.fieldLink "java/lang/String" (1053 : Nat) "jdk/internal/util/Preconditions" "SIOOBE_FORMATTER" "Ljava/util/function/BiFunction;") ∈ lw_all := lw_g (lw_at lw_m2 81 rfl) rfl
theorem q401 : (Jvm.Cond.methodLink "java/lang/String" (1059 : Nat) ({ cls := "jdk/internal/util/Preconditions", name := "checkIndex", desc := "(IILjava/util/function/BiFunction;)I" } : Jvm.MethodName)) ∈ lw_all := lw_g (lw_at lw_m2 83 rfl) rfl
theorem q404 : (Jvm.Cond.methodLink "java/lang/String" (498 : Nat) ({ cls := "java/lang/StringUTF16", name := "charAt", desc := "([BI)C" } : Jvm.MethodName)) ∈ lw_all := lw_g (lw_at lw_m2 86 rfl) rfl
theorem q792 : (Jvm.Cond.instantiable "java/lang/String" (4 : Nat)) ∈ lw_all := lw_g (lw_at lw_m3 234 rfl) rfl
theorem q793 : (Jvm.Cond.laysFinal "java/lang/String" "java/lang/String" "value" "[B") ∈ lw_all := lw_g (lw_at lw_m3 235 rfl) rfl
theorem q794 : (Jvm.Cond.soleField "java/lang/String" "value") ∈ lw_all := lw_g (lw_at lw_m3 236 rfl) rfl
theorem q795 : (Jvm.Cond.laysFinal "java/lang/String" "java/lang/String" "coder" "B") ∈ lw_all := lw_g (lw_at lw_m3 237 rfl) rfl
theorem q796 : (Jvm.Cond.soleField "java/lang/String" "coder") ∈ lw_all := lw_g (lw_at lw_m3 238 rfl) rfl
theorem q1696 : (Jvm.Cond.fieldLink "java/lang/String" (9 : Nat) "java/lang/String" "value" "[B") ∈ lw_all := lw_g (lw_at lw_m7 178 rfl) rfl
theorem q1697 : (Jvm.Cond.fieldLink "java/lang/String" (15 : Nat) "java/lang/String" "coder" "B") ∈ lw_all := lw_g (lw_at lw_m7 179 rfl) rfl
theorem in_J5 : ∀ w ∈ wsJ50, w ∈ lw_all := lw_in wsJ50 [793, 795] (by decide +kernel) (by decide +kernel)

/-! java/lang/Integer -/
def RJ6 : String := "java/lang/Integer"
theorem q97 : (Jvm.Cond.initialized "java/lang/Integer") ∈ lw_all := lw_g (lw_at lw_m1 19 rfl) rfl
theorem q838 : (Jvm.Cond.static ({ cls := "java/lang/Integer", name := "bitCount", desc := "(I)I" } : Jvm.MethodName)) ∈ lw_all := lw_g (lw_at lw_m4 40 rfl) rfl
theorem q839 : (Jvm.Cond.code ({ cls := "java/lang/Integer", name := "bitCount", desc := "(I)I" } : Jvm.MethodName) prog_21_method_49_code (1 : Nat) (Option.some Jvm.ClassFile.FieldType.int)) ∈ lw_all := lw_g (lw_at lw_m4 41 rfl) rfl
theorem q840 : (Jvm.Cond.constant "java/lang/Integer" (265 : Nat) (1431655765 : Int32)) ∈ lw_all := lw_g (lw_at lw_m4 42 rfl) rfl
theorem q841 : (Jvm.Cond.constant "java/lang/Integer" (266 : Nat) (858993459 : Int32)) ∈ lw_all := lw_g (lw_at lw_m4 43 rfl) rfl
theorem q842 : (Jvm.Cond.constant "java/lang/Integer" (267 : Nat) (252645135 : Int32)) ∈ lw_all := lw_g (lw_at lw_m4 44 rfl) rfl

/-! java/lang/StringLatin1 -/
def RJ7 : String := "java/lang/StringLatin1"
theorem q99 : (Jvm.Cond.initialized "java/lang/StringLatin1") ∈ lw_all := lw_g (lw_at lw_m1 21 rfl) rfl
theorem q394 : (Jvm.Cond.static ({ cls := "java/lang/StringLatin1", name := "charAt", desc := "([BI)C" } : Jvm.MethodName)) ∈ lw_all := lw_g (lw_at lw_m2 76 rfl) rfl
theorem q395 : (Jvm.Cond.code ({ cls := "java/lang/StringLatin1", name := "charAt", desc := "([BI)C" } : Jvm.MethodName) prog_26_method_2_code (2 : Nat) (Option.some Jvm.ClassFile.FieldType.char)) ∈ lw_all := lw_g (lw_at lw_m2 77 rfl) rfl
theorem q396 : (Jvm.Cond.methodLink "java/lang/StringLatin1" (9 : Nat) ({ cls := "java/lang/String", name := "checkIndex", desc := "(II)V" } : Jvm.MethodName)) ∈ lw_all := lw_g (lw_at lw_m2 78 rfl) rfl

/-! jdk/internal/util/Preconditions -/
def RJ8 : String := "jdk/internal/util/Preconditions"
theorem q100 : (Jvm.Cond.initialized "jdk/internal/util/Preconditions") ∈ lw_all := lw_g (lw_at lw_m1 22 rfl) rfl
theorem q400 : (Jvm.Cond.laysStatic "jdk/internal/util/Preconditions" "SIOOBE_FORMATTER" "Ljava/util/function/BiFunction;") ∈ lw_tbl := lw_at lw_m2 82 rfl
theorem q402 : (Jvm.Cond.static ({ cls := "jdk/internal/util/Preconditions", name := "checkIndex", desc := "(IILjava/util/function/BiFunction;)I" } : Jvm.MethodName)) ∈ lw_all := lw_g (lw_at lw_m2 84 rfl) rfl
theorem q403 : (Jvm.Cond.code ({ cls := "jdk/internal/util/Preconditions", name := "checkIndex", desc := "(IILjava/util/function/BiFunction;)I" } : Jvm.MethodName) prog_30_method_11_code (3 : Nat) (Option.some Jvm.ClassFile.FieldType.int)) ∈ lw_all := lw_g (lw_at lw_m2 85 rfl) rfl

/-! java/lang/StringUTF16 -/
def RJ9 : String := "java/lang/StringUTF16"
theorem q101 : (Jvm.Cond.initialized "java/lang/StringUTF16") ∈ lw_all := lw_g (lw_at lw_m1 23 rfl) rfl
theorem q405 : (Jvm.Cond.static ({ cls := "java/lang/StringUTF16", name := "charAt", desc := "([BI)C" } : Jvm.MethodName)) ∈ lw_all := lw_g (lw_at lw_m2 87 rfl) rfl
theorem q406 : (Jvm.Cond.code ({ cls := "java/lang/StringUTF16", name := "charAt", desc := "([BI)C" } : Jvm.MethodName) prog_27_method_83_code (2 : Nat) (Option.some Jvm.ClassFile.FieldType.char)) ∈ lw_all := lw_g (lw_at lw_m2 88 rfl) rfl
theorem q407 : (Jvm.Cond.methodLink "java/lang/StringUTF16" (67 : Nat) ({ cls := "java/lang/StringUTF16", name := "checkIndex", desc := "(I[B)V" } : Jvm.MethodName)) ∈ lw_all := lw_g (lw_at lw_m2 89 rfl) rfl
theorem q408 : (Jvm.Cond.static ({ cls := "java/lang/StringUTF16", name := "checkIndex", desc := "(I[B)V" } : Jvm.MethodName)) ∈ lw_all := lw_g (lw_at lw_m2 90 rfl) rfl
theorem q409 : (Jvm.Cond.code ({ cls := "java/lang/StringUTF16", name := "checkIndex", desc := "(I[B)V" } : Jvm.MethodName) prog_27_method_91_code (2 : Nat) (Option.none : Option Jvm.ClassFile.FieldType)) ∈ lw_all := lw_g (lw_at lw_m2 91 rfl) rfl
theorem q410 : (Jvm.Cond.methodLink "java/lang/StringUTF16" (48 : Nat) ({ cls := "java/lang/StringUTF16", name := "length", desc := "([B)I" } : Jvm.MethodName)) ∈ lw_all := lw_g (lw_at lw_m2 92 rfl) rfl
theorem q411 : (Jvm.Cond.static ({ cls := "java/lang/StringUTF16", name := "length", desc := "([B)I" } : Jvm.MethodName)) ∈ lw_all := lw_g (lw_at lw_m2 93 rfl) rfl
theorem q412 : (Jvm.Cond.code ({ cls := "java/lang/StringUTF16", name := "length", desc := "([B)I" } : Jvm.MethodName) prog_27_method_6_code (1 : Nat) (Option.some Jvm.ClassFile.FieldType.int)) ∈ lw_all := lw_g (lw_at lw_m2 94 rfl) rfl
theorem q413 : (Jvm.Cond.methodLink "java/lang/StringUTF16" (414 : Nat) ({ cls := "java/lang/String", name := "checkIndex", desc := "(II)V" } : Jvm.MethodName)) ∈ lw_all := lw_g (lw_at lw_m2 95 rfl) rfl
theorem q414 : (Jvm.Cond.methodLink "java/lang/StringUTF16" (71 : Nat) ({ cls := "java/lang/StringUTF16", name := "getChar", desc := "([BI)C" } : Jvm.MethodName)) ∈ lw_all := lw_g (lw_at lw_m2 96 rfl) rfl
theorem q415 : (Jvm.Cond.static ({ cls := "java/lang/StringUTF16", name := "getChar", desc := "([BI)C" } : Jvm.MethodName)) ∈ lw_all := lw_g (lw_at lw_m2 97 rfl) rfl
theorem q416 : (Jvm.Cond.code ({ cls := "java/lang/StringUTF16", name := "getChar", desc := "([BI)C" } : Jvm.MethodName) prog_27_method_5_code (2 : Nat) (Option.some Jvm.ClassFile.FieldType.char)) ∈ lw_all := lw_g (lw_at lw_m2 98 rfl) rfl
theorem q417 : (Jvm.Cond.fieldLink "java/lang/StringUTF16" (44 : Nat) "java/lang/StringUTF16" "$assertionsDisabled" "Z") ∈ lw_all := lw_g (lw_at lw_m2 99 rfl) rfl
theorem q418 : (Jvm.Cond.laysStatic "java/lang/StringUTF16" "$assertionsDisabled" "Z") ∈ lw_tbl := lw_at lw_m2 100 rfl
theorem q419 : (Jvm.Cond.fieldLink "java/lang/StringUTF16" (59 : Nat) "java/lang/StringUTF16" "HI_BYTE_SHIFT" "I") ∈ lw_all := lw_g (lw_at lw_m2 101 rfl) rfl
theorem q420 : (Jvm.Cond.laysStatic "java/lang/StringUTF16" "HI_BYTE_SHIFT" "I") ∈ lw_tbl := lw_at lw_m2 102 rfl
theorem q421 : (Jvm.Cond.fieldLink "java/lang/StringUTF16" (63 : Nat) "java/lang/StringUTF16" "LO_BYTE_SHIFT" "I") ∈ lw_all := lw_g (lw_at lw_m2 103 rfl) rfl
theorem q422 : (Jvm.Cond.laysStatic "java/lang/StringUTF16" "LO_BYTE_SHIFT" "I") ∈ lw_tbl := lw_at lw_m2 104 rfl

/-! LeaningStreet$Words -/
def RX12 : String := "LeaningStreet$Words"
def TX12 : u_T := fun k => match k with
  | 0 => ("LeaningStreet$Words", "word", "[I", true)
  | 1 => ("LeaningStreet$Words", "value", "[I", true)
  | _ => ("LeaningStreet$Words", "many", "I", false)
def tyX12 : Nat → FieldType := fun k => match k with
  | 0 => .array .int
  | 1 => .array .int
  | _ => .int
abbrev wsX120 : List Cond := u_ws RX12 TX12 3
theorem nmX12 : ∀ a, a < 3 → ∀ b, b < 3 → a ≠ b → (TX12 a).2.1 ≠ (TX12 b).2.1 := by decide +kernel
theorem tyX12_ok : ∀ k, k < 3 → parseFieldDescriptor (TX12 k).2.2.1 = some (tyX12 k) := by decide +kernel
theorem q102 : (Jvm.Cond.initialized "LeaningStreet$Words") ∈ lw_all := lw_g (lw_at lw_m1 24 rfl) rfl
theorem q430 : (Jvm.Cond.instantiable "LeaningStreet$Words" (3 : Nat)) ∈ lw_all := lw_g (lw_at lw_m2 112 rfl) rfl
theorem q432 : (Jvm.Cond.instanceMethod ({ cls := "LeaningStreet$Words", name := "<init>", desc := "()V" } : Jvm.MethodName)) ∈ lw_all := lw_g (lw_at lw_m2 114 rfl) rfl
theorem q433 : (Jvm.Cond.code ({ cls := "LeaningStreet$Words", name := "<init>", desc := "()V" } : Jvm.MethodName) prog_16_method_1_code (1 : Nat) (Option.none : Option Jvm.ClassFile.FieldType)) ∈ lw_all := lw_g (lw_at lw_m2 115 rfl) rfl
theorem q434 : (Jvm.Cond.methodLink "LeaningStreet$Words" (3 : Nat) ({ cls := "java/lang/Object", name := "<init>", desc := "()V" } : Jvm.MethodName)) ∈ lw_all := lw_g (lw_at lw_m2 116 rfl) rfl
theorem q435 : (Jvm.Cond.fieldLink "LeaningStreet$Words" (9 : Nat) "LeaningStreet$Words" "word" "[I") ∈ lw_all := lw_g (lw_at lw_m2 117 rfl) rfl
theorem q437 : (Jvm.Cond.fieldLink "LeaningStreet$Words" (15 : Nat) "LeaningStreet$Words" "value" "[I") ∈ lw_all := lw_g (lw_at lw_m2 119 rfl) rfl
theorem q439 : (Jvm.Cond.fieldLink "LeaningStreet$Words" (18 : Nat) "LeaningStreet$Words" "many" "I") ∈ lw_all := lw_g (lw_at lw_m2 121 rfl) rfl
theorem q441 : (Jvm.Cond.laysFinal "LeaningStreet$Words" "LeaningStreet$Words" "word" "[I") ∈ lw_all := lw_g (lw_at lw_m2 123 rfl) rfl
theorem q442 : (Jvm.Cond.soleField "LeaningStreet$Words" "word") ∈ lw_all := lw_g (lw_at lw_m2 124 rfl) rfl
theorem q443 : (Jvm.Cond.laysFinal "LeaningStreet$Words" "LeaningStreet$Words" "value" "[I") ∈ lw_all := lw_g (lw_at lw_m2 125 rfl) rfl
theorem q444 : (Jvm.Cond.soleField "LeaningStreet$Words" "value") ∈ lw_all := lw_g (lw_at lw_m2 126 rfl) rfl
theorem q445 : (Jvm.Cond.lays "LeaningStreet$Words" "LeaningStreet$Words" "many" "I") ∈ lw_all := lw_g (lw_at lw_m2 127 rfl) rfl
theorem q446 : (Jvm.Cond.soleField "LeaningStreet$Words" "many") ∈ lw_all := lw_g (lw_at lw_m2 128 rfl) rfl
theorem q447 : (Jvm.Cond.superclass "LeaningStreet$Words" "java/lang/Object") ∈ lw_all := lw_g (lw_at lw_m2 129 rfl) rfl
theorem q477 : (Jvm.Cond.instanceMethod ({ cls := "LeaningStreet$Words", name := "add", desc := "(II)V" } : Jvm.MethodName)) ∈ lw_all := lw_g (lw_at lw_m2 159 rfl) rfl
theorem q478 : (Jvm.Cond.selects "LeaningStreet$Words" ({ cls := "LeaningStreet$Words", name := "add", desc := "(II)V" } : Jvm.MethodName) ({ cls := "LeaningStreet$Words", name := "add", desc := "(II)V" } : Jvm.MethodName)) ∈ lw_all := lw_g (lw_at lw_m2 160 rfl) rfl
theorem q479 : (Jvm.Cond.code ({ cls := "LeaningStreet$Words", name := "add", desc := "(II)V" } : Jvm.MethodName) prog_16_method_2_code (3 : Nat) (Option.none : Option Jvm.ClassFile.FieldType)) ∈ lw_all := lw_g (lw_at lw_m2 161 rfl) rfl
theorem in_X12 : ∀ w ∈ wsX120, w ∈ lw_all := lw_in wsX120 [441, 443, 445] (by decide +kernel) (by decide +kernel)

/-! LeaningStreet$Text -/
def RX13 : String := "LeaningStreet$Text"
def TX13 : u_T := fun k => match k with
  | 0 => ("LeaningStreet$Text", "key", "I", true)
  | 1 => ("LeaningStreet$Text", "words", "LLeaningStreet$Words;", true)
  | _ => ("LeaningStreet$Text", "many", "I", true)
def tyX13 : Nat → FieldType := fun k => match k with
  | 0 => .int
  | 1 => .object "LeaningStreet$Words"
  | _ => .int
abbrev wsX130 : List Cond := u_ws RX13 TX13 3
theorem nmX13 : ∀ a, a < 3 → ∀ b, b < 3 → a ≠ b → (TX13 a).2.1 ≠ (TX13 b).2.1 := by decide +kernel
theorem tyX13_ok : ∀ k, k < 3 → parseFieldDescriptor (TX13 k).2.2.1 = some (tyX13 k) := by decide +kernel
theorem q103 : (Jvm.Cond.initialized "LeaningStreet$Text") ∈ lw_all := lw_g (lw_at lw_m1 25 rfl) rfl
theorem q489 : (Jvm.Cond.instantiable "LeaningStreet$Text" (3 : Nat)) ∈ lw_all := lw_g (lw_at lw_m2 171 rfl) rfl
theorem q491 : (Jvm.Cond.instanceMethod ({ cls := "LeaningStreet$Text", name := "<init>", desc := "(ILLeaningStreet$Words;I)V" } : Jvm.MethodName)) ∈ lw_all := lw_g (lw_at lw_m2 173 rfl) rfl
theorem q492 : (Jvm.Cond.code ({ cls := "LeaningStreet$Text", name := "<init>", desc := "(ILLeaningStreet$Words;I)V" } : Jvm.MethodName) prog_14_method_1_code (4 : Nat) (Option.none : Option Jvm.ClassFile.FieldType)) ∈ lw_all := lw_g (lw_at lw_m2 174 rfl) rfl
theorem q493 : (Jvm.Cond.methodLink "LeaningStreet$Text" (1 : Nat) ({ cls := "java/lang/Object", name := "<init>", desc := "()V" } : Jvm.MethodName)) ∈ lw_all := lw_g (lw_at lw_m2 175 rfl) rfl
theorem q494 : (Jvm.Cond.fieldLink "LeaningStreet$Text" (7 : Nat) "LeaningStreet$Text" "key" "I") ∈ lw_all := lw_g (lw_at lw_m2 176 rfl) rfl
theorem q496 : (Jvm.Cond.fieldLink "LeaningStreet$Text" (13 : Nat) "LeaningStreet$Text" "words" "LLeaningStreet$Words;") ∈ lw_all := lw_g (lw_at lw_m2 178 rfl) rfl
theorem q498 : (Jvm.Cond.fieldLink "LeaningStreet$Text" (17 : Nat) "LeaningStreet$Text" "many" "I") ∈ lw_all := lw_g (lw_at lw_m2 180 rfl) rfl
theorem q500 : (Jvm.Cond.laysFinal "LeaningStreet$Text" "LeaningStreet$Text" "key" "I") ∈ lw_all := lw_g (lw_at lw_m2 182 rfl) rfl
theorem q501 : (Jvm.Cond.soleField "LeaningStreet$Text" "key") ∈ lw_all := lw_g (lw_at lw_m2 183 rfl) rfl
theorem q502 : (Jvm.Cond.laysFinal "LeaningStreet$Text" "LeaningStreet$Text" "words" "LLeaningStreet$Words;") ∈ lw_all := lw_g (lw_at lw_m2 184 rfl) rfl
theorem q503 : (Jvm.Cond.soleField "LeaningStreet$Text" "words") ∈ lw_all := lw_g (lw_at lw_m2 185 rfl) rfl
theorem q504 : (Jvm.Cond.laysFinal "LeaningStreet$Text" "LeaningStreet$Text" "many" "I") ∈ lw_all := lw_g (lw_at lw_m2 186 rfl) rfl
theorem q505 : (Jvm.Cond.soleField "LeaningStreet$Text" "many") ∈ lw_all := lw_g (lw_at lw_m2 187 rfl) rfl
theorem q506 : (Jvm.Cond.superclass "LeaningStreet$Text" "java/lang/Object") ∈ lw_all := lw_g (lw_at lw_m2 188 rfl) rfl
theorem in_X13 : ∀ w ∈ wsX130, w ∈ lw_all := lw_in wsX130 [500, 502, 504] (by decide +kernel) (by decide +kernel)

/-! java/lang/NegativeArraySizeException -/
def RJ10 : String := "java/lang/NegativeArraySizeException"
def TJ10 : u_T := fun k => match k with
  | 0 => ("java/lang/Throwable", "backtrace", "Ljava/lang/Object;", false)
  | 1 => ("java/lang/Throwable", "detailMessage", "Ljava/lang/String;", false)
  | 2 => ("java/lang/Throwable", "cause", "Ljava/lang/Throwable;", false)
  | 3 => ("java/lang/Throwable", "stackTrace", "[Ljava/lang/StackTraceElement;", false)
  | 4 => ("java/lang/Throwable", "depth", "I", false)
  | _ => ("java/lang/Throwable", "suppressedExceptions", "Ljava/util/List;", false)
def tyJ10 : Nat → FieldType := fun k => match k with
  | 0 => .object "java/lang/Object"
  | 1 => .object "java/lang/String"
  | 2 => .object "java/lang/Throwable"
  | 3 => .array (.object "java/lang/StackTraceElement")
  | 4 => .int
  | _ => .object "java/util/List"
abbrev wsJ100 : List Cond := u_ws RJ10 TJ10 6
theorem nmJ10 : ∀ a, a < 6 → ∀ b, b < 6 → a ≠ b → (TJ10 a).2.1 ≠ (TJ10 b).2.1 := by decide +kernel
theorem tyJ10_ok : ∀ k, k < 6 → parseFieldDescriptor (TJ10 k).2.2.1 = some (tyJ10 k) := by decide +kernel
theorem q104 : (Jvm.Cond.initialized "java/lang/NegativeArraySizeException") ∈ lw_all := lw_g (lw_at lw_m1 26 rfl) rfl
theorem q191 : (Jvm.Cond.selects "java/lang/NegativeArraySizeException" ({ cls := "java/lang/Throwable", name := "fillInStackTrace", desc := "()Ljava/lang/Throwable;" } : Jvm.MethodName) ({ cls := "java/lang/Throwable", name := "fillInStackTrace", desc := "()Ljava/lang/Throwable;" } : Jvm.MethodName)) ∈ lw_all := lw_g (lw_at lw_m1 113 rfl) rfl
theorem q994 : (Jvm.Cond.instantiable "java/lang/NegativeArraySizeException" (6 : Nat)) ∈ lw_all := lw_g (lw_at lw_m4 196 rfl) rfl
theorem q995 : (Jvm.Cond.instanceMethod ({ cls := "java/lang/NegativeArraySizeException", name := "<init>", desc := "(Ljava/lang/String;)V" } : Jvm.MethodName)) ∈ lw_all := lw_g (lw_at lw_m4 197 rfl) rfl
theorem q996 : (Jvm.Cond.code ({ cls := "java/lang/NegativeArraySizeException", name := "<init>", desc := "(Ljava/lang/String;)V" } : Jvm.MethodName) prog_23_method_2_code (2 : Nat) (Option.none : Option Jvm.ClassFile.FieldType)) ∈ lw_all := lw_g (lw_at lw_m4 198 rfl) rfl
theorem q997 : (Jvm.Cond.methodLink "java/lang/NegativeArraySizeException" (7 : Nat) ({ cls := "java/lang/RuntimeException", name := "<init>", desc := "(Ljava/lang/String;)V" } : Jvm.MethodName)) ∈ lw_all := lw_g (lw_at lw_m4 199 rfl) rfl
theorem q998 : (Jvm.Cond.lays "java/lang/NegativeArraySizeException" "java/lang/Throwable" "backtrace" "Ljava/lang/Object;") ∈ lw_all := lw_g (lw_at lw_m4 200 rfl) rfl
theorem q999 : (Jvm.Cond.lays "java/lang/NegativeArraySizeException" "java/lang/Throwable" "detailMessage" "Ljava/lang/String;") ∈ lw_all := lw_g (lw_at lw_m4 201 rfl) rfl
theorem q1000 : (Jvm.Cond.lays "java/lang/NegativeArraySizeException" "java/lang/Throwable" "cause" "Ljava/lang/Throwable;") ∈ lw_all := lw_g (lw_at lw_m4 202 rfl) rfl
theorem q1001 : (Jvm.Cond.lays "java/lang/NegativeArraySizeException" "java/lang/Throwable" "stackTrace" "[Ljava/lang/StackTraceElement;") ∈ lw_all := lw_g (lw_at lw_m4 203 rfl) rfl
theorem q1002 : (Jvm.Cond.lays "java/lang/NegativeArraySizeException" "java/lang/Throwable" "depth" "I") ∈ lw_all := lw_g (lw_at lw_m4 204 rfl) rfl
theorem q1003 : (Jvm.Cond.lays "java/lang/NegativeArraySizeException" "java/lang/Throwable" "suppressedExceptions" "Ljava/util/List;") ∈ lw_all := lw_g (lw_at lw_m4 205 rfl) rfl
theorem q1004 : (Jvm.Cond.superclass "java/lang/NegativeArraySizeException" "java/lang/RuntimeException") ∈ lw_all := lw_g (lw_at lw_m4 206 rfl) rfl
theorem q1005 : (Jvm.Cond.castable "java/lang/NegativeArraySizeException" "java/lang/NegativeArraySizeException") ∈ lw_tbl := lw_at lw_m4 207 rfl
theorem q1006 : (Jvm.Cond.selects "java/lang/NegativeArraySizeException" ({ cls := "java/lang/Throwable", name := "fillInStackTrace", desc := "(I)Ljava/lang/Throwable;" } : Jvm.MethodName) ({ cls := "java/lang/Throwable", name := "fillInStackTrace", desc := "(I)Ljava/lang/Throwable;" } : Jvm.MethodName)) ∈ lw_all := lw_g (lw_at lw_m4 208 rfl) rfl
theorem in_J10 : ∀ w ∈ wsJ100, w ∈ lw_all := lw_in wsJ100 [998, 999, 1000, 1001, 1002, 1003] (by decide +kernel) (by decide +kernel)

/-! LeaningStreet$Figure -/
def RX14 : String := "LeaningStreet$Figure"
def TX14 : u_T := fun k => match k with
  | _ => ("LeaningStreet$Figure", "v", "I", true)
def tyX14 : Nat → FieldType := fun k => match k with
  | _ => .int
abbrev wsX140 : List Cond := u_ws RX14 TX14 1
theorem nmX14 : ∀ a, a < 1 → ∀ b, b < 1 → a ≠ b → (TX14 a).2.1 ≠ (TX14 b).2.1 := by decide +kernel
theorem tyX14_ok : ∀ k, k < 1 → parseFieldDescriptor (TX14 k).2.2.1 = some (tyX14 k) := by decide +kernel
theorem q105 : (Jvm.Cond.initialized "LeaningStreet$Figure") ∈ lw_all := lw_g (lw_at lw_m1 27 rfl) rfl
theorem q1114 : (Jvm.Cond.instantiable "LeaningStreet$Figure" (1 : Nat)) ∈ lw_all := lw_g (lw_at lw_m5 76 rfl) rfl
theorem q1116 : (Jvm.Cond.instanceMethod ({ cls := "LeaningStreet$Figure", name := "<init>", desc := "(I)V" } : Jvm.MethodName)) ∈ lw_all := lw_g (lw_at lw_m5 78 rfl) rfl
theorem q1117 : (Jvm.Cond.code ({ cls := "LeaningStreet$Figure", name := "<init>", desc := "(I)V" } : Jvm.MethodName) prog_7_method_1_code (2 : Nat) (Option.none : Option Jvm.ClassFile.FieldType)) ∈ lw_all := lw_g (lw_at lw_m5 79 rfl) rfl
theorem q1118 : (Jvm.Cond.methodLink "LeaningStreet$Figure" (1 : Nat) ({ cls := "java/lang/Object", name := "<init>", desc := "()V" } : Jvm.MethodName)) ∈ lw_all := lw_g (lw_at lw_m5 80 rfl) rfl
theorem q1119 : (Jvm.Cond.fieldLink "LeaningStreet$Figure" (7 : Nat) "LeaningStreet$Figure" "v" "I") ∈ lw_all := lw_g (lw_at lw_m5 81 rfl) rfl
theorem q1121 : (Jvm.Cond.laysFinal "LeaningStreet$Figure" "LeaningStreet$Figure" "v" "I") ∈ lw_all := lw_g (lw_at lw_m5 83 rfl) rfl
theorem q1122 : (Jvm.Cond.soleField "LeaningStreet$Figure" "v") ∈ lw_all := lw_g (lw_at lw_m5 84 rfl) rfl
theorem q1123 : (Jvm.Cond.superclass "LeaningStreet$Figure" "java/lang/Object") ∈ lw_all := lw_g (lw_at lw_m5 85 rfl) rfl
theorem in_X14 : ∀ w ∈ wsX140, w ∈ lw_all := lw_in wsX140 [1121] (by decide +kernel) (by decide +kernel)

/-! java/lang/Object -/
def RJ11 : String := "java/lang/Object"
theorem q112 : (Jvm.Cond.instanceMethod ({ cls := "java/lang/Object", name := "<init>", desc := "()V" } : Jvm.MethodName)) ∈ lw_all := lw_g (lw_at lw_m1 34 rfl) rfl
theorem q113 : (Jvm.Cond.code ({ cls := "java/lang/Object", name := "<init>", desc := "()V" } : Jvm.MethodName) object_method_1_code (1 : Nat) (Option.none : Option Jvm.ClassFile.FieldType)) ∈ lw_all := lw_g (lw_at lw_m1 35 rfl) rfl

/-! LeaningStreet$Pushes -/
def RX15 : String := "LeaningStreet$Pushes"
theorem q682 : (Jvm.Cond.declares ({ cls := "LeaningStreet$Pushes", name := "pushes", desc := "(I)I" } : Jvm.MethodName)) ∈ lw_tbl := lw_at lw_m3 124 rfl
theorem q686 : (Jvm.Cond.instanceMethod ({ cls := "LeaningStreet$Pushes", name := "pushes", desc := "(I)I" } : Jvm.MethodName)) ∈ lw_all := lw_g (lw_at lw_m3 128 rfl) rfl
theorem q687 : (Jvm.Cond.code ({ cls := "LeaningStreet$Pushes", name := "pushes", desc := "(I)I" } : Jvm.MethodName) prog_10_method_1_code (2 : Nat) (Option.some Jvm.ClassFile.FieldType.int)) ∈ lw_all := lw_g (lw_at lw_m3 129 rfl) rfl
theorem q704 : (Jvm.Cond.publicMethod ({ cls := "LeaningStreet$Pushes", name := "pushes", desc := "(I)I" } : Jvm.MethodName)) ∈ lw_tbl := lw_at lw_m3 146 rfl

theorem q121 : (Jvm.Cond.arrayOver (Jvm.ClassFile.FieldType.object "LeaningStreet$House")) ∈ lw_tbl := lw_at lw_m1 43 rfl
theorem q123 : (Jvm.Cond.arrayOver (Jvm.ClassFile.FieldType.object "LeaningStreet$Text")) ∈ lw_tbl := lw_at lw_m1 45 rfl
theorem q224 : (Jvm.Cond.arrayClass Jvm.ClassFile.FieldType.int) ∈ lw_all := lw_g (lw_at lw_m1 146 rfl) rfl
theorem q225 : (Jvm.Cond.arrayClass Jvm.ClassFile.FieldType.byte) ∈ lw_all := lw_g (lw_at lw_m1 147 rfl) rfl
theorem q227 : (Jvm.Cond.arrayOver (Jvm.ClassFile.FieldType.object "LeaningStreet$Sheet")) ∈ lw_tbl := lw_at lw_m1 149 rfl
theorem q239 : (Jvm.Cond.arrayOver (Jvm.ClassFile.FieldType.object "LeaningStreet$Slot")) ∈ lw_tbl := lw_at lw_m1 161 rfl
theorem q326 : (Jvm.Cond.arrayClass Jvm.ClassFile.FieldType.float) ∈ lw_all := lw_g (lw_at lw_m2 8 rfl) rfl
theorem q1014 : (Jvm.Cond.arrayClass Jvm.ClassFile.FieldType.short) ∈ lw_all := lw_g (lw_at lw_m4 216 rfl) rfl

theorem q78 : (Jvm.Cond.initialized "LeaningStreetLaw") ∈ lw_all := lw_g (lw_at lw_m1 0 rfl) rfl
theorem q106 : (Jvm.Cond.classLink "LeaningStreetLaw" (7 : Nat) "LeaningStreet") ∈ lw_all := lw_g (lw_at lw_m1 28 rfl) rfl
theorem q108 : (Jvm.Cond.methodLink "LeaningStreetLaw" (9 : Nat) ({ cls := "LeaningStreet", name := "<init>", desc := "()V" } : Jvm.MethodName)) ∈ lw_all := lw_g (lw_at lw_m1 30 rfl) rfl
theorem q327 : (Jvm.Cond.methodLink "LeaningStreetLaw" (102 : Nat) ({ cls := "LeaningStreet", name := "feed", desc := "(III)I" } : Jvm.MethodName)) ∈ lw_all := lw_g (lw_at lw_m2 9 rfl) rfl
theorem q336 : (Jvm.Cond.methodLink "LeaningStreetLaw" (106 : Nat) ({ cls := "LeaningStreet", name := "trim", desc := "(I)I" } : Jvm.MethodName)) ∈ lw_all := lw_g (lw_at lw_m2 18 rfl) rfl
theorem q344 : (Jvm.Cond.methodLink "LeaningStreetLaw" (110 : Nat) ({ cls := "LeaningStreet", name := "text", desc := "()I" } : Jvm.MethodName)) ∈ lw_all := lw_g (lw_at lw_m2 26 rfl) rfl
theorem q507 : (Jvm.Cond.methodLink "LeaningStreetLaw" (114 : Nat) ({ cls := "LeaningStreet", name := "textTold", desc := "(II)I" } : Jvm.MethodName)) ∈ lw_all := lw_g (lw_at lw_m2 189 rfl) rfl
theorem q511 : (Jvm.Cond.methodLink "LeaningStreetLaw" (118 : Nat) ({ cls := "LeaningStreet", name := "why", desc := "(I)I" } : Jvm.MethodName)) ∈ lw_all := lw_g (lw_at lw_m2 193 rfl) rfl
theorem q523 : (Jvm.Cond.methodLink "LeaningStreetLaw" (13 : Nat) ({ cls := "LeaningStreet", name := "house", desc := "(IIII)I" } : Jvm.MethodName)) ∈ lw_all := lw_g (lw_at lw_m2 205 rfl) rfl
theorem q636 : (Jvm.Cond.methodLink "LeaningStreetLaw" (18 : Nat) ({ cls := "LeaningStreet", name := "told", desc := "(II)I" } : Jvm.MethodName)) ∈ lw_all := lw_g (lw_at lw_m3 78 rfl) rfl
theorem q766 : (Jvm.Cond.methodLink "LeaningStreetLaw" (23 : Nat) ({ cls := "LeaningStreet", name := "as", desc := "(II)I" } : Jvm.MethodName)) ∈ lw_all := lw_g (lw_at lw_m3 208 rfl) rfl
theorem q801 : (Jvm.Cond.methodLink "LeaningStreetLaw" (27 : Nat) ({ cls := "LeaningStreet", name := "turns", desc := "(II)I" } : Jvm.MethodName)) ∈ lw_all := lw_g (lw_at lw_m4 3 rfl) rfl
theorem q815 : (Jvm.Cond.methodLink "LeaningStreetLaw" (31 : Nat) ({ cls := "LeaningStreet", name := "set", desc := "(III)I" } : Jvm.MethodName)) ∈ lw_all := lw_g (lw_at lw_m4 17 rfl) rfl
theorem q822 : (Jvm.Cond.methodLink "LeaningStreetLaw" (36 : Nat) ({ cls := "LeaningStreet", name := "fells", desc := "(I)I" } : Jvm.MethodName)) ∈ lw_all := lw_g (lw_at lw_m4 24 rfl) rfl
theorem q843 : (Jvm.Cond.methodLink "LeaningStreetLaw" (41 : Nat) ({ cls := "LeaningStreet", name := "raises", desc := "(I)I" } : Jvm.MethodName)) ∈ lw_all := lw_g (lw_at lw_m4 45 rfl) rfl
theorem q847 : (Jvm.Cond.methodLink "LeaningStreetLaw" (45 : Nat) ({ cls := "LeaningStreet", name := "snow", desc := "(I)I" } : Jvm.MethodName)) ∈ lw_all := lw_g (lw_at lw_m4 49 rfl) rfl
theorem q851 : (Jvm.Cond.methodLink "LeaningStreetLaw" (49 : Nat) ({ cls := "LeaningStreet", name := "deal", desc := "(I)I" } : Jvm.MethodName)) ∈ lw_all := lw_g (lw_at lw_m4 53 rfl) rfl
theorem q860 : (Jvm.Cond.methodLink "LeaningStreetLaw" (53 : Nat) ({ cls := "LeaningStreet", name := "seed", desc := "(I)I" } : Jvm.MethodName)) ∈ lw_all := lw_g (lw_at lw_m4 62 rfl) rfl
theorem q864 : (Jvm.Cond.methodLink "LeaningStreetLaw" (57 : Nat) ({ cls := "LeaningStreet", name := "days", desc := "(I)I" } : Jvm.MethodName)) ∈ lw_all := lw_g (lw_at lw_m4 66 rfl) rfl
theorem q896 : (Jvm.Cond.methodLink "LeaningStreetLaw" (61 : Nat) ({ cls := "LeaningStreet", name := "street", desc := "(I)I" } : Jvm.MethodName)) ∈ lw_all := lw_g (lw_at lw_m4 98 rfl) rfl
theorem q904 : (Jvm.Cond.methodLink "LeaningStreetLaw" (65 : Nat) ({ cls := "LeaningStreet", name := "behind", desc := "(II)I" } : Jvm.MethodName)) ∈ lw_all := lw_g (lw_at lw_m4 106 rfl) rfl
theorem q957 : (Jvm.Cond.methodLink "LeaningStreetLaw" (69 : Nat) ({ cls := "LeaningStreet", name := "lasts", desc := "()I" } : Jvm.MethodName)) ∈ lw_all := lw_g (lw_at lw_m4 159 rfl) rfl
theorem q961 : (Jvm.Cond.methodLink "LeaningStreetLaw" (74 : Nat) ({ cls := "LeaningStreet", name := "taken", desc := "(II)I" } : Jvm.MethodName)) ∈ lw_all := lw_g (lw_at lw_m4 163 rfl) rfl
theorem q969 : (Jvm.Cond.methodLink "LeaningStreetLaw" (78 : Nat) ({ cls := "LeaningStreet", name := "propped", desc := "(I)I" } : Jvm.MethodName)) ∈ lw_all := lw_g (lw_at lw_m4 171 rfl) rfl
theorem q973 : (Jvm.Cond.methodLink "LeaningStreetLaw" (82 : Nat) ({ cls := "LeaningStreet", name := "wall", desc := "(II)I" } : Jvm.MethodName)) ∈ lw_all := lw_g (lw_at lw_m4 175 rfl) rfl
theorem q977 : (Jvm.Cond.methodLink "LeaningStreetLaw" (86 : Nat) ({ cls := "LeaningStreet", name := "snows", desc := "(I)I" } : Jvm.MethodName)) ∈ lw_all := lw_g (lw_at lw_m4 179 rfl) rfl
theorem q981 : (Jvm.Cond.methodLink "LeaningStreetLaw" (94 : Nat) ({ cls := "LeaningStreet", name := "fee", desc := "()I" } : Jvm.MethodName)) ∈ lw_all := lw_g (lw_at lw_m4 183 rfl) rfl
theorem q985 : (Jvm.Cond.methodLink "LeaningStreetLaw" (98 : Nat) ({ cls := "LeaningStreet", name := "fine", desc := "(I)I" } : Jvm.MethodName)) ∈ lw_all := lw_g (lw_at lw_m4 187 rfl) rfl
theorem q989 : (Jvm.Cond.methodLink "LeaningStreetLaw" (122 : Nat) ({ cls := "LeaningStreet", name := "sheet", desc := "(III)I" } : Jvm.MethodName)) ∈ lw_all := lw_g (lw_at lw_m4 191 rfl) rfl
theorem q1015 : (Jvm.Cond.methodLink "LeaningStreetLaw" (126 : Nat) ({ cls := "LeaningStreet", name := "mark", desc := "(III)I" } : Jvm.MethodName)) ∈ lw_all := lw_g (lw_at lw_m4 217 rfl) rfl
theorem q1047 : (Jvm.Cond.methodLink "LeaningStreetLaw" (130 : Nat) ({ cls := "LeaningStreet", name := "pour", desc := "(I)I" } : Jvm.MethodName)) ∈ lw_all := lw_g (lw_at lw_m5 9 rfl) rfl
theorem q1059 : (Jvm.Cond.methodLink "LeaningStreetLaw" (134 : Nat) ({ cls := "LeaningStreet", name := "reads", desc := "(I)I" } : Jvm.MethodName)) ∈ lw_all := lw_g (lw_at lw_m5 21 rfl) rfl
theorem q1063 : (Jvm.Cond.methodLink "LeaningStreetLaw" (90 : Nat) ({ cls := "LeaningStreet", name := "began", desc := "(III)I" } : Jvm.MethodName)) ∈ lw_all := lw_g (lw_at lw_m5 25 rfl) rfl
theorem q1074 : (Jvm.Cond.methodLink "LeaningStreetLaw" (138 : Nat) ({ cls := "LeaningStreet", name := "copy", desc := "(IIIII)I" } : Jvm.MethodName)) ∈ lw_all := lw_g (lw_at lw_m5 36 rfl) rfl
theorem q1084 : (Jvm.Cond.methodLink "LeaningStreetLaw" (143 : Nat) ({ cls := "LeaningStreet", name := "lay", desc := "(III)I" } : Jvm.MethodName)) ∈ lw_all := lw_g (lw_at lw_m5 46 rfl) rfl
theorem q1124 : (Jvm.Cond.methodLink "LeaningStreetLaw" (147 : Nat) ({ cls := "LeaningStreet", name := "ask", desc := "(II)I" } : Jvm.MethodName)) ∈ lw_all := lw_g (lw_at lw_m5 86 rfl) rfl
theorem q1156 : (Jvm.Cond.methodLink "LeaningStreetLaw" (151 : Nat) ({ cls := "LeaningStreet", name := "item", desc := "(II)I" } : Jvm.MethodName)) ∈ lw_all := lw_g (lw_at lw_m5 118 rfl) rfl
theorem q1160 : (Jvm.Cond.methodLink "LeaningStreetLaw" (155 : Nat) ({ cls := "LeaningStreet", name := "rest", desc := "(II)I" } : Jvm.MethodName)) ∈ lw_all := lw_g (lw_at lw_m5 122 rfl) rfl
theorem q1164 : (Jvm.Cond.methodLink "LeaningStreetLaw" (159 : Nat) ({ cls := "LeaningStreet", name := "tell", desc := "(I)I" } : Jvm.MethodName)) ∈ lw_all := lw_g (lw_at lw_m5 126 rfl) rfl
theorem q1168 : (Jvm.Cond.methodLink "LeaningStreetLaw" (163 : Nat) ({ cls := "LeaningStreet", name := "check", desc := "(I)I" } : Jvm.MethodName)) ∈ lw_all := lw_g (lw_at lw_m5 130 rfl) rfl
theorem q1176 : (Jvm.Cond.methodLink "LeaningStreetLaw" (167 : Nat) ({ cls := "LeaningStreet", name := "keep", desc := "()I" } : Jvm.MethodName)) ∈ lw_all := lw_g (lw_at lw_m5 138 rfl) rfl
theorem q1180 : (Jvm.Cond.methodLink "LeaningStreetLaw" (171 : Nat) ({ cls := "LeaningStreet", name := "back", desc := "()I" } : Jvm.MethodName)) ∈ lw_all := lw_g (lw_at lw_m5 142 rfl) rfl
theorem q1184 : (Jvm.Cond.methodLink "LeaningStreetLaw" (175 : Nat) ({ cls := "LeaningStreet", name := "count", desc := "(I)I" } : Jvm.MethodName)) ∈ lw_all := lw_g (lw_at lw_m5 146 rfl) rfl
theorem q1188 : (Jvm.Cond.classLink "LeaningStreetLaw" (10 : Nat) "LeaningStreetModel") ∈ lw_all := lw_g (lw_at lw_m5 150 rfl) rfl
theorem q1190 : (Jvm.Cond.methodLink "LeaningStreetLaw" (12 : Nat) ({ cls := "LeaningStreetModel", name := "<init>", desc := "()V" } : Jvm.MethodName)) ∈ lw_all := lw_g (lw_at lw_m5 152 rfl) rfl
theorem q1294 : (Jvm.Cond.methodLink "LeaningStreetLaw" (17 : Nat) ({ cls := "LeaningStreetModel", name := "house", desc := "(IIII)I" } : Jvm.MethodName)) ∈ lw_all := lw_g (lw_at lw_m6 16 rfl) rfl
theorem q1320 : (Jvm.Cond.methodLink "LeaningStreetLaw" (22 : Nat) ({ cls := "LeaningStreetModel", name := "told", desc := "(II)I" } : Jvm.MethodName)) ∈ lw_all := lw_g (lw_at lw_m6 42 rfl) rfl
theorem q1381 : (Jvm.Cond.methodLink "LeaningStreetLaw" (26 : Nat) ({ cls := "LeaningStreetModel", name := "as", desc := "(II)I" } : Jvm.MethodName)) ∈ lw_all := lw_g (lw_at lw_m6 103 rfl) rfl
theorem q1389 : (Jvm.Cond.methodLink "LeaningStreetLaw" (30 : Nat) ({ cls := "LeaningStreetModel", name := "turns", desc := "(II)I" } : Jvm.MethodName)) ∈ lw_all := lw_g (lw_at lw_m6 111 rfl) rfl
theorem q1397 : (Jvm.Cond.methodLink "LeaningStreetLaw" (35 : Nat) ({ cls := "LeaningStreetModel", name := "set", desc := "(III)I" } : Jvm.MethodName)) ∈ lw_all := lw_g (lw_at lw_m6 119 rfl) rfl
theorem q1401 : (Jvm.Cond.methodLink "LeaningStreetLaw" (40 : Nat) ({ cls := "LeaningStreetModel", name := "fells", desc := "(I)I" } : Jvm.MethodName)) ∈ lw_all := lw_g (lw_at lw_m6 123 rfl) rfl
theorem q1413 : (Jvm.Cond.methodLink "LeaningStreetLaw" (44 : Nat) ({ cls := "LeaningStreetModel", name := "raises", desc := "(I)I" } : Jvm.MethodName)) ∈ lw_all := lw_g (lw_at lw_m6 135 rfl) rfl
theorem q1417 : (Jvm.Cond.methodLink "LeaningStreetLaw" (48 : Nat) ({ cls := "LeaningStreetModel", name := "snow", desc := "(I)I" } : Jvm.MethodName)) ∈ lw_all := lw_g (lw_at lw_m6 139 rfl) rfl
theorem q1423 : (Jvm.Cond.methodLink "LeaningStreetLaw" (52 : Nat) ({ cls := "LeaningStreetModel", name := "deal", desc := "(I)I" } : Jvm.MethodName)) ∈ lw_all := lw_g (lw_at lw_m6 145 rfl) rfl
theorem q1432 : (Jvm.Cond.methodLink "LeaningStreetLaw" (56 : Nat) ({ cls := "LeaningStreetModel", name := "seed", desc := "(I)I" } : Jvm.MethodName)) ∈ lw_all := lw_g (lw_at lw_m6 154 rfl) rfl
theorem q1436 : (Jvm.Cond.methodLink "LeaningStreetLaw" (60 : Nat) ({ cls := "LeaningStreetModel", name := "days", desc := "(I)I" } : Jvm.MethodName)) ∈ lw_all := lw_g (lw_at lw_m6 158 rfl) rfl
theorem q1449 : (Jvm.Cond.methodLink "LeaningStreetLaw" (64 : Nat) ({ cls := "LeaningStreetModel", name := "street", desc := "(I)I" } : Jvm.MethodName)) ∈ lw_all := lw_g (lw_at lw_m6 171 rfl) rfl
theorem q1461 : (Jvm.Cond.methodLink "LeaningStreetLaw" (68 : Nat) ({ cls := "LeaningStreetModel", name := "behind", desc := "(II)I" } : Jvm.MethodName)) ∈ lw_all := lw_g (lw_at lw_m6 183 rfl) rfl
theorem q1477 : (Jvm.Cond.methodLink "LeaningStreetLaw" (73 : Nat) ({ cls := "LeaningStreetModel", name := "lasts", desc := "()I" } : Jvm.MethodName)) ∈ lw_all := lw_g (lw_at lw_m6 199 rfl) rfl
theorem q1485 : (Jvm.Cond.methodLink "LeaningStreetLaw" (77 : Nat) ({ cls := "LeaningStreetModel", name := "taken", desc := "(II)I" } : Jvm.MethodName)) ∈ lw_all := lw_g (lw_at lw_m6 207 rfl) rfl
theorem q1490 : (Jvm.Cond.methodLink "LeaningStreetLaw" (81 : Nat) ({ cls := "LeaningStreetModel", name := "propped", desc := "(I)I" } : Jvm.MethodName)) ∈ lw_all := lw_g (lw_at lw_m6 212 rfl) rfl
theorem q1499 : (Jvm.Cond.methodLink "LeaningStreetLaw" (85 : Nat) ({ cls := "LeaningStreetModel", name := "wall", desc := "(II)I" } : Jvm.MethodName)) ∈ lw_all := lw_g (lw_at lw_m6 221 rfl) rfl
theorem q1503 : (Jvm.Cond.methodLink "LeaningStreetLaw" (89 : Nat) ({ cls := "LeaningStreetModel", name := "snows", desc := "(I)I" } : Jvm.MethodName)) ∈ lw_all := lw_g (lw_at lw_m6 225 rfl) rfl
theorem q1507 : (Jvm.Cond.methodLink "LeaningStreetLaw" (97 : Nat) ({ cls := "LeaningStreetModel", name := "fee", desc := "()I" } : Jvm.MethodName)) ∈ lw_all := lw_g (lw_at lw_m6 229 rfl) rfl
theorem q1511 : (Jvm.Cond.methodLink "LeaningStreetLaw" (101 : Nat) ({ cls := "LeaningStreetModel", name := "fine", desc := "(I)I" } : Jvm.MethodName)) ∈ lw_all := lw_g (lw_at lw_m6 233 rfl) rfl
theorem q1515 : (Jvm.Cond.methodLink "LeaningStreetLaw" (105 : Nat) ({ cls := "LeaningStreetModel", name := "feed", desc := "(III)I" } : Jvm.MethodName)) ∈ lw_all := lw_g (lw_at lw_m6 237 rfl) rfl
theorem q1519 : (Jvm.Cond.methodLink "LeaningStreetLaw" (109 : Nat) ({ cls := "LeaningStreetModel", name := "trim", desc := "(I)I" } : Jvm.MethodName)) ∈ lw_all := lw_g (lw_at lw_m7 1 rfl) rfl
theorem q1523 : (Jvm.Cond.methodLink "LeaningStreetLaw" (113 : Nat) ({ cls := "LeaningStreetModel", name := "text", desc := "()I" } : Jvm.MethodName)) ∈ lw_all := lw_g (lw_at lw_m7 5 rfl) rfl
theorem q1590 : (Jvm.Cond.methodLink "LeaningStreetLaw" (117 : Nat) ({ cls := "LeaningStreetModel", name := "textTold", desc := "(II)I" } : Jvm.MethodName)) ∈ lw_all := lw_g (lw_at lw_m7 72 rfl) rfl
theorem q1598 : (Jvm.Cond.methodLink "LeaningStreetLaw" (121 : Nat) ({ cls := "LeaningStreetModel", name := "why", desc := "(I)I" } : Jvm.MethodName)) ∈ lw_all := lw_g (lw_at lw_m7 80 rfl) rfl
theorem q1603 : (Jvm.Cond.methodLink "LeaningStreetLaw" (125 : Nat) ({ cls := "LeaningStreetModel", name := "sheet", desc := "(III)I" } : Jvm.MethodName)) ∈ lw_all := lw_g (lw_at lw_m7 85 rfl) rfl
theorem q1613 : (Jvm.Cond.methodLink "LeaningStreetLaw" (129 : Nat) ({ cls := "LeaningStreetModel", name := "mark", desc := "(III)I" } : Jvm.MethodName)) ∈ lw_all := lw_g (lw_at lw_m7 95 rfl) rfl
theorem q1621 : (Jvm.Cond.methodLink "LeaningStreetLaw" (133 : Nat) ({ cls := "LeaningStreetModel", name := "pour", desc := "(I)I" } : Jvm.MethodName)) ∈ lw_all := lw_g (lw_at lw_m7 103 rfl) rfl
theorem q1625 : (Jvm.Cond.methodLink "LeaningStreetLaw" (137 : Nat) ({ cls := "LeaningStreetModel", name := "reads", desc := "(I)I" } : Jvm.MethodName)) ∈ lw_all := lw_g (lw_at lw_m7 107 rfl) rfl
theorem q1629 : (Jvm.Cond.methodLink "LeaningStreetLaw" (93 : Nat) ({ cls := "LeaningStreetModel", name := "began", desc := "(III)I" } : Jvm.MethodName)) ∈ lw_all := lw_g (lw_at lw_m7 111 rfl) rfl
theorem q1633 : (Jvm.Cond.methodLink "LeaningStreetLaw" (142 : Nat) ({ cls := "LeaningStreetModel", name := "copy", desc := "(IIIII)I" } : Jvm.MethodName)) ∈ lw_all := lw_g (lw_at lw_m7 115 rfl) rfl
theorem q1637 : (Jvm.Cond.methodLink "LeaningStreetLaw" (146 : Nat) ({ cls := "LeaningStreetModel", name := "lay", desc := "(III)I" } : Jvm.MethodName)) ∈ lw_all := lw_g (lw_at lw_m7 119 rfl) rfl
theorem q1645 : (Jvm.Cond.methodLink "LeaningStreetLaw" (150 : Nat) ({ cls := "LeaningStreetModel", name := "ask", desc := "(II)I" } : Jvm.MethodName)) ∈ lw_all := lw_g (lw_at lw_m7 127 rfl) rfl
theorem q1649 : (Jvm.Cond.methodLink "LeaningStreetLaw" (154 : Nat) ({ cls := "LeaningStreetModel", name := "item", desc := "(II)I" } : Jvm.MethodName)) ∈ lw_all := lw_g (lw_at lw_m7 131 rfl) rfl
theorem q1653 : (Jvm.Cond.methodLink "LeaningStreetLaw" (158 : Nat) ({ cls := "LeaningStreetModel", name := "rest", desc := "(II)I" } : Jvm.MethodName)) ∈ lw_all := lw_g (lw_at lw_m7 135 rfl) rfl
theorem q1657 : (Jvm.Cond.methodLink "LeaningStreetLaw" (162 : Nat) ({ cls := "LeaningStreetModel", name := "tell", desc := "(I)I" } : Jvm.MethodName)) ∈ lw_all := lw_g (lw_at lw_m7 139 rfl) rfl
theorem q1661 : (Jvm.Cond.methodLink "LeaningStreetLaw" (166 : Nat) ({ cls := "LeaningStreetModel", name := "check", desc := "(I)I" } : Jvm.MethodName)) ∈ lw_all := lw_g (lw_at lw_m7 143 rfl) rfl
theorem q1670 : (Jvm.Cond.methodLink "LeaningStreetLaw" (170 : Nat) ({ cls := "LeaningStreetModel", name := "keep", desc := "()I" } : Jvm.MethodName)) ∈ lw_all := lw_g (lw_at lw_m7 152 rfl) rfl
theorem q1674 : (Jvm.Cond.methodLink "LeaningStreetLaw" (174 : Nat) ({ cls := "LeaningStreetModel", name := "back", desc := "()I" } : Jvm.MethodName)) ∈ lw_all := lw_g (lw_at lw_m7 156 rfl) rfl
theorem q1678 : (Jvm.Cond.methodLink "LeaningStreetLaw" (178 : Nat) ({ cls := "LeaningStreetModel", name := "count", desc := "(I)I" } : Jvm.MethodName)) ∈ lw_all := lw_g (lw_at lw_m7 160 rfl) rfl

theorem q98 : (Jvm.Cond.initialized "java/lang/System") ∈ lw_all := lw_g (lw_at lw_m1 20 rfl) rfl
theorem q951 : (Jvm.Cond.static ({ cls := "java/lang/System", name := "arraycopy", desc := "(Ljava/lang/Object;ILjava/lang/Object;II)V" } : Jvm.MethodName)) ∈ lw_all := lw_g (lw_at lw_m4 153 rfl) rfl
theorem q952 : (Jvm.Cond.native ({ cls := "java/lang/System", name := "arraycopy", desc := "(Ljava/lang/Object;ILjava/lang/Object;II)V" } : Jvm.MethodName)) ∈ lw_all := lw_g (lw_at lw_m4 154 rfl) rfl

theorem q1130 : (Jvm.Cond.interfaceMethod "LeaningStreet$Bears" "LeaningStreet$Bears" "worth" "()I") ∈ lw_tbl := lw_at lw_m5 92 rfl
theorem q1131 : (Jvm.Cond.declares ({ cls := "LeaningStreet$Bears", name := "worth", desc := "()I" } : Jvm.MethodName)) ∈ lw_tbl := lw_at lw_m5 93 rfl

