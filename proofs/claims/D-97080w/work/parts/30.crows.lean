set_option maxRecDepth 100000
/-! ===== the component: its layout; words that are carried at its contracts ===== -/
def cI (k : Nat) : Bool := k == 4 || k == 7 || (Nat.ble 9 k && Nat.ble k 15) || k == 23
def cAR : List Nat := [5, 6, 16, 17, 18, 22, 24]
def csz : Nat → Nat := fun k => match k with
  | 5 => 96
  | 6 => 96
  | 16 => 128
  | 17 => 9
  | 18 => 9
  | _ => 60
def cty : Nat → Nat := fun k => match k with
  | 6 => 1
  | _ => 0
def cL : gL := (13, 25, cI, cAR, csz, cty)
def cNW : List Cond := [(Jvm.Cond.methodLinkNest "LeaningStreet" (39 : Nat) ({ cls := "LeaningStreet$State", name := "<init>", desc := "()V" } : Jvm.MethodName) "LeaningStreet"),
  (Jvm.Cond.fieldLinkNest "LeaningStreet" (361 : Nat) "LeaningStreet$State" "z" "I" "LeaningStreet"),
  (Jvm.Cond.fieldLinkNest "LeaningStreet" (101 : Nat) "LeaningStreet$State" "many" "I" "LeaningStreet"),
  (Jvm.Cond.fieldLinkNest "LeaningStreet" (267 : Nat) "LeaningStreet$State" "house" "[LLeaningStreet$House;" "LeaningStreet"),
  (Jvm.Cond.fieldLinkNest "LeaningStreet" (312 : Nat) "LeaningStreet$State" "snow" "I" "LeaningStreet"),
  (Jvm.Cond.fieldLinkNest "LeaningStreet" (376 : Nat) "LeaningStreet$State" "rent" "I" "LeaningStreet"),
  (Jvm.Cond.fieldLinkNest "LeaningStreet" (382 : Nat) "LeaningStreet$State" "day" "I" "LeaningStreet"),
  (Jvm.Cond.fieldLinkNest "LeaningStreet" (237 : Nat) "LeaningStreet$State" "texts" "I" "LeaningStreet"),
  (Jvm.Cond.fieldLinkNest "LeaningStreet" (240 : Nat) "LeaningStreet$State" "text" "[LLeaningStreet$Text;" "LeaningStreet"),
  (Jvm.Cond.castable "LeaningStreet$Fault" "LeaningStreet$Fault"),
  (Jvm.Cond.declares ({ cls := "java/lang/RuntimeException", name := "<init>", desc := "()V" } : Jvm.MethodName)),
  (Jvm.Cond.declares ({ cls := "java/lang/RuntimeException", name := "<init>", desc := "(Ljava/lang/String;)V" } : Jvm.MethodName)),
  (Jvm.Cond.declares ({ cls := "java/lang/Exception", name := "<init>", desc := "()V" } : Jvm.MethodName)),
  (Jvm.Cond.declares ({ cls := "java/lang/Exception", name := "<init>", desc := "(Ljava/lang/String;)V" } : Jvm.MethodName)),
  (Jvm.Cond.declares ({ cls := "java/lang/Throwable", name := "<init>", desc := "()V" } : Jvm.MethodName)),
  (Jvm.Cond.declares ({ cls := "java/lang/Throwable", name := "<init>", desc := "(Ljava/lang/String;)V" } : Jvm.MethodName)),
  (Jvm.Cond.methodLinkNest "LeaningStreet" (63 : Nat) ({ cls := "LeaningStreet$Fault", name := "<init>", desc := "()V" } : Jvm.MethodName) "LeaningStreet"),
  (Jvm.Cond.fieldLinkNest "LeaningStreet" (134 : Nat) "LeaningStreet$Fault" "place" "I" "LeaningStreet"),
  (Jvm.Cond.methodLinkNest "LeaningStreet" (79 : Nat) ({ cls := "LeaningStreet$Sheet", name := "<init>", desc := "()V" } : Jvm.MethodName) "LeaningStreet"),
  (Jvm.Cond.fieldLinkNest "LeaningStreet" (409 : Nat) "LeaningStreet$Sheet" "row" "Ljava/lang/Object;" "LeaningStreet"),
  (Jvm.Cond.methodLinkNest "LeaningStreet" (86 : Nat) ({ cls := "LeaningStreet$Slot", name := "<init>", desc := "()V" } : Jvm.MethodName) "LeaningStreet"),
  (Jvm.Cond.fieldLinkNest "LeaningStreet" (488 : Nat) "LeaningStreet$Slot" "held" "Ljava/lang/Object;" "LeaningStreet"),
  (Jvm.Cond.methodLinkNest "LeaningStreet" (166 : Nat) ({ cls := "LeaningStreet$Words", name := "<init>", desc := "()V" } : Jvm.MethodName) "LeaningStreet"),
  (Jvm.Cond.fieldLinkNest "LeaningStreet" (112 : Nat) "LeaningStreet$Words" "word" "[I" "LeaningStreet"),
  (Jvm.Cond.fieldLinkNest "LeaningStreet" (115 : Nat) "LeaningStreet$Words" "value" "[I" "LeaningStreet"),
  (Jvm.Cond.fieldLinkNest "LeaningStreet" (109 : Nat) "LeaningStreet$Words" "many" "I" "LeaningStreet"),
  (Jvm.Cond.fieldLinkNest "LeaningStreet" (244 : Nat) "LeaningStreet$Text" "key" "I" "LeaningStreet"),
  (Jvm.Cond.fieldLinkNest "LeaningStreet" (291 : Nat) "LeaningStreet$Text" "words" "LLeaningStreet$Words;" "LeaningStreet"),
  (Jvm.Cond.fieldLinkNest "LeaningStreet" (246 : Nat) "LeaningStreet$Text" "many" "I" "LeaningStreet"),
  (Jvm.Cond.methodLinkNest "LeaningStreet" (15 : Nat) ({ cls := "LeaningStreet$TimberHouse", name := "<init>", desc := "()V" } : Jvm.MethodName) "LeaningStreet"),
  (Jvm.Cond.methodLinkNest "LeaningStreet$TimberHouse" (3 : Nat) ({ cls := "LeaningStreet$House", name := "<init>", desc := "()V" } : Jvm.MethodName) "LeaningStreet"),
  (Jvm.Cond.methodLinkNest "LeaningStreet" (21 : Nat) ({ cls := "LeaningStreet$BrickHouse", name := "<init>", desc := "()V" } : Jvm.MethodName) "LeaningStreet"),
  (Jvm.Cond.methodLinkNest "LeaningStreet$BrickHouse" (3 : Nat) ({ cls := "LeaningStreet$House", name := "<init>", desc := "()V" } : Jvm.MethodName) "LeaningStreet"),
  (Jvm.Cond.methodLinkNest "LeaningStreet" (24 : Nat) ({ cls := "LeaningStreet$EmptyHouse", name := "<init>", desc := "()V" } : Jvm.MethodName) "LeaningStreet"),
  (Jvm.Cond.methodLinkNest "LeaningStreet$EmptyHouse" (1 : Nat) ({ cls := "LeaningStreet$TimberHouse", name := "<init>", desc := "()V" } : Jvm.MethodName) "LeaningStreet"),
  (Jvm.Cond.methodLinkNest "LeaningStreet" (27 : Nat) ({ cls := "LeaningStreet$DoubleHouse", name := "<init>", desc := "()V" } : Jvm.MethodName) "LeaningStreet"),
  (Jvm.Cond.methodLinkNest "LeaningStreet$DoubleHouse" (1 : Nat) ({ cls := "LeaningStreet$BrickHouse", name := "<init>", desc := "()V" } : Jvm.MethodName) "LeaningStreet"),
  (Jvm.Cond.methodLinkNest "LeaningStreet" (30 : Nat) ({ cls := "LeaningStreet$FloatingHouse", name := "<init>", desc := "()V" } : Jvm.MethodName) "LeaningStreet"),
  (Jvm.Cond.methodLinkNest "LeaningStreet$FloatingHouse" (3 : Nat) ({ cls := "LeaningStreet$House", name := "<init>", desc := "()V" } : Jvm.MethodName) "LeaningStreet"),
  (Jvm.Cond.methodLinkNest "LeaningStreet" (33 : Nat) ({ cls := "LeaningStreet$House", name := "<init>", desc := "()V" } : Jvm.MethodName) "LeaningStreet"),
  (Jvm.Cond.declares ({ cls := "LeaningStreet$Pushes", name := "pushes", desc := "(I)I" } : Jvm.MethodName)),
  (Jvm.Cond.castable "java/lang/ClassCastException" "java/lang/ClassCastException"),
  (Jvm.Cond.castable "java/lang/NegativeArraySizeException" "java/lang/NegativeArraySizeException"),
  (Jvm.Cond.fieldLinkNest "LeaningStreet" (494 : Nat) "LeaningStreet$Figure" "v" "I" "LeaningStreet"),
  (Jvm.Cond.declares ({ cls := "LeaningStreet$Bears", name := "worth", desc := "()I" } : Jvm.MethodName)),
  (Jvm.Cond.castable "LeaningStreet$BrickHouse" "LeaningStreet$Bears"),
  (Jvm.Cond.castable "LeaningStreet$DoubleHouse" "LeaningStreet$Bears"),
  (Jvm.Cond.castable "LeaningStreet$EmptyHouse" "LeaningStreet$Bears"),
  (Jvm.Cond.castable "LeaningStreet$FloatingHouse" "LeaningStreet$Bears"),
  (Jvm.Cond.castable "LeaningStreet$House" "LeaningStreet$Bears"),
  (Jvm.Cond.castable "LeaningStreet$TimberHouse" "LeaningStreet$Bears"),
  (Jvm.Cond.castable "LeaningStreet$EmptyHouse" "LeaningStreet$TimberHouse"),
  (Jvm.Cond.castable "LeaningStreet$DoubleHouse" "LeaningStreet$BrickHouse"),
  (Jvm.Cond.castable "LeaningStreet$BrickHouse" "LeaningStreet$House"),
  (Jvm.Cond.castable "LeaningStreet$DoubleHouse" "LeaningStreet$House"),
  (Jvm.Cond.castable "LeaningStreet$EmptyHouse" "LeaningStreet$House"),
  (Jvm.Cond.castable "LeaningStreet$FloatingHouse" "LeaningStreet$House"),
  (Jvm.Cond.castable "LeaningStreet$TimberHouse" "LeaningStreet$House")]
def cNC : List (String × String) := [("LeaningStreet", "LeaningStreet$Fault"), ("LeaningStreet$State", "LeaningStreet$Fault"), ("LeaningStreet$Sheet", "LeaningStreet$Fault"), ("LeaningStreet$Slot", "LeaningStreet$Fault"), ("LeaningStreetModel", "LeaningStreet$Fault"), ("LeaningStreet$TimberHouse", "LeaningStreet$Fault"), ("LeaningStreet$BrickHouse", "LeaningStreet$Fault"), ("LeaningStreet$EmptyHouse", "LeaningStreet$Fault"), ("LeaningStreet$DoubleHouse", "LeaningStreet$Fault"), ("LeaningStreet$FloatingHouse", "LeaningStreet$Fault"), ("LeaningStreet$House", "LeaningStreet$Fault"), ("java/lang/ClassCastException", "LeaningStreet$Fault"), ("LeaningStreet$Words", "LeaningStreet$Fault"), ("LeaningStreet$Text", "LeaningStreet$Fault"), ("java/lang/NegativeArraySizeException", "LeaningStreet$Fault"), ("LeaningStreet$Figure", "LeaningStreet$Fault"), ("LeaningStreet", "java/lang/ClassCastException"), ("LeaningStreet$State", "java/lang/ClassCastException"), ("LeaningStreet$Fault", "java/lang/ClassCastException"), ("LeaningStreet$Sheet", "java/lang/ClassCastException"), ("LeaningStreet$Slot", "java/lang/ClassCastException"), ("LeaningStreetModel", "java/lang/ClassCastException"), ("LeaningStreet$TimberHouse", "java/lang/ClassCastException"), ("LeaningStreet$BrickHouse", "java/lang/ClassCastException"), ("LeaningStreet$EmptyHouse", "java/lang/ClassCastException"), ("LeaningStreet$DoubleHouse", "java/lang/ClassCastException"), ("LeaningStreet$FloatingHouse", "java/lang/ClassCastException"), ("LeaningStreet$House", "java/lang/ClassCastException"), ("LeaningStreet$Words", "java/lang/ClassCastException"), ("LeaningStreet$Text", "java/lang/ClassCastException"), ("java/lang/NegativeArraySizeException", "java/lang/ClassCastException"), ("LeaningStreet$Figure", "java/lang/ClassCastException"), ("LeaningStreet", "java/lang/NegativeArraySizeException"), ("LeaningStreet$State", "java/lang/NegativeArraySizeException"), ("LeaningStreet$Fault", "java/lang/NegativeArraySizeException"), ("LeaningStreet$Sheet", "java/lang/NegativeArraySizeException"), ("LeaningStreet$Slot", "java/lang/NegativeArraySizeException"), ("LeaningStreetModel", "java/lang/NegativeArraySizeException"), ("LeaningStreet$TimberHouse", "java/lang/NegativeArraySizeException"), ("LeaningStreet$BrickHouse", "java/lang/NegativeArraySizeException"), ("LeaningStreet$EmptyHouse", "java/lang/NegativeArraySizeException"), ("LeaningStreet$DoubleHouse", "java/lang/NegativeArraySizeException"), ("LeaningStreet$FloatingHouse", "java/lang/NegativeArraySizeException"), ("LeaningStreet$House", "java/lang/NegativeArraySizeException"), ("java/lang/ClassCastException", "java/lang/NegativeArraySizeException"), ("LeaningStreet$Words", "java/lang/NegativeArraySizeException"), ("LeaningStreet$Text", "java/lang/NegativeArraySizeException"), ("LeaningStreet$Figure", "java/lang/NegativeArraySizeException"), ("LeaningStreet", "LeaningStreet$House"), ("LeaningStreet$State", "LeaningStreet$House"), ("LeaningStreet$Fault", "LeaningStreet$House"), ("LeaningStreet$Sheet", "LeaningStreet$House"), ("LeaningStreet$Slot", "LeaningStreet$House"), ("LeaningStreetModel", "LeaningStreet$House"), ("java/lang/ClassCastException", "LeaningStreet$House"), ("LeaningStreet$Words", "LeaningStreet$House"), ("LeaningStreet$Text", "LeaningStreet$House"), ("java/lang/NegativeArraySizeException", "LeaningStreet$House"), ("LeaningStreet$Figure", "LeaningStreet$House"), ("LeaningStreet", "LeaningStreet$Sheet"), ("LeaningStreet$State", "LeaningStreet$Sheet"), ("LeaningStreet$Fault", "LeaningStreet$Sheet"), ("LeaningStreet$Slot", "LeaningStreet$Sheet"), ("LeaningStreetModel", "LeaningStreet$Sheet"), ("LeaningStreet$TimberHouse", "LeaningStreet$Sheet"), ("LeaningStreet$BrickHouse", "LeaningStreet$Sheet"), ("LeaningStreet$EmptyHouse", "LeaningStreet$Sheet"), ("LeaningStreet$DoubleHouse", "LeaningStreet$Sheet"), ("LeaningStreet$FloatingHouse", "LeaningStreet$Sheet"), ("LeaningStreet$House", "LeaningStreet$Sheet"), ("java/lang/ClassCastException", "LeaningStreet$Sheet"), ("LeaningStreet$Words", "LeaningStreet$Sheet"), ("LeaningStreet$Text", "LeaningStreet$Sheet"), ("java/lang/NegativeArraySizeException", "LeaningStreet$Sheet"), ("LeaningStreet$Figure", "LeaningStreet$Sheet"), ("LeaningStreet", "LeaningStreet$Figure"), ("LeaningStreet$State", "LeaningStreet$Figure"), ("LeaningStreet$Fault", "LeaningStreet$Figure"), ("LeaningStreet$Sheet", "LeaningStreet$Figure"), ("LeaningStreet$Slot", "LeaningStreet$Figure"), ("LeaningStreetModel", "LeaningStreet$Figure"), ("LeaningStreet$TimberHouse", "LeaningStreet$Figure"), ("LeaningStreet$BrickHouse", "LeaningStreet$Figure"), ("LeaningStreet$EmptyHouse", "LeaningStreet$Figure"), ("LeaningStreet$DoubleHouse", "LeaningStreet$Figure"), ("LeaningStreet$FloatingHouse", "LeaningStreet$Figure"), ("LeaningStreet$House", "LeaningStreet$Figure"), ("java/lang/ClassCastException", "LeaningStreet$Figure"), ("LeaningStreet$Words", "LeaningStreet$Figure"), ("LeaningStreet$Text", "LeaningStreet$Figure"), ("java/lang/NegativeArraySizeException", "LeaningStreet$Figure"), ("LeaningStreet", "LeaningStreet$TimberHouse"), ("LeaningStreet$State", "LeaningStreet$TimberHouse"), ("LeaningStreet$Fault", "LeaningStreet$TimberHouse"), ("LeaningStreet$Sheet", "LeaningStreet$TimberHouse"), ("LeaningStreet$Slot", "LeaningStreet$TimberHouse"), ("LeaningStreetModel", "LeaningStreet$TimberHouse"), ("LeaningStreet$BrickHouse", "LeaningStreet$TimberHouse"), ("LeaningStreet$DoubleHouse", "LeaningStreet$TimberHouse"), ("LeaningStreet$FloatingHouse", "LeaningStreet$TimberHouse"), ("LeaningStreet$House", "LeaningStreet$TimberHouse"), ("java/lang/ClassCastException", "LeaningStreet$TimberHouse"), ("LeaningStreet$Words", "LeaningStreet$TimberHouse"), ("LeaningStreet$Text", "LeaningStreet$TimberHouse"), ("java/lang/NegativeArraySizeException", "LeaningStreet$TimberHouse"), ("LeaningStreet$Figure", "LeaningStreet$TimberHouse"), ("LeaningStreet", "LeaningStreet$BrickHouse"), ("LeaningStreet$State", "LeaningStreet$BrickHouse"), ("LeaningStreet$Fault", "LeaningStreet$BrickHouse"), ("LeaningStreet$Sheet", "LeaningStreet$BrickHouse"), ("LeaningStreet$Slot", "LeaningStreet$BrickHouse"), ("LeaningStreetModel", "LeaningStreet$BrickHouse"), ("LeaningStreet$TimberHouse", "LeaningStreet$BrickHouse"), ("LeaningStreet$EmptyHouse", "LeaningStreet$BrickHouse"), ("LeaningStreet$FloatingHouse", "LeaningStreet$BrickHouse"), ("LeaningStreet$House", "LeaningStreet$BrickHouse"), ("java/lang/ClassCastException", "LeaningStreet$BrickHouse"), ("LeaningStreet$Words", "LeaningStreet$BrickHouse"), ("LeaningStreet$Text", "LeaningStreet$BrickHouse"), ("java/lang/NegativeArraySizeException", "LeaningStreet$BrickHouse"), ("LeaningStreet$Figure", "LeaningStreet$BrickHouse"), ("LeaningStreet", "LeaningStreet$EmptyHouse"), ("LeaningStreet$State", "LeaningStreet$EmptyHouse"), ("LeaningStreet$Fault", "LeaningStreet$EmptyHouse"), ("LeaningStreet$Sheet", "LeaningStreet$EmptyHouse"), ("LeaningStreet$Slot", "LeaningStreet$EmptyHouse"), ("LeaningStreetModel", "LeaningStreet$EmptyHouse"), ("LeaningStreet$TimberHouse", "LeaningStreet$EmptyHouse"), ("LeaningStreet$BrickHouse", "LeaningStreet$EmptyHouse"), ("LeaningStreet$DoubleHouse", "LeaningStreet$EmptyHouse"), ("LeaningStreet$FloatingHouse", "LeaningStreet$EmptyHouse"), ("LeaningStreet$House", "LeaningStreet$EmptyHouse"), ("java/lang/ClassCastException", "LeaningStreet$EmptyHouse"), ("LeaningStreet$Words", "LeaningStreet$EmptyHouse"), ("LeaningStreet$Text", "LeaningStreet$EmptyHouse"), ("java/lang/NegativeArraySizeException", "LeaningStreet$EmptyHouse"), ("LeaningStreet$Figure", "LeaningStreet$EmptyHouse"), ("LeaningStreet", "LeaningStreet$DoubleHouse"), ("LeaningStreet$State", "LeaningStreet$DoubleHouse"), ("LeaningStreet$Fault", "LeaningStreet$DoubleHouse"), ("LeaningStreet$Sheet", "LeaningStreet$DoubleHouse"), ("LeaningStreet$Slot", "LeaningStreet$DoubleHouse"), ("LeaningStreetModel", "LeaningStreet$DoubleHouse"), ("LeaningStreet$TimberHouse", "LeaningStreet$DoubleHouse"), ("LeaningStreet$BrickHouse", "LeaningStreet$DoubleHouse"), ("LeaningStreet$EmptyHouse", "LeaningStreet$DoubleHouse"), ("LeaningStreet$FloatingHouse", "LeaningStreet$DoubleHouse"), ("LeaningStreet$House", "LeaningStreet$DoubleHouse"), ("java/lang/ClassCastException", "LeaningStreet$DoubleHouse"), ("LeaningStreet$Words", "LeaningStreet$DoubleHouse"), ("LeaningStreet$Text", "LeaningStreet$DoubleHouse"), ("java/lang/NegativeArraySizeException", "LeaningStreet$DoubleHouse"), ("LeaningStreet$Figure", "LeaningStreet$DoubleHouse"), ("LeaningStreet", "LeaningStreet$FloatingHouse"), ("LeaningStreet$State", "LeaningStreet$FloatingHouse"), ("LeaningStreet$Fault", "LeaningStreet$FloatingHouse"), ("LeaningStreet$Sheet", "LeaningStreet$FloatingHouse"), ("LeaningStreet$Slot", "LeaningStreet$FloatingHouse"), ("LeaningStreetModel", "LeaningStreet$FloatingHouse"), ("LeaningStreet$TimberHouse", "LeaningStreet$FloatingHouse"), ("LeaningStreet$BrickHouse", "LeaningStreet$FloatingHouse"), ("LeaningStreet$EmptyHouse", "LeaningStreet$FloatingHouse"), ("LeaningStreet$DoubleHouse", "LeaningStreet$FloatingHouse"), ("LeaningStreet$House", "LeaningStreet$FloatingHouse"), ("java/lang/ClassCastException", "LeaningStreet$FloatingHouse"), ("LeaningStreet$Words", "LeaningStreet$FloatingHouse"), ("LeaningStreet$Text", "LeaningStreet$FloatingHouse"), ("java/lang/NegativeArraySizeException", "LeaningStreet$FloatingHouse"), ("LeaningStreet$Figure", "LeaningStreet$FloatingHouse"), ("java/lang/Throwable", "LeaningStreet$TimberHouse"), ("java/lang/String", "LeaningStreet$TimberHouse"), ("[LLeaningStreet$House;", "LeaningStreet$TimberHouse"), ("[LLeaningStreet$Text;", "LeaningStreet$TimberHouse"), ("[I", "LeaningStreet$TimberHouse"), ("[B", "LeaningStreet$TimberHouse"), ("[LLeaningStreet$Sheet;", "LeaningStreet$TimberHouse"), ("[LLeaningStreet$Slot;", "LeaningStreet$TimberHouse"), ("[F", "LeaningStreet$TimberHouse"), ("[S", "LeaningStreet$TimberHouse"), ("java/lang/Throwable", "LeaningStreet$BrickHouse"), ("java/lang/String", "LeaningStreet$BrickHouse"), ("[LLeaningStreet$House;", "LeaningStreet$BrickHouse"), ("[LLeaningStreet$Text;", "LeaningStreet$BrickHouse"), ("[I", "LeaningStreet$BrickHouse"), ("[B", "LeaningStreet$BrickHouse"), ("[LLeaningStreet$Sheet;", "LeaningStreet$BrickHouse"), ("[LLeaningStreet$Slot;", "LeaningStreet$BrickHouse"), ("[F", "LeaningStreet$BrickHouse"), ("[S", "LeaningStreet$BrickHouse"), ("java/lang/Throwable", "LeaningStreet$EmptyHouse"), ("java/lang/String", "LeaningStreet$EmptyHouse"), ("[LLeaningStreet$House;", "LeaningStreet$EmptyHouse"), ("[LLeaningStreet$Text;", "LeaningStreet$EmptyHouse"), ("[I", "LeaningStreet$EmptyHouse"), ("[B", "LeaningStreet$EmptyHouse"), ("[LLeaningStreet$Sheet;", "LeaningStreet$EmptyHouse"), ("[LLeaningStreet$Slot;", "LeaningStreet$EmptyHouse"), ("[F", "LeaningStreet$EmptyHouse"), ("[S", "LeaningStreet$EmptyHouse"), ("java/lang/Throwable", "LeaningStreet$DoubleHouse"), ("java/lang/String", "LeaningStreet$DoubleHouse"), ("[LLeaningStreet$House;", "LeaningStreet$DoubleHouse"), ("[LLeaningStreet$Text;", "LeaningStreet$DoubleHouse"), ("[I", "LeaningStreet$DoubleHouse"), ("[B", "LeaningStreet$DoubleHouse"), ("[LLeaningStreet$Sheet;", "LeaningStreet$DoubleHouse"), ("[LLeaningStreet$Slot;", "LeaningStreet$DoubleHouse"), ("[F", "LeaningStreet$DoubleHouse"), ("[S", "LeaningStreet$DoubleHouse"), ("java/lang/Throwable", "LeaningStreet$FloatingHouse"), ("java/lang/String", "LeaningStreet$FloatingHouse"), ("[LLeaningStreet$House;", "LeaningStreet$FloatingHouse"), ("[LLeaningStreet$Text;", "LeaningStreet$FloatingHouse"), ("[I", "LeaningStreet$FloatingHouse"), ("[B", "LeaningStreet$FloatingHouse"), ("[LLeaningStreet$Sheet;", "LeaningStreet$FloatingHouse"), ("[LLeaningStreet$Slot;", "LeaningStreet$FloatingHouse"), ("[F", "LeaningStreet$FloatingHouse"), ("[S", "LeaningStreet$FloatingHouse"), ("java/lang/Throwable", "LeaningStreet$House"), ("java/lang/String", "LeaningStreet$House"), ("[LLeaningStreet$House;", "LeaningStreet$House"), ("[LLeaningStreet$Text;", "LeaningStreet$House"), ("[I", "LeaningStreet$House"), ("[B", "LeaningStreet$House"), ("[LLeaningStreet$Sheet;", "LeaningStreet$House"), ("[LLeaningStreet$Slot;", "LeaningStreet$House"), ("[F", "LeaningStreet$House"), ("[S", "LeaningStreet$House"), ("LeaningStreet", "[F"), ("LeaningStreet$State", "[F"), ("LeaningStreet$Fault", "[F"), ("LeaningStreet$Sheet", "[F"), ("LeaningStreet$Slot", "[F"), ("LeaningStreetModel", "[F"), ("LeaningStreet$TimberHouse", "[F"), ("LeaningStreet$BrickHouse", "[F"), ("LeaningStreet$EmptyHouse", "[F"), ("LeaningStreet$DoubleHouse", "[F"), ("LeaningStreet$FloatingHouse", "[F"), ("LeaningStreet$House", "[F"), ("java/lang/ClassCastException", "[F"), ("LeaningStreet$Words", "[F"), ("LeaningStreet$Text", "[F"), ("java/lang/NegativeArraySizeException", "[F"), ("LeaningStreet$Figure", "[F"), ("java/lang/Throwable", "[F"), ("java/lang/String", "[F"), ("[LLeaningStreet$House;", "[F"), ("[LLeaningStreet$Text;", "[F"), ("[I", "[F"), ("[B", "[F"), ("[LLeaningStreet$Sheet;", "[F"), ("[LLeaningStreet$Slot;", "[F"), ("[S", "[F"), ("LeaningStreet", "[S"), ("LeaningStreet$State", "[S"), ("LeaningStreet$Fault", "[S"), ("LeaningStreet$Sheet", "[S"), ("LeaningStreet$Slot", "[S"), ("LeaningStreetModel", "[S"), ("LeaningStreet$TimberHouse", "[S"), ("LeaningStreet$BrickHouse", "[S"), ("LeaningStreet$EmptyHouse", "[S"), ("LeaningStreet$DoubleHouse", "[S"), ("LeaningStreet$FloatingHouse", "[S"), ("LeaningStreet$House", "[S"), ("java/lang/ClassCastException", "[S"), ("LeaningStreet$Words", "[S"), ("LeaningStreet$Text", "[S"), ("java/lang/NegativeArraySizeException", "[S"), ("LeaningStreet$Figure", "[S"), ("java/lang/Throwable", "[S"), ("java/lang/String", "[S"), ("[LLeaningStreet$House;", "[S"), ("[LLeaningStreet$Text;", "[S"), ("[I", "[S"), ("[B", "[S"), ("[LLeaningStreet$Sheet;", "[S"), ("[LLeaningStreet$Slot;", "[S"), ("[F", "[S"), ("java/lang/Throwable", "LeaningStreet$Sheet"), ("java/lang/String", "LeaningStreet$Sheet"), ("[LLeaningStreet$House;", "LeaningStreet$Sheet"), ("[LLeaningStreet$Text;", "LeaningStreet$Sheet"), ("[I", "LeaningStreet$Sheet"), ("[B", "LeaningStreet$Sheet"), ("[LLeaningStreet$Sheet;", "LeaningStreet$Sheet"), ("[LLeaningStreet$Slot;", "LeaningStreet$Sheet"), ("[F", "LeaningStreet$Sheet"), ("[S", "LeaningStreet$Sheet"), ("java/lang/Throwable", "LeaningStreet$Figure"), ("java/lang/String", "LeaningStreet$Figure"), ("[LLeaningStreet$House;", "LeaningStreet$Figure"), ("[LLeaningStreet$Text;", "LeaningStreet$Figure"), ("[I", "LeaningStreet$Figure"), ("[B", "LeaningStreet$Figure"), ("[LLeaningStreet$Sheet;", "LeaningStreet$Figure"), ("[LLeaningStreet$Slot;", "LeaningStreet$Figure"), ("[F", "LeaningStreet$Figure"), ("[S", "LeaningStreet$Figure"), ("LeaningStreet", "LeaningStreet$Text"), ("LeaningStreet$State", "LeaningStreet$Text"), ("LeaningStreet$Fault", "LeaningStreet$Text"), ("LeaningStreet$Sheet", "LeaningStreet$Text"), ("LeaningStreet$Slot", "LeaningStreet$Text"), ("LeaningStreetModel", "LeaningStreet$Text"), ("LeaningStreet$TimberHouse", "LeaningStreet$Text"), ("LeaningStreet$BrickHouse", "LeaningStreet$Text"), ("LeaningStreet$EmptyHouse", "LeaningStreet$Text"), ("LeaningStreet$DoubleHouse", "LeaningStreet$Text"), ("LeaningStreet$FloatingHouse", "LeaningStreet$Text"), ("LeaningStreet$House", "LeaningStreet$Text"), ("java/lang/ClassCastException", "LeaningStreet$Text"), ("LeaningStreet$Words", "LeaningStreet$Text"), ("java/lang/NegativeArraySizeException", "LeaningStreet$Text"), ("LeaningStreet$Figure", "LeaningStreet$Text"), ("java/lang/Throwable", "LeaningStreet$Text"), ("java/lang/String", "LeaningStreet$Text"), ("LeaningStreet", "LeaningStreet$Slot"), ("LeaningStreet$State", "LeaningStreet$Slot"), ("LeaningStreet$Fault", "LeaningStreet$Slot"), ("LeaningStreet$Sheet", "LeaningStreet$Slot"), ("LeaningStreetModel", "LeaningStreet$Slot"), ("LeaningStreet$TimberHouse", "LeaningStreet$Slot"), ("LeaningStreet$BrickHouse", "LeaningStreet$Slot"), ("LeaningStreet$EmptyHouse", "LeaningStreet$Slot"), ("LeaningStreet$DoubleHouse", "LeaningStreet$Slot"), ("LeaningStreet$FloatingHouse", "LeaningStreet$Slot"), ("LeaningStreet$House", "LeaningStreet$Slot"), ("java/lang/ClassCastException", "LeaningStreet$Slot"), ("LeaningStreet$Words", "LeaningStreet$Slot"), ("LeaningStreet$Text", "LeaningStreet$Slot"), ("java/lang/NegativeArraySizeException", "LeaningStreet$Slot"), ("LeaningStreet$Figure", "LeaningStreet$Slot"), ("java/lang/Throwable", "LeaningStreet$Slot"), ("java/lang/String", "LeaningStreet$Slot")]
def pKX (U : State) : Prop := va_Nw (.methodLink RX0 285 dHN) U ∧ va_Nw (.methodLink RX7 9 dHN) U ∧ va_Nw (.methodLink RX8 9 dHN) U ∧ va_Nw (.sameMethod RX6 "LeaningStreet$Pushes" "pushes" "(I)I") U ∧ dfl U
def cKX (U : State) : Prop := (∀ w ∈ cNW, va_Nw w U) ∧ (∀ q ∈ cNC, va_Nc q.1 q.2 U) ∧ va_AO RX6 U ∧ va_AO RX13 U ∧ va_AO RX3 U ∧ va_AO RX4 U ∧ pKX U
def cOK (G : gG) : Prop := ∀ U : State, G.2.2.1 U → cKX U
theorem cn {G : gG} (hC : cOK G) {w : Cond} (i : Nat) (h : cNW[i]? = some w) (U : State) (hU : G.2.2.1 U) : va_Nw w U := (hC U hU).1 w (List.mem_of_getElem? h)
theorem cnc {G : gG} (hC : cOK G) {C D : String} (i : Nat) (h : cNC[i]? = some (C, D)) (U : State) (hU : G.2.2.1 U) : va_Nc C D U := (hC U hU).2.1 (C, D) (List.mem_of_getElem? h)
section RH
variable {α β : Type} {l : Launch} {R : Room} {cc : ByteArray} {own nm : String} {nL : Nat} {ret : Option FieldType} {G : gG} {L : gL} {o : Nat} {ad : Nat → Nat} {vv : α → Option Value} {K : α → gY → gH → Prop} {mc ms : Nat} {J : gJt}
variable {Y : gY} {h : gH} {cs ss pc : Nat} {lv : List (Option Value)} {st : List Value} {a : Nat}
theorem c_getI (S : gSt l R cc RX0 nm nL ret G cL o ad vv K mc ms J) (k : Nat) {index : Nat} (hk : Nat.ble (k + 1) 25 = true) (hi : cI k = true) (q : Cond.fieldLink RX0 index (TX0 k).1 (TX0 k).2.1 (TX0 k).2.2.1 ∈ lw_all) (d : decode cc pc = .ok (.getfield index, 3)) (kk : J Y h cs ss (pc + 3) lv (.int (Y k 0) :: st)) : J Y h cs ss pc lv (.ref o :: st) :=
  j_getO (C := RX0) (T := TX0) S k rfl in_X0 hk q (by show (if cI k then _ else _) = _; rw [hi]; rfl) d kk
theorem c_getA (S : gSt l R cc RX0 nm nL ret G cL o ad vv K mc ms J) (k : Nat) {index : Nat} (hk : Nat.ble (k + 1) 25 = true) (hi : cI k = false) (q : Cond.fieldLink RX0 index (TX0 k).1 (TX0 k).2.1 (TX0 k).2.2.1 ∈ lw_all) (d : decode cc pc = .ok (.getfield index, 3)) (kk : J Y h cs ss (pc + 3) lv (.ref (ad k) :: st)) : J Y h cs ss pc lv (.ref o :: st) :=
  j_getO (C := RX0) (T := TX0) S k rfl in_X0 hk q (by show (if cI k then _ else _) = _; rw [hi]; rfl) d kk
theorem c_putI (S : gSt l R cc RX0 nm nL ret G cL o ad vv K mc ms J) (k : Nat) {index : Nat} {v : Int32} (hk : Nat.ble (k + 1) 25 = true) (hi : cI k = true) (hf : (TX0 k).2.2.2 = false) (hn : narrow (tyX0 k) (.int v) = .int v) (hft : fits (tyX0 k) (.int v) = true) (q : Cond.fieldLink RX0 index (TX0 k).1 (TX0 k).2.1 (TX0 k).2.2.1 ∈ lw_all) (d : decode cc pc = .ok (.putfield index, 3)) (kk : ∀ Y' : gY, Y' = yset Y k v → J Y' h cs ss (pc + 3) lv st) : J Y h cs ss pc lv (.int v :: .ref o :: st) :=
  j_putO (C := RX0) (T := TX0) S k rfl in_X0 tyX0 tyX0_ok nmX0 hk q hi hf hn hft d kk
theorem c_ald (S : gSt l R cc own nm nL ret G cL o ad vv K mc ms J) (k : Nat) {i : Int32} (hk : cAR.elem k = true) (ht : cty k = 0) (hin : vp_in i (csz k)) (d : decode cc pc = .ok (.iaload, 1)) (kk : J Y h cs ss (pc + 1) lv (.int (Y k i.toNatClampNeg) :: st)) : J Y h cs ss pc lv (.int i :: .ref (ad k) :: st) := j_iald S k hk ht hin d kk
theorem c_ast (S : gSt l R cc own nm nL ret G cL o ad vv K mc ms J) (k : Nat) {i x : Int32} (hk : cAR.elem k = true) (ht : cty k = 0) (hin : vp_in i (csz k)) (d : decode cc pc = .ok (.iastore, 1)) (kk : ∀ Y' : gY, Y' = yupd Y k i.toNatClampNeg x → J Y' h cs ss (pc + 1) lv st) : J Y h cs ss pc lv (.int x :: .int i :: .ref (ad k) :: st) := j_iast S k hk ht hin d kk
theorem c_bald (S : gSt l R cc own nm nL ret G cL o ad vv K mc ms J) {i : Int32} (hin : vp_in i 96) (d : decode cc pc = .ok (.baload, 1)) (kk : J Y h cs ss (pc + 1) lv (.int (Y 6 i.toNatClampNeg) :: st)) : J Y h cs ss pc lv (.int i :: .ref (ad 6) :: st) := by
  obtain ⟨p, e, s, m, args, below, meth, c, A, Qf, hQf, rfl, hx, hb, hml, hr, hlk, hown, hts, hK, hnm, hG⟩ := S
  intro H locs ls w f hl
  exact va_bald (D := G.1) (cl := gcl) hx hb hK.1 (gP1 (w.1.2.1 6 (by decide))) 0 1 rfl rfl hin d (kk H locs ls w f hl)
theorem set_b (cA : ClassId) (n : Nat) (f : Nat → Int32) (j : Nat) (x : Int32) : (vp_cell cA (n, .inl f)).setSlot j (narrow .byte (.int x)) = vp_cell cA (n, .inl (upd f j (vp_nar .byte x))) := by
  rw [show narrow .byte (.int x) = .int (vp_nar .byte x) from rfl]
  exact set_i cA n f j _
theorem set_s (cA : ClassId) (n : Nat) (f : Nat → Int32) (j : Nat) (x : Int32) : (vp_cell cA (n, .inl f)).setSlot j (narrow .short (.int x)) = vp_cell cA (n, .inl (upd f j (vp_nar .short x))) := by
  rw [show narrow .short (.int x) = .int (vp_nar .short x) from rfl]
  exact set_i cA n f j _
theorem set_f (cA : ClassId) (n : Nat) (f : Nat → UInt32) (j : Nat) (x : UInt32) : (vp_cell cA (n, .inr (.inr (.inl f)))).setSlot j (.float x) = vp_cell cA (n, .inr (.inr (.inl (vf_upd f j x)))) := by
  rw [vp_cell_f, vp_cell_f, arrV_store]
  congr 2
  funext q
  by_cases hq : q = j
  · subst hq
    simp [updV, vf_upd]
  · simp [updV, vf_upd, hq]
theorem set_q (cA : ClassId) (n : Nat) (f : Nat → Option Nat) (j : Nat) (x : Option Nat) : (vp_cell cA (n, .inr (.inr (.inr (.inr f))))).setSlot j (va_rf x) = vp_cell cA (n, .inr (.inr (.inr (.inr (va_up f j x))))) := by
  rw [vp_cell_q, vp_cell_q, arrV_store]
  congr 2
  funext q
  by_cases hq : q = j
  · subst hq
    simp [updV, va_up]
  · simp [updV, va_up, hq]
theorem j_bast (S : gSt l R cc own nm nL ret G L o ad vv K mc ms J) (k : Nat) {i x : Int32} (hk : L.2.2.2.1.elem k = true) (ht : L.2.2.2.2.2 k = 1) (hin : vp_in i (L.2.2.2.2.1 k)) (d : decode cc pc = .ok (.bastore, 1)) (kk : ∀ Y' : gY, Y' = yupd Y k i.toNatClampNeg (vp_nar .byte x) → J Y' h cs ss (pc + 1) lv st) : J Y h cs ss pc lv (.int x :: .int i :: .ref (ad k) :: st) := by
  obtain ⟨p, e, s, m, args, below, meth, c, A, Qf, hQf, rfl, hx, hb, hml, hr, hlk, hown, hts, hK, hnm, hG⟩ := S
  intro H locs ls w f hl
  have hk : k ∈ L.2.2.2.1 := List.elem_iff.mp hk
  refine W.bast hx hb (w.1.2.1 k hk) ((hK.1.2 1 _ (show (gty G.2.1)[1]? = some (G.2.1 (L.2.2.2.2.2 k), .byte) by rw [ht]; rfl)).1 _ (fun j => .int (Y k j))) (fun q => by cases q) (by show ¬ (i < 0 ∨ (arrV _ _ _).slots.size ≤ _); rw [arrV_size]; exact hin) rfl rfl d fun H1 e1 z oq => ?_
  refine kk _ rfl H1 _ ls (w.setA hk ?_ (fun j hj => va_up_ne _ _ hj) z oq) (hG.2.2.2.1 A s H H1 (fun q h1 h2 => oq q (fun e => h2 (by rw [e]; exact w.2.2.1 _ (Or.inr (Or.inl ⟨k, hk, rfl⟩))))) f) hl
  show H1[ad k]? = some (vp_cell _ _)
  rw [e1, set_b]
  unfold yupd
  rw [va_up_self]
theorem c_bast (S : gSt l R cc own nm nL ret G cL o ad vv K mc ms J) {i x : Int32} (hin : vp_in i 96) (d : decode cc pc = .ok (.bastore, 1)) (kk : ∀ Y' : gY, Y' = yupd Y 6 i.toNatClampNeg (vp_nar .byte x) → J Y' h cs ss (pc + 1) lv st) : J Y h cs ss pc lv (.int x :: .int i :: .ref (ad 6) :: st) := j_bast S 6 rfl rfl hin d kk
/-! ===== cells by address ===== -/
theorem gW.keepH {s : State} {A : Nat → Prop} {H0 H H1 : Heap} {locs : List Loc} {e0 : gE} (hG : gOK G) (w : gW G L o ad Y h A H0 H locs) (ha : h a = some e0) (oq : ∀ q : Nat, q ≠ a → H1[q]? = H[q]?) (f : G.2.2.2 A s H) : G.2.2.2 A s H1 :=
  hG.2.2.2.1 A s H H1 (fun q h1 h2 => oq q (fun e => h2 (by rw [e]; exact w.2.2.1 _ (Or.inr (Or.inr (Or.inl ⟨_, ha⟩)))))) f
theorem h_get (S : gSt l R cc own nm nL ret G L o ad vv K mc ms J) {ci index N : Nat} {fs : List Value} {C : String} {T : u_T} {v : Value} (ha : h a = some (.inr (ci, fs))) (k : Nat) (hc : gcl[ci]? = some (C, T, N)) (hin : ∀ w ∈ u_ws C T N, w ∈ lw_all) (hk : Nat.ble (k + 1) N = true)
    (q : Cond.fieldLink own index (T k).1 (T k).2.1 (T k).2.2.1 ∈ lw_all) (hv : fs[k]? = some v) (d : decode cc pc = .ok (.getfield index, 3)) (kk : J Y h cs ss (pc + 3) lv (v :: st)) : J Y h cs ss pc lv (.ref a :: st) := by
  obtain ⟨p, e, s, m, args, below, meth, c, A, Qf, hQf, rfl, hx, hb, hml, hr, hlk, hown, hts, hK, hnm, hG⟩ := S
  intro H locs ls w f hl
  exact va_get (D := G.1) (cl := gcl) (C := C) (T := T) (N := N) hx hb hts hin hown hK.1 (gP1 (w.1.2.2 a _ ha)) 0 rfl hc k (Nat.le_of_ble_eq_true hk) (hts _ q) (fun _ h9 => h9) hv d (kk H locs ls w f hl)
theorem h_getN (S : gSt l R cc own nm nL ret G L o ad vv K mc ms J) {ci index N : Nat} {fs : List Value} {C host : String} {T : u_T} {v : Value} (ha : h a = some (.inr (ci, fs))) (k : Nat) (hc : gcl[ci]? = some (C, T, N)) (hin : ∀ w ∈ u_ws C T N, w ∈ lw_all) (hk : Nat.ble (k + 1) N = true)
    (q : ∀ U, G.2.2.1 U → va_Nw (.fieldLinkNest own index (T k).1 (T k).2.1 (T k).2.2.1 host) U) (hv : fs[k]? = some v) (d : decode cc pc = .ok (.getfield index, 3)) (kk : J Y h cs ss (pc + 3) lv (v :: st)) : J Y h cs ss pc lv (.ref a :: st) := by
  obtain ⟨p, e, s, m, args, below, meth, c, A, Qf, hQf, rfl, hx, hb, hml, hr, hlk, hown, hts, hK, hnm, hG⟩ := S
  intro H locs ls w f hl
  exact va_getN (D := G.1) (cl := gcl) (C := C) (T := T) (N := N) hx hb hts hin hown hK.1 (gP1 (w.1.2.2 a _ ha)) 0 rfl hc k (Nat.le_of_ble_eq_true hk) (va_Nw.use rfl (q s hK.2)) (fun _ h9 => h9) hv d (kk H locs ls w f hl)
theorem h_put (S : gSt l R cc own nm nL ret G L o ad vv K mc ms J) {ci index N : Nat} {fs : List Value} {C : String} {T : u_T} {v : Value} (ha : h a = some (.inr (ci, fs))) (k : Nat) (hc : gcl[ci]? = some (C, T, N)) (hin : ∀ w ∈ u_ws C T N, w ∈ lw_all) (ty0 : Nat → FieldType) (hty : ∀ k, k < N → parseFieldDescriptor (T k).2.2.1 = some (ty0 k)) (hnm : ∀ a, a < N → ∀ b, b < N → a ≠ b → (T a).2.1 ≠ (T b).2.1) (hk : Nat.ble (k + 1) N = true)
    (q : Cond.fieldLink own index (T k).1 (T k).2.1 (T k).2.2.1 ∈ lw_all) (hfin : (T k).2.2.2 = false) (hnw : narrow (ty0 k) v = v) (hft : fits (ty0 k) v = true) (hlen : k < fs.length) (d : decode cc pc = .ok (.putfield index, 3)) (kk : ∀ h' : gH, h' = hup h a (.inr (ci, fs.set k v)) → J Y h' cs ss (pc + 3) lv st) : J Y h cs ss pc lv (v :: .ref a :: st) := by
  obtain ⟨p, e, s, m, args, below, meth, c, A, Qf, hQf, rfl, hx, hb, hml, hr, hlk, hown, hts, hK, hnm', hG⟩ := S
  intro H locs ls w f hl
  have hk : k < N := Nat.le_of_ble_eq_true hk
  exact w_put hx hb hts hin ty0 hty hnm hown hK.1 (w.1.2.2 a _ ha) hc k hk (hts _ q) (fun _ h9 => h9) hfin (hty k hk) hnw hft hlen d (fun H1 j hat z oq => kk _ rfl H1 _ ls (w.setH ha hat z oq) (w.keepH hG ha oq f) hl)
theorem w_putN {p : Program} {e : Env} {s : State} {m : MethodId} {args : Array Value} {below : List Frame} {meth : Method} {c : Code} {H : Heap} {locs : List Loc} {cells slots : Nat} {Q : State → Prop} {ls : Array Slot} {rest : List Value} {D : va_G} {a : Nat} {tys : List (ClassId × FieldType)}
    (hexec : p.tables.exec = Jvm.exec) (hb : c.code = cc) {own ref C host : String} {T : u_T} {N ci index : Nat} {Ts : List Cond} (hts : ∀ w ∈ Ts, w.before args s = true) (hin : ∀ w ∈ u_ws C T N, w ∈ Ts) (ty0 : Nat → FieldType) (hty : ∀ k, k < N → parseFieldDescriptor (T k).2.2.1 = some (ty0 k)) (hnm : ∀ a, a < N → ∀ b, b < N → a ≠ b → (T a).2.1 ≠ (T b).2.1) (hown : s.vm.findClass own = some m.cls) (hK : va_K D gcl tys s)
    {fs : List Value} (hat : va_at D gcl (a, .inr (ci, fs)) H) (hc : gcl[ci]? = some (C, T, N)) (k : Nat) (hk : k < N) (hlink : (Cond.fieldLinkNest own index ref (T k).2.1 (T k).2.2.1 host).before args s = true) (hsame : ∀ x, s.fieldFound? (T k).1 (T k).2.1 (T k).2.2.1 = some x → s.fieldFound? ref (T k).2.1 (T k).2.2.1 = some x) (hfin : (T k).2.2.2 = false) {ty : FieldType} {v : Value} (hd : parseFieldDescriptor (T k).2.2.1 = some ty) (hn : narrow ty v = v) (hfit : fits ty v = true) (hl : k < fs.length)
    (hdg : decode cc pc = .ok (.putfield index, 3)) (kk : ∀ (H1 : Heap) (j : Nat), va_at D gcl (a, .inr (ci, fs.set k v)) H1 → H1.size = H.size → (∀ q : Nat, q ≠ a → H1[q]? = H[q]?) → W p l e R s m args below meth c H1 (locs ++ [⟨a, j⟩]) cells slots Q (F0 m (pc + 3) ls rest)) : W p l e R s m args below meth c H locs cells slots Q (F0 m pc ls (v :: .ref a :: rest)) := by
  have hap := va_apart (own := own) hts hin ty0 hty hnm hK hc
  obtain ⟨r, h1, cell, q1, q2, q3, q4⟩ := hat
  have hr : r = (C, T, N) := Option.some.inj (h1.symm.trans hc)
  subst hr
  obtain ⟨hS, hfc, kC, hkC, hkind⟩ := hK.1 ci _ hc
  obtain ⟨cf, kf, fi, f, hi, hsl⟩ := hS k hk
  have hlay := hts _ (hin _ (u_in_lay hk))
  unfold u_lay at hlay
  rw [if_neg (by rw [hfin]; decide)] at hlay
  have hst := (u_facts hfc hkC (u_lays hts hin hk) hi).1
  have h6 := u_store hfc hkC hkind hlay hi hd hn hfit
  refine va_WputK hexec hb (f := f) hown hlink (hsame _ hi) hst (by rw [q2]; exact h6) q1 q3 (by rw [hsl]; exact k2_hasslot (q4 k hk)) rfl rfl hdg fun H' e1 e2 e3 => ?_
  rw [hsl] at e1
  exact kk H' _ ⟨_, hc, t_OB.to (V := updV (vp_V fs) k v) ⟨_, e1, q2, q3, t_set q4 hap hk v⟩ (fun j _ => vp_updV_set hl v j)⟩ e2 e3
theorem h_putN (S : gSt l R cc own nm nL ret G L o ad vv K mc ms J) {ci index N : Nat} {fs : List Value} {C host : String} {T : u_T} {v : Value} (ha : h a = some (.inr (ci, fs))) (k : Nat) (hc : gcl[ci]? = some (C, T, N)) (hin : ∀ w ∈ u_ws C T N, w ∈ lw_all) (ty0 : Nat → FieldType) (hty : ∀ k, k < N → parseFieldDescriptor (T k).2.2.1 = some (ty0 k)) (hnm : ∀ a, a < N → ∀ b, b < N → a ≠ b → (T a).2.1 ≠ (T b).2.1) (hk : Nat.ble (k + 1) N = true)
    (q : ∀ U, G.2.2.1 U → va_Nw (.fieldLinkNest own index (T k).1 (T k).2.1 (T k).2.2.1 host) U) (hfin : (T k).2.2.2 = false) (hnw : narrow (ty0 k) v = v) (hft : fits (ty0 k) v = true) (hlen : k < fs.length) (d : decode cc pc = .ok (.putfield index, 3)) (kk : ∀ h' : gH, h' = hup h a (.inr (ci, fs.set k v)) → J Y h' cs ss (pc + 3) lv st) : J Y h cs ss pc lv (v :: .ref a :: st) := by
  obtain ⟨p, e, s, m, args, below, meth, c, A, Qf, hQf, rfl, hx, hb, hml, hr, hlk, hown, hts, hK, hnm', hG⟩ := S
  intro H locs ls w f hl
  have hk : k < N := Nat.le_of_ble_eq_true hk
  exact w_putN hx hb hts hin ty0 hty hnm hown hK.1 (w.1.2.2 a _ ha) hc k hk (va_Nw.use rfl (q s hK.2)) (fun _ h9 => h9) hfin (hty k hk) hnw hft hlen d (fun H1 j hat z oq => kk _ rfl H1 _ ls (w.setH ha hat z oq) (w.keepH hG ha oq f) hl)
theorem w_putF {p : Program} {e : Env} {s : State} {m : MethodId} {args : Array Value} {below : List Frame} {meth : Method} {c : Code} {H : Heap} {locs : List Loc} {cells slots : Nat} {Q : State → Prop} {ls : Array Slot} {rest : List Value} {D : va_G} {a : Nat} {tys : List (ClassId × FieldType)}
    (hexec : p.tables.exec = Jvm.exec) (hb : c.code = cc) {own ref C : String} {T : u_T} {N ci index : Nat} {Ts : List Cond} (hts : ∀ w ∈ Ts, w.before args s = true) (hin : ∀ w ∈ u_ws C T N, w ∈ Ts) (ty0 : Nat → FieldType) (hty : ∀ k, k < N → parseFieldDescriptor (T k).2.2.1 = some (ty0 k)) (hnm : ∀ a, a < N → ∀ b, b < N → a ≠ b → (T a).2.1 ≠ (T b).2.1) (hown : s.vm.findClass own = some m.cls) (hK : va_K D gcl tys s)
    {fs : List Value} (hat : va_at D gcl (a, .inr (ci, fs)) H) (hc : gcl[ci]? = some (C, T, N)) (k : Nat) (hk : k < N) (hlink : (Cond.fieldLink own index ref (T k).2.1 (T k).2.2.1).before args s = true) (hsame : ∀ x, s.fieldFound? (T k).1 (T k).2.1 (T k).2.2.1 = some x → s.fieldFound? ref (T k).2.1 (T k).2.2.1 = some x) (hfin : (T k).2.2.2 = true) (hin2 : meth.name = "<init>") (hdecl : (T k).1 = own) {ty : FieldType} {v : Value} (hd : parseFieldDescriptor (T k).2.2.1 = some ty) (hn : narrow ty v = v) (hfit : fits ty v = true) (hl : k < fs.length)
    (hdg : decode cc pc = .ok (.putfield index, 3)) (kk : ∀ (H1 : Heap) (j : Nat), va_at D gcl (a, .inr (ci, fs.set k v)) H1 → H1.size = H.size → (∀ q : Nat, q ≠ a → H1[q]? = H[q]?) → W p l e R s m args below meth c H1 (locs ++ [⟨a, j⟩]) cells slots Q (F0 m (pc + 3) ls rest)) : W p l e R s m args below meth c H locs cells slots Q (F0 m pc ls (v :: .ref a :: rest)) := by
  have hap := va_apart (own := own) hts hin ty0 hty hnm hK hc
  obtain ⟨r, h1, cell, q1, q2, q3, q4⟩ := hat
  have hr : r = (C, T, N) := Option.some.inj (h1.symm.trans hc)
  subst hr
  obtain ⟨hS, hfc, kC, hkC, hkind⟩ := hK.1 ci _ hc
  obtain ⟨cf, kf, fi, f, hi, hsl⟩ := hS k hk
  have hlay := hts _ (hin _ (u_in_lay hk))
  unfold u_lay at hlay
  rw [if_pos hfin] at hlay
  have hst := (u_facts hfc hkC (u_lays hts hin hk) hi).1
  have hcf : m.cls = cf := by
    obtain ⟨_, _, c', _, _, _, -, -, hf', -, -, -, hown2, -⟩ := Cond.laysFinal_spec hlay
    have e1 : c' = cf := by have := hi.symm.trans hf'; simp at this; exact this.1.symm
    rw [hdecl] at hown2
    rw [← e1]; exact Option.some.inj (hown.symm.trans hown2)
  have h6 := u_fits hfc hkC hkind (Or.inr hlay) hi hd hn hfit
  refine W.putFinK hexec hb hown hlink (hsame _ hi) hst hcf hin2 (by rw [q2]; exact h6) q1 q3 (by rw [hsl]; exact k2_hasslot (q4 k hk)) rfl rfl hdg fun H' e1 e2 e3 => ?_
  rw [hsl] at e1
  exact kk H' _ ⟨_, hc, t_OB.to (V := updV (vp_V fs) k v) ⟨_, e1, q2, q3, t_set q4 hap hk v⟩ (fun j _ => vp_updV_set hl v j)⟩ e2 e3
theorem h_putF (S : gSt l R cc own "<init>" nL ret G L o ad vv K mc ms J) {ci index N : Nat} {fs : List Value} {C : String} {T : u_T} {v : Value} (ha : h a = some (.inr (ci, fs))) (k : Nat) (hc : gcl[ci]? = some (C, T, N)) (hin : ∀ w ∈ u_ws C T N, w ∈ lw_all) (ty0 : Nat → FieldType) (hty : ∀ k, k < N → parseFieldDescriptor (T k).2.2.1 = some (ty0 k)) (hnm : ∀ a, a < N → ∀ b, b < N → a ≠ b → (T a).2.1 ≠ (T b).2.1) (hk : Nat.ble (k + 1) N = true)
    (q : Cond.fieldLink own index (T k).1 (T k).2.1 (T k).2.2.1 ∈ lw_all) (hfin : (T k).2.2.2 = true) (hdecl : (T k).1 = own) (hnw : narrow (ty0 k) v = v) (hft : fits (ty0 k) v = true) (hlen : k < fs.length) (d : decode cc pc = .ok (.putfield index, 3)) (kk : ∀ h' : gH, h' = hup h a (.inr (ci, fs.set k v)) → J Y h' cs ss (pc + 3) lv st) : J Y h cs ss pc lv (v :: .ref a :: st) := by
  obtain ⟨p, e, s, m, args, below, meth, c, A, Qf, hQf, rfl, hx, hb, hml, hr, hlk, hown, hts, hK, hnm', hG⟩ := S
  intro H locs ls w f hl
  have hk : k < N := Nat.le_of_ble_eq_true hk
  exact w_putF hx hb hts hin ty0 hty hnm hown hK.1 (w.1.2.2 a _ ha) hc k hk (hts _ q) (fun _ h9 => h9) hfin hnm' hdecl (hty k hk) hnw hft hlen d (fun H1 j hat z oq => kk _ rfl H1 _ ls (w.setH ha hat z oq) (w.keepH hG ha oq f) hl)
/-- new objects and arrays -/
theorem h_new (S : gSt l R cc own nm nL ret G L o ad vv K mc ms J) {ci index N : Nat} {fs : List Value} {C : String} {T : u_T} (hc : gcl[ci]? = some (C, T, N)) (hin : ∀ w ∈ u_ws C T N, w ∈ lw_all) (ty0 : Nat → FieldType) (hty : ∀ k, k < N → parseFieldDescriptor (T k).2.2.1 = some (ty0 k)) (q1 : Cond.classLink own index C ∈ lw_all) (q2 : Cond.instantiable C N ∈ lw_all) (q3 : Cond.initialized C ∈ lw_all) (hfs : ∀ j, j < N → defaultValue (ty0 j) = vp_V fs j) (hcs : cs + 1 ≤ R.cells) (hss : ss + N ≤ R.slots)
    (d : decode cc pc = .ok (.new index, 3)) (kk : ∀ (q : Nat) (h' : gH), h q = none → h' = hup h q (.inr (ci, fs)) → J Y h' (cs + 1) (ss + N) (pc + 3) lv (.ref q :: st)) : J Y h cs ss pc lv st := by
  obtain ⟨p, e, s, m, args, below, meth, c, A, Qf, hQf, rfl, hx, hb, hml, hr, hlk, hown, hts, hK, hnm', hG⟩ := S
  intro H locs ls w f hl
  have hKn := hK.1.1 ci _ hc
  exact W.newcK hx hb hown (hts _ q1) (hts _ q2) (hts _ q3) rfl d hcs hss hKn.2.1 rfl fun H1 kC hkC e1 z1 o1 => kk H.size _ w.fresh rfl H1 locs ls (w.new (e := .inr (ci, fs)) ⟨_, hc, (u_born ty0 hts hin hKn hkC e1 hty).to hfs⟩ z1 o1) (hG.2.2.2.1 A s H H1 (fun q h1 _ => o1 q h1) f) hl
theorem h_newa (S : gSt l R cc own nm nL ret G L o ad vv K mc ms J) {atype : ArrayType} {ty : FieldType} {a0 : vp_A} {N' : Nat} {n : Int32} (t : Nat) (q : Cond.arrayClass (newarray.typeOf atype) ∈ lw_all) (hty : newarray.typeOf atype = ty) (ht : ∀ dA : Nat → ClassId, (gty dA)[t]? = some (dA t, ty)) (hra : ∀ (s : State) (cA : ClassId), va_RA s cA ty → s.vm.findClass ("[" ++ ty.toString) = some cA)
    (ha : ∀ cA : ClassId, vp_cell cA a0 = arrV cA N' (fun _ => defaultValue ty)) (hn : ¬ n < 0) (hN : n.toNatClampNeg = N') (hbytes : N' * componentBytes ty ≤ 536870912) (hcs : cs + 1 ≤ R.cells) (hss : ss + N' ≤ R.slots) (d : decode cc pc = .ok (.newarray atype, 2))
    (kk : ∀ (q : Nat) (h' : gH), h q = none → h' = hup h q (.inl (t, a0)) → J Y h' (cs + 1) (ss + N') (pc + 2) lv (.ref q :: st)) : J Y h cs ss pc lv (.int n :: st) := by
  obtain ⟨p, e, s, m, args, below, meth, c, A, Qf, hQf, rfl, hx, hb, hml, hr, hlk, hown, hts, hK, hnm', hG⟩ := S
  intro H locs ls w f hl
  subst hty
  refine va_newaK hx hb (hts _ q) rfl d rfl hn hN hbytes hcs hss rfl fun H1 cA e1 z1 o1 hAr hNm => ?_
  have e2 := hra s _ (hK.1.2 t _ (ht G.2.1)).2
  cases hNm.symm.trans e2
  exact kk H.size _ w.fresh rfl H1 locs ls (w.new (e := .inl (t, a0)) (show H1[H.size]? = some (vp_cell _ _) by rw [ha]; exact e1) z1 o1) (hG.2.2.2.1 A s H H1 (fun q h1 _ => o1 q h1) f) hl
theorem h_newq (S : gSt l R cc own nm nL ret G L o ad vv K mc ms J) {C : String} {index N' : Nat} {n : Int32} (t : Nat) (q1 : Cond.classLink own index C ∈ lw_all) (hov : ∀ U, G.2.2.1 U → va_AO C U) (ht : ∀ dA : Nat → ClassId, (gty dA)[t]? = some (dA t, .object C))
    (hn : ¬ n < 0) (hN : n.toNatClampNeg = N') (hbytes : N' * 4 ≤ 536870912) (hcs : cs + 1 ≤ R.cells) (hss : ss + N' ≤ R.slots) (d : decode cc pc = .ok (.anewarray index, 3))
    (kk : ∀ (q : Nat) (h' : gH), h q = none → h' = hup h q (.inl (t, N', .inr (.inr (.inr (.inr (fun _ => none)))))) → J Y h' (cs + 1) (ss + N') (pc + 3) lv (.ref q :: st)) : J Y h cs ss pc lv (.int n :: st) := by
  obtain ⟨p, e, s, m, args, below, meth, c, A, Qf, hQf, rfl, hx, hb, hml, hr, hlk, hown, hts, hK, hnm', hG⟩ := S
  intro H locs ls w f hl
  subst hN
  refine W.anew hx hb hown (hts _ q1) (va_AO.use (hov s hK.2)) rfl d rfl hn hbytes hcs hss fun cA kA comp h1 h2 h3 h4 => ?_
  obtain ⟨kA', comp', -, -, -, e2⟩ := (hK.1.2 t _ (ht G.2.1)).2
  cases h1.symm.trans e2
  refine kk H.size _ w.fresh rfl _ locs ls (w.new (e := .inl (t, _, .inr (.inr (.inr (.inr (fun _ => none)))))) ?_ (by simp) (fun q hq => by rw [Array.getElem?_push, if_neg (Nat.ne_of_lt hq)])) (hG.2.2.2.1 A s H _ (fun q h1 _ => by rw [Array.getElem?_push, if_neg (Nat.ne_of_lt h1)]) f) hl
  show (H.push _)[H.size]? = some (vp_cell _ _)
  rw [vp_cell_q, arrV_new]
  simp [va_rf]
/-- elements -/
theorem h_iald (S : gSt l R cc own nm nL ret G L o ad vv K mc ms J) {n : Nat} {g : Nat → Int32} {i : Int32} (ha : h a = some (.inl (0, n, .inl g))) (hin : vp_in i n) (d : decode cc pc = .ok (.iaload, 1)) (kk : J Y h cs ss (pc + 1) lv (.int (g i.toNatClampNeg) :: st)) : J Y h cs ss pc lv (.int i :: .ref a :: st) := by
  obtain ⟨p, e, s, m, args, below, meth, c, A, Qf, hQf, rfl, hx, hb, hml, hr, hlk, hown, hts, hK, hnm', hG⟩ := S
  intro H locs ls w f hl
  exact va_iald (D := G.1) (cl := gcl) hx hb hK.1 (gP1 (w.1.2.2 a _ ha)) 0 0 rfl rfl hin d (kk H locs ls w f hl)
theorem h_sald (S : gSt l R cc own nm nL ret G L o ad vv K mc ms J) {n : Nat} {g : Nat → Int32} {i : Int32} (ha : h a = some (.inl (2, n, .inl g))) (hin : vp_in i n) (d : decode cc pc = .ok (.saload, 1)) (kk : J Y h cs ss (pc + 1) lv (.int (g i.toNatClampNeg) :: st)) : J Y h cs ss pc lv (.int i :: .ref a :: st) := by
  obtain ⟨p, e, s, m, args, below, meth, c, A, Qf, hQf, rfl, hx, hb, hml, hr, hlk, hown, hts, hK, hnm', hG⟩ := S
  intro H locs ls w f hl
  exact va_sald (D := G.1) (cl := gcl) hx hb hK.1 (gP1 (w.1.2.2 a _ ha)) 0 2 rfl rfl hin d (kk H locs ls w f hl)
theorem h_fald (S : gSt l R cc own nm nL ret G L o ad vv K mc ms J) {n : Nat} {g : Nat → UInt32} {i : Int32} (ha : h a = some (.inl (3, n, .inr (.inr (.inl g))))) (hin : vp_in i n) (d : decode cc pc = .ok (.faload, 1)) (kk : J Y h cs ss (pc + 1) lv (.float (g i.toNatClampNeg) :: st)) : J Y h cs ss pc lv (.int i :: .ref a :: st) := by
  obtain ⟨p, e, s, m, args, below, meth, c, A, Qf, hQf, rfl, hx, hb, hml, hr, hlk, hown, hts, hK, hnm', hG⟩ := S
  intro H locs ls w f hl
  exact va_fald (D := G.1) (cl := gcl) hx hb hK.1 (gP1 (w.1.2.2 a _ ha)) 0 3 rfl rfl hin d (kk H locs ls w f hl)
theorem h_aald (S : gSt l R cc own nm nL ret G L o ad vv K mc ms J) {n : Nat} {C : String} {g : Nat → Option Nat} {i : Int32} (t : Nat) (ht : ∀ dA : Nat → ClassId, (gty dA)[t]? = some (dA t, .object C)) (ha : h a = some (.inl (t, n, .inr (.inr (.inr (.inr g)))))) (hin : vp_in i n) (d : decode cc pc = .ok (.aaload, 1)) (kk : J Y h cs ss (pc + 1) lv (va_rf (g i.toNatClampNeg) :: st)) : J Y h cs ss pc lv (.int i :: .ref a :: st) := by
  obtain ⟨p, e, s, m, args, below, meth, c, A, Qf, hQf, rfl, hx, hb, hml, hr, hlk, hown, hts, hK, hnm', hG⟩ := S
  intro H locs ls w f hl
  exact va_aldq (D := G.1) (cl := gcl) hx hb hK.1 (gP1 (w.1.2.2 a _ ha)) 0 t rfl (ht G.2.1) hin d (kk H locs ls w f hl)
theorem h_aald1 (S : gSt l R cc own nm nL ret G L o ad vv K mc ms J) {n b : Nat} {C : String} {g : Nat → Option Nat} {i : Int32} (t : Nat) (ht : ∀ dA : Nat → ClassId, (gty dA)[t]? = some (dA t, .object C)) (ha : h a = some (.inl (t, n, .inr (.inr (.inr (.inr g)))))) (hin : vp_in i n) (hb : g i.toNatClampNeg = some b) (d : decode cc pc = .ok (.aaload, 1)) (kk : J Y h cs ss (pc + 1) lv (.ref b :: st)) : J Y h cs ss pc lv (.int i :: .ref a :: st) :=
  h_aald S t ht ha hin d (by rw [hb]; exact kk)
theorem h_iast (S : gSt l R cc own nm nL ret G L o ad vv K mc ms J) {n : Nat} {g : Nat → Int32} {i x : Int32} (ha : h a = some (.inl (0, n, .inl g))) (hin : vp_in i n) (d : decode cc pc = .ok (.iastore, 1)) (kk : ∀ h' : gH, h' = hup h a (.inl (0, n, .inl (upd g i.toNatClampNeg x))) → J Y h' cs ss (pc + 1) lv st) : J Y h cs ss pc lv (.int x :: .int i :: .ref a :: st) := by
  obtain ⟨p, e, s, m, args, below, meth, c, A, Qf, hQf, rfl, hx, hb, hml, hr, hlk, hown, hts, hK, hnm', hG⟩ := S
  intro H locs ls w f hl
  refine W.iast hx hb (w.1.2.2 a _ ha) ((hK.1.2 0 _ rfl).1 _ (fun j => .int (g j))) (fun q => by cases q) (by show ¬ (i < 0 ∨ (arrV _ _ _).slots.size ≤ _); rw [arrV_size]; exact hin) rfl rfl d fun H1 e1 z oq => kk _ rfl H1 _ ls (w.setH ha ?_ z oq) (w.keepH hG ha oq f) hl
  exact e1.trans (congrArg some (set_i _ _ _ _ _))
theorem h_sast (S : gSt l R cc own nm nL ret G L o ad vv K mc ms J) {n : Nat} {g : Nat → Int32} {i x : Int32} (ha : h a = some (.inl (2, n, .inl g))) (hin : vp_in i n) (d : decode cc pc = .ok (.sastore, 1)) (kk : ∀ h' : gH, h' = hup h a (.inl (2, n, .inl (upd g i.toNatClampNeg (vp_nar .short x)))) → J Y h' cs ss (pc + 1) lv st) : J Y h cs ss pc lv (.int x :: .int i :: .ref a :: st) := by
  obtain ⟨p, e, s, m, args, below, meth, c, A, Qf, hQf, rfl, hx, hb, hml, hr, hlk, hown, hts, hK, hnm', hG⟩ := S
  intro H locs ls w f hl
  refine W.sast hx hb (w.1.2.2 a _ ha) ((hK.1.2 2 _ rfl).1 _ (fun j => .int (g j))) (fun q => by cases q) (by show ¬ (i < 0 ∨ (arrV _ _ _).slots.size ≤ _); rw [arrV_size]; exact hin) rfl rfl d fun H1 e1 z oq => kk _ rfl H1 _ ls (w.setH ha ?_ z oq) (w.keepH hG ha oq f) hl
  exact e1.trans (congrArg some (set_s _ _ _ _ _))
theorem h_fast (S : gSt l R cc own nm nL ret G L o ad vv K mc ms J) {n : Nat} {g : Nat → UInt32} {i : Int32} {x : UInt32} (ha : h a = some (.inl (3, n, .inr (.inr (.inl g))))) (hin : vp_in i n) (d : decode cc pc = .ok (.fastore, 1)) (kk : ∀ h' : gH, h' = hup h a (.inl (3, n, .inr (.inr (.inl (vf_upd g i.toNatClampNeg x))))) → J Y h' cs ss (pc + 1) lv st) : J Y h cs ss pc lv (.float x :: .int i :: .ref a :: st) := by
  obtain ⟨p, e, s, m, args, below, meth, c, A, Qf, hQf, rfl, hx, hb, hml, hr, hlk, hown, hts, hK, hnm', hG⟩ := S
  intro H locs ls w f hl
  refine W.fast hx hb (w.1.2.2 a _ ha) ((hK.1.2 3 _ rfl).1 _ (fun j => .float (g j))) (fun q => by cases q) (by show ¬ (i < 0 ∨ (arrV _ _ _).slots.size ≤ _); rw [arrV_size]; exact hin) rfl rfl d fun H1 e1 z oq => kk _ rfl H1 _ ls (w.setH ha ?_ z oq) (w.keepH hG ha oq f) hl
  exact e1.trans (congrArg some (set_f _ _ _ _ _))
/-- an object is laid into an array of E; its class is E's or below -/
theorem h_aast (S : gSt l R cc own nm nL ret G L o ad vv K mc ms J) {n v ci : Nat} {E : String} {g : Nat → Option Nat} {vs : List Value} {r : vw_C} {i : Int32} (t : Nat) (ht : ∀ dA : Nat → ClassId, (gty dA)[t]? = some (dA t, .object E)) (ha : h a = some (.inl (t, n, .inr (.inr (.inr (.inr g)))))) (hv : h v = some (.inr (ci, vs))) (hc : gcl[ci]? = some r) (has : r.1 = E ∨ ∀ U, G.2.2.1 U → va_Nw (.castable r.1 E) U) (hin : vp_in i n) (d : decode cc pc = .ok (.aastore, 1))
    (kk : ∀ h' : gH, h' = hup h a (.inl (t, n, .inr (.inr (.inr (.inr (va_up g i.toNatClampNeg (some v))))))) → J Y h' cs ss (pc + 1) lv st) : J Y h cs ss pc lv (.ref v :: .int i :: .ref a :: st) := by
  obtain ⟨p, e, s, m, args, below, meth, c, A, Qf, hQf, rfl, hx, hb, hml, hr, hlk, hown, hts, hK, hnm', hG⟩ := S
  intro H locs ls w f hl
  have hlt : i.toNatClampNeg < n := Nat.not_le.mp fun q => hin (Or.inr q)
  have h0 : ¬ i < 0 := fun q => hin (Or.inl q)
  obtain ⟨r', hr', cellV, g1, g2, g3, -⟩ := w.1.2.2 v _ hv
  have hcls := (hK.1.1 ci r hc).2
  obtain ⟨kA, comp, k1, k2, k3, -⟩ := (hK.1.2 t _ (ht G.2.1)).2
  obtain ⟨kE, hkE, -⟩ := Vm.findClass_spec k3
  obtain ⟨kC, hkC, -⟩ := hcls.2
  have hasg : s.vm.assignable (G.1.1 ci) comp = true := by
    rcases has with he | he
    · rw [he] at hcls
      cases hcls.1.symm.trans k3
      exact va_assign hcls
    · obtain ⟨c3, t3, w1, w2, w3⟩ := Cond.castable_spec (he s hK.2)
      cases hcls.1.symm.trans w1
      cases k3.symm.trans w2
      exact w3
  refine W.aast hx hb (w.1.2.2 a _ ha) (fun q h => by cases h) (fun h => by cases h) k1 k2 rfl hkE ⟨h0, by show _ < (arrV _ _ _).slots.size; rw [arrV_size]; exact hlt⟩ g1 (fun q h => by rw [g3] at h; cases h) (by rw [g2]; exact hkC) (by rw [g2]; exact hasg) rfl rfl d fun H1 e1 z oq => kk _ rfl H1 _ ls (w.setH ha ?_ z oq) (w.keepH hG ha oq f) hl
  exact e1.trans (congrArg some (set_q _ _ _ _ (some v)))
theorem h_alen (S : gSt l R cc own nm nL ret G L o ad vv K mc ms J) {x : vp_A} {ty : FieldType} (t : Nat) (ht : ∀ dA : Nat → ClassId, (gty dA)[t]? = some (dA t, ty)) (ha : h a = some (.inl (t, x))) (d : decode cc pc = .ok (.arraylength, 1)) (kk : J Y h cs ss (pc + 1) lv (.int (Int32.ofNat x.1) :: st)) : J Y h cs ss pc lv (.ref a :: st) := by
  obtain ⟨p, e, s, m, args, below, meth, c, A, Qf, hQf, rfl, hx, hb, hml, hr, hlk, hown, hts, hK, hnm', hG⟩ := S
  intro H locs ls w f hl
  exact va_alen (D := G.1) (cl := gcl) hx hb hK.1 (gP1 (w.1.2.2 a _ ha)) 0 t rfl (ht G.2.1) rfl d (kk H locs ls w f hl)
end RH
