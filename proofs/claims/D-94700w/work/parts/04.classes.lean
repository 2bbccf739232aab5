/-! classes and words (rows of claim/names) -/
set_option maxRecDepth 100000
def RX0 : String := "BracketRoom"
def TX0 : u_T := fun k => match k with
  | 0 => ("BracketRoom", "trays", "[LBracketRoom$Tray;", true)
  | 1 => ("BracketRoom", "reader", "LBracketRoom$Reader;", true)
  | 2 => ("BracketRoom", "world", "LBracketRoom$World;", true)
  | 3 => ("BracketRoom", "read", "LBracketRoom$World;", true)
  | 4 => ("BracketRoom", "shelves", "[LBracketRoom$World;", true)
  | 5 => ("BracketRoom", "isHeld", "[Z", true)
  | 6 => ("BracketRoom", "steps", "[LBracketRoom$Step;", false)
  | 7 => ("BracketRoom", "stepMany", "I", false)
  | 8 => ("BracketRoom", "status", "I", false)
  | 9 => ("BracketRoom", "faultKind", "I", false)
  | 10 => ("BracketRoom", "faultPlace", "I", false)
  | 11 => ("BracketRoom", "top", "J", false)
  | 12 => ("BracketRoom", "bottom", "J", false)
  | 13 => ("BracketRoom", "x", "[I", true)
  | 14 => ("BracketRoom", "y", "[I", true)
  | 15 => ("BracketRoom", "z", "[I", true)
  | 16 => ("BracketRoom", "work", "[I", true)
  | 17 => ("BracketRoom", "three", "[I", true)
  | 18 => ("BracketRoom", "one", "LBracketRoom$Span;", true)
  | 19 => ("BracketRoom", "two", "LBracketRoom$Span;", true)
  | 20 => ("BracketRoom", "next", "LBracketRoom$Span;", true)
  | 21 => ("BracketRoom", "all", "LBracketRoom$Span;", true)
  | 22 => ("BracketRoom", "whole", "LBracketRoom$Span;", true)
  | 23 => ("BracketRoom", "rows", "[[I", true)
  | 24 => ("BracketRoom", "gone", "LBracketRoom$Span;", true)
  | 25 => ("BracketRoom", "freeRow", "[I", true)
  | 26 => ("BracketRoom", "freePart", "[I", true)
  | 27 => ("BracketRoom", "image", "[[I", true)
  | 28 => ("BracketRoom", "ahead", "[LBracketRoom$Span;", true)
  | 29 => ("BracketRoom", "tried", "I", false)
  | 30 => ("BracketRoom", "toldTries", "I", false)
  | 31 => ("BracketRoom", "found", "I", false)
  | 32 => ("BracketRoom", "isSpent", "Z", false)
  | 33 => ("BracketRoom", "base", "[[I", true)
  | 34 => ("BracketRoom", "back", "[[I", true)
  | 35 => ("BracketRoom", "square", "[[I", true)
  | 36 => ("BracketRoom", "grows", "[[I", true)
  | 37 => ("BracketRoom", "leftBase", "[I", true)
  | 38 => ("BracketRoom", "tried0", "LBracketRoom$World;", true)
  | 39 => ("BracketRoom", "unlike", "[LBracketRoom$World;", true)
  | 40 => ("BracketRoom", "missed", "I", false)
  | 41 => ("BracketRoom", "ranSteps", "I", false)
  | 42 => ("BracketRoom", "isLeft", "I", false)
  | 43 => ("BracketRoom", "isTold", "Z", false)
  | 44 => ("BracketRoom", "toldMissed", "I", false)
  | 45 => ("BracketRoom", "toldLeft", "I", false)
  | 46 => ("BracketRoom", "marked", "[LBracketRoom$Kept;", true)
  | _ => ("BracketRoom", "marks", "I", false)
def tyX0 : Nat → FieldType := fun k => match k with
  | 0 => .array (.object "BracketRoom$Tray")
  | 1 => .object "BracketRoom$Reader"
  | 2 => .object "BracketRoom$World"
  | 3 => .object "BracketRoom$World"
  | 4 => .array (.object "BracketRoom$World")
  | 5 => .array .boolean
  | 6 => .array (.object "BracketRoom$Step")
  | 7 => .int
  | 8 => .int
  | 9 => .int
  | 10 => .int
  | 11 => .long
  | 12 => .long
  | 13 => .array .int
  | 14 => .array .int
  | 15 => .array .int
  | 16 => .array .int
  | 17 => .array .int
  | 18 => .object "BracketRoom$Span"
  | 19 => .object "BracketRoom$Span"
  | 20 => .object "BracketRoom$Span"
  | 21 => .object "BracketRoom$Span"
  | 22 => .object "BracketRoom$Span"
  | 23 => .array (.array .int)
  | 24 => .object "BracketRoom$Span"
  | 25 => .array .int
  | 26 => .array .int
  | 27 => .array (.array .int)
  | 28 => .array (.object "BracketRoom$Span")
  | 29 => .int
  | 30 => .int
  | 31 => .int
  | 32 => .boolean
  | 33 => .array (.array .int)
  | 34 => .array (.array .int)
  | 35 => .array (.array .int)
  | 36 => .array (.array .int)
  | 37 => .array .int
  | 38 => .object "BracketRoom$World"
  | 39 => .array (.object "BracketRoom$World")
  | 40 => .int
  | 41 => .int
  | 42 => .int
  | 43 => .boolean
  | 44 => .int
  | 45 => .int
  | 46 => .array (.object "BracketRoom$Kept")
  | _ => .int
abbrev wsX00 : List Cond := u_ws RX0 TX0 48
theorem nmX0 : ∀ a, a < 48 → ∀ b, b < 48 → a ≠ b → (TX0 a).2.1 ≠ (TX0 b).2.1 := by decide +kernel
theorem tyX0_ok : ∀ k, k < 48 → parseFieldDescriptor (TX0 k).2.2.1 = some (tyX0 k) := by decide +kernel
def yX0_init : MethodName := ⟨RX0, "<init>", "()V"⟩
def yX0_status : MethodName := ⟨RX0, "status", "()I"⟩
def yX0_top : MethodName := ⟨RX0, "top", "()J"⟩
def yX0_bottom : MethodName := ⟨RX0, "bottom", "()J"⟩
def yX0_tray : MethodName := ⟨RX0, "tray", "(III)Z"⟩
def yX0_isTray : MethodName := ⟨RX0, "isTray", "(I)Z"⟩
def yX0_is0 : MethodName := ⟨RX0, "is0", "(I)Z"⟩
def yX0_write : MethodName := ⟨RX0, "write", "(IIJ)Z"⟩
def yX0_read : MethodName := ⟨RX0, "read", "(II)J"⟩
def yX0_none : MethodName := ⟨RX0, "none", "(I)I"⟩
def yX0_pour : MethodName := ⟨RX0, "pour", "(IIIII)Z"⟩
def yX0_feed : MethodName := ⟨RX0, "feed", "(IIIII)I"⟩
def yX0_four : MethodName := ⟨RX0, "four", "(I)V"⟩
def yX0_world : MethodName := ⟨RX0, "world", "(I)I"⟩
def yX0_takes : MethodName := ⟨RX0, "takes", "(II)Z"⟩
def yX0_isPrime : MethodName := ⟨RX0, "isPrime", "(I)Z"⟩
def yX0_widest : MethodName := ⟨RX0, "widest", "(I)I"⟩
def yX0_refused : MethodName := ⟨RX0, "refused", "(LBracketRoom$Wrong;)I"⟩
def yX0_gives : MethodName := ⟨RX0, "gives", "(I)I"⟩
def yX0_script : MethodName := ⟨RX0, "script", "(I)I"⟩
def yX0_fault : MethodName := ⟨RX0, "fault", "(I)I"⟩
def yX0_many : MethodName := ⟨RX0, "many", "(I)I"⟩
def yX0_constant : MethodName := ⟨RX0, "constant", "(III)I"⟩
def yX0_isBase : MethodName := ⟨RX0, "isBase", "(I)Z"⟩
def yX0_put : MethodName := ⟨RX0, "put", "(IIII)Z"⟩
def yX0_bracket : MethodName := ⟨RX0, "bracket", "(II)I"⟩
def yX0_isVector : MethodName := ⟨RX0, "isVector", "(J)Z"⟩
def yX0_lawful : MethodName := ⟨RX0, "lawful", "()I"⟩
def yX0_isLawful : MethodName := ⟨RX0, "isLawful", "(LBracketRoom$World;)Z"⟩
def yX0_keepsLaw : MethodName := ⟨RX0, "keepsLaw", "(LBracketRoom$World;III)Z"⟩
def yX0_failing : MethodName := ⟨RX0, "failing", "(I)I"⟩
def yX0_keep : MethodName := ⟨RX0, "keep", "(I)Z"⟩
def yX0_isShelf : MethodName := ⟨RX0, "isShelf", "(I)Z"⟩
def yX0_keeps : MethodName := ⟨RX0, "keeps", "(I)V"⟩
def yX0_take : MethodName := ⟨RX0, "take", "(I)Z"⟩
def yX0_noShelf : MethodName := ⟨RX0, "noShelf", "(I)I"⟩
def yX0_span : MethodName := ⟨RX0, "span", "(III)I"⟩
def yX0_isFrom : MethodName := ⟨RX0, "isFrom", "(JJJ)Z"⟩
def yX0_wrongRow : MethodName := ⟨RX0, "wrongRow", "(IIZ)I"⟩
def yX0_spans : MethodName := ⟨RX0, "spans", "(LBracketRoom$Span;II)V"⟩
def yX0_closes : MethodName := ⟨RX0, "closes", "(LBracketRoom$World;LBracketRoom$Span;Z)V"⟩
def yX0_brackets : MethodName := ⟨RX0, "brackets", "(LBracketRoom$World;LBracketRoom$Span;LBracketRoom$Span;LBracketRoom$Span;)V"⟩
def yX0_derived : MethodName := ⟨RX0, "derived", "(I)I"⟩
def yX0_derivedOf : MethodName := ⟨RX0, "derivedOf", "(LBracketRoom$World;I)I"⟩
def yX0_series : MethodName := ⟨RX0, "series", "(LBracketRoom$World;LBracketRoom$Span;IZ)I"⟩
def yX0_lower : MethodName := ⟨RX0, "lower", "(I)I"⟩
def yX0_lowerOf : MethodName := ⟨RX0, "lowerOf", "(LBracketRoom$World;I)I"⟩
def yX0_centre : MethodName := ⟨RX0, "centre", "()I"⟩
def yX0_centreOf : MethodName := ⟨RX0, "centreOf", "(LBracketRoom$World;)I"⟩
def yX0_clearRows : MethodName := ⟨RX0, "clearRows", "(II)V"⟩
def yX0_centralizer : MethodName := ⟨RX0, "centralizer", "(I)I"⟩
def yX0_rankOf : MethodName := ⟨RX0, "rankOf", "(LBracketRoom$World;I)I"⟩
def yX0_rank : MethodName := ⟨RX0, "rank", "(I)I"⟩
def yX0_power : MethodName := ⟨RX0, "power", "(I)I"⟩
def yX0_is : MethodName := ⟨RX0, "is", "(I)I"⟩
def yX0_isSimple : MethodName := ⟨RX0, "isSimple", "(LBracketRoom$World;)Z"⟩
def yX0_count : MethodName := ⟨RX0, "count", "(LBracketRoom$World;II)I"⟩
def yX0_countBy : MethodName := ⟨RX0, "countBy", "(LBracketRoom$World;II)I"⟩
def yX0_isKind : MethodName := ⟨RX0, "isKind", "(LBracketRoom$World;LBracketRoom$Span;I)Z"⟩
def yX0_isPart : MethodName := ⟨RX0, "isPart", "(LBracketRoom$World;LBracketRoom$Span;)Z"⟩
def yX0_isIdeal : MethodName := ⟨RX0, "isIdeal", "(LBracketRoom$World;LBracketRoom$Span;)Z"⟩
def yX0_isAbelian : MethodName := ⟨RX0, "isAbelian", "(LBracketRoom$World;LBracketRoom$Span;)Z"⟩
def yX0_isNilpotent : MethodName := ⟨RX0, "isNilpotent", "(LBracketRoom$World;LBracketRoom$Span;)Z"⟩
def yX0_normalizer : MethodName := ⟨RX0, "normalizer", "(LBracketRoom$World;LBracketRoom$Span;)I"⟩
def yX0_isSolvable : MethodName := ⟨RX0, "isSolvable", "(LBracketRoom$World;LBracketRoom$Span;)Z"⟩
def yX0_isUnimodular : MethodName := ⟨RX0, "isUnimodular", "(LBracketRoom$World;)Z"⟩
def yX0_radical : MethodName := ⟨RX0, "radical", "(I)I"⟩
def yX0_parts : MethodName := ⟨RX0, "parts", "(II)I"⟩
def yX0_share : MethodName := ⟨RX0, "share", "()Z"⟩
def yX0_tell : MethodName := ⟨RX0, "tell", "(JJ)Z"⟩
def yX0_derivations : MethodName := ⟨RX0, "derivations", "(I)I"⟩
def yX0_derivationsOf : MethodName := ⟨RX0, "derivationsOf", "(LBracketRoom$World;)I"⟩
def yX0_form : MethodName := ⟨RX0, "form", "()I"⟩
def yX0_formOf : MethodName := ⟨RX0, "formOf", "(LBracketRoom$World;)I"⟩
def yX0_classes : MethodName := ⟨RX0, "classes", "(I)I"⟩
def yX0_classesOf : MethodName := ⟨RX0, "classesOf", "(LBracketRoom$World;I)I"⟩
def yX0_rankOfD : MethodName := ⟨RX0, "rankOfD", "(LBracketRoom$World;I)I"⟩
def yX0_tellsOf : MethodName := ⟨RX0, "tellsOf", "(LBracketRoom$World;I[I)V"⟩
def yX0_numberOf : MethodName := ⟨RX0, "numberOf", "(I)I"⟩
def yX0_commuting : MethodName := ⟨RX0, "commuting", "()I"⟩
def yX0_commutingOf : MethodName := ⟨RX0, "commutingOf", "(LBracketRoom$World;)I"⟩
def yX0_maps : MethodName := ⟨RX0, "maps", "()I"⟩
def yX0_maps_2 : MethodName := ⟨RX0, "maps", "(LBracketRoom$World;LBracketRoom$World;Z)I"⟩
def yX0_seeks : MethodName := ⟨RX0, "seeks", "(LBracketRoom$World;LBracketRoom$World;IZ)V"⟩
def yX0_fits : MethodName := ⟨RX0, "fits", "(LBracketRoom$World;LBracketRoom$World;I)Z"⟩
def yX0_sameAs : MethodName := ⟨RX0, "sameAs", "(I)I"⟩
def yX0_orSpent : MethodName := ⟨RX0, "orSpent", "(I)I"⟩
def yX0_tries : MethodName := ⟨RX0, "tries", "()I"⟩
def yX0_parted : MethodName := ⟨RX0, "parted", "(I)I"⟩
def yX0_invariant : MethodName := ⟨RX0, "invariant", "(LBracketRoom$World;I)I"⟩
def yX0_change : MethodName := ⟨RX0, "change", "(I)Z"⟩
def yX0_wrongNumbers : MethodName := ⟨RX0, "wrongNumbers", "(IIII)I"⟩
def yX0_same : MethodName := ⟨RX0, "same", "()V"⟩
def yX0_changes : MethodName := ⟨RX0, "changes", "(LBracketRoom$World;)Z"⟩
def yX0_turnsBack : MethodName := ⟨RX0, "turnsBack", "(LBracketRoom$World;)Z"⟩
def yX0_squeeze : MethodName := ⟨RX0, "squeeze", "(I)Z"⟩
def yX0_barred : MethodName := ⟨RX0, "barred", "(I)I"⟩
def yX0_cocycle : MethodName := ⟨RX0, "cocycle", "(I)I"⟩
def yX0_couples : MethodName := ⟨RX0, "couples", "()I"⟩
def yX0_reads : MethodName := ⟨RX0, "reads", "(I)V"⟩
def yX0_isClosed : MethodName := ⟨RX0, "isClosed", "()Z"⟩
def yX0_grow : MethodName := ⟨RX0, "grow", "(I)I"⟩
def yX0_sum : MethodName := ⟨RX0, "sum", "(I)I"⟩
def yX0_wrongSum : MethodName := ⟨RX0, "wrongSum", "(I)I"⟩
def yX0_sums : MethodName := ⟨RX0, "sums", "(LBracketRoom$World;)V"⟩
def yX0_rest : MethodName := ⟨RX0, "rest", "(II)I"⟩
def yX0_leads : MethodName := ⟨RX0, "leads", "(I)Z"⟩
def yX0_takeOut : MethodName := ⟨RX0, "takeOut", "(II)I"⟩
def yX0_tables : MethodName := ⟨RX0, "tables", "(III)I"⟩
def yX0_run : MethodName := ⟨RX0, "run", "()I"⟩
def yX0_does : MethodName := ⟨RX0, "does", "(LBracketRoom$Step;)Z"⟩
def yX0_holds : MethodName := ⟨RX0, "holds", "(LBracketRoom$Step;)Z"⟩
def yX0_compares : MethodName := ⟨RX0, "compares", "(LBracketRoom$Step;I)Z"⟩
def yX0_behindEnds : MethodName := ⟨RX0, "behindEnds", "(I)I"⟩
def yX0_ran : MethodName := ⟨RX0, "ran", "(I)I"⟩
def yX0_mark : MethodName := ⟨RX0, "mark", "()I"⟩
def yX0_back : MethodName := ⟨RX0, "back", "()I"⟩
def RX1 : String := "BracketRoom$Scan"
def yX1_init : MethodName := ⟨RX1, "<init>", "([BLjava/lang/String;Ljava/lang/String;LBracketRoom$Wrong;)V"⟩
def yX1_begin : MethodName := ⟨RX1, "begin", "(I)V"⟩
def yX1_next : MethodName := ⟨RX1, "next", "()V"⟩
def yX1_at : MethodName := ⟨RX1, "at", "(I)I"⟩
def yX1_isSmall : MethodName := ⟨RX1, "isSmall", "(I)Z"⟩
def yX1_isDigit : MethodName := ⟨RX1, "isDigit", "(I)Z"⟩
def yX1_isSign : MethodName := ⟨RX1, "isSign", "(I)Z"⟩
def yX1_key : MethodName := ⟨RX1, "key", "()I"⟩
def yX1_in : MethodName := ⟨RX1, "in", "(Ljava/lang/String;)I"⟩
def yX1_isWord : MethodName := ⟨RX1, "isWord", "(Ljava/lang/String;II)Z"⟩
def yX1_need : MethodName := ⟨RX1, "need", "(Z)V"⟩
def yX1_fail : MethodName := ⟨RX1, "fail", "(I)LBracketRoom$Wrong;"⟩
def yX1_number : MethodName := ⟨RX1, "number", "(II)I"⟩
def yX1_closes : MethodName := ⟨RX1, "closes", "()V"⟩
def yX1_is : MethodName := ⟨RX1, "is", "(I)Z"⟩
def yX1_passed : MethodName := ⟨RX1, "passed", "(II)I"⟩
def RX2 : String := "BracketRoom$Reader"
def TX2 : u_T := fun k => match k with
  | 0 => ("BracketRoom$Scan", "tape", "[B", true)
  | 1 => ("BracketRoom$Scan", "size", "I", false)
  | 2 => ("BracketRoom$Scan", "sort", "I", false)
  | 3 => ("BracketRoom$Scan", "from", "I", false)
  | 4 => ("BracketRoom$Scan", "end", "I", false)
  | 5 => ("BracketRoom$Scan", "value", "I", false)
  | 6 => ("BracketRoom$Scan", "keys", "Ljava/lang/String;", true)
  | 7 => ("BracketRoom$Scan", "signs", "Ljava/lang/String;", true)
  | 8 => ("BracketRoom$Scan", "wrong", "LBracketRoom$Wrong;", true)
  | 9 => ("BracketRoom$Reader", "taped", "I", false)
  | 10 => ("BracketRoom$Reader", "stepMany", "I", false)
  | 11 => ("BracketRoom$Reader", "counted", "I", false)
  | 12 => ("BracketRoom$Reader", "open", "I", false)
  | 13 => ("BracketRoom$Reader", "steps", "[LBracketRoom$Step;", false)
  | _ => ("BracketRoom$Reader", "opened", "[I", true)
def tyX2 : Nat → FieldType := fun k => match k with
  | 0 => .array .byte
  | 1 => .int
  | 2 => .int
  | 3 => .int
  | 4 => .int
  | 5 => .int
  | 6 => .object "java/lang/String"
  | 7 => .object "java/lang/String"
  | 8 => .object "BracketRoom$Wrong"
  | 9 => .int
  | 10 => .int
  | 11 => .int
  | 12 => .int
  | 13 => .array (.object "BracketRoom$Step")
  | _ => .array .int
abbrev wsX20 : List Cond := u_ws RX2 TX2 15
theorem nmX2 : ∀ a, a < 15 → ∀ b, b < 15 → a ≠ b → (TX2 a).2.1 ≠ (TX2 b).2.1 := by decide +kernel
theorem tyX2_ok : ∀ k, k < 15 → parseFieldDescriptor (TX2 k).2.2.1 = some (tyX2 k) := by decide +kernel
def yX2_init : MethodName := ⟨RX2, "<init>", "(LBracketRoom$Wrong;)V"⟩
def yX2_world : MethodName := ⟨RX2, "world", "(ILBracketRoom$World;)V"⟩
def yX2_word : MethodName := ⟨RX2, "word", "(I)V"⟩
def yX2_terms : MethodName := ⟨RX2, "terms", "(LBracketRoom$World;II)V"⟩
def yX2_script : MethodName := ⟨RX2, "script", "(I)[LBracketRoom$Step;"⟩
def yX2_step : MethodName := ⟨RX2, "step", "()V"⟩
def yX2_test : MethodName := ⟨RX2, "test", "(LBracketRoom$Step;)V"⟩
def yX2_compares : MethodName := ⟨RX2, "compares", "(LBracketRoom$Step;)V"⟩
def RX3 : String := "BracketRoom$Wrong"
def TX3 : u_T := fun k => match k with
  | 0 => ("java/lang/Throwable", "cause", "Ljava/lang/Throwable;", false)
  | 1 => ("java/lang/Throwable", "stackTrace", "[Ljava/lang/StackTraceElement;", false)
  | 2 => ("java/lang/Throwable", "suppressedExceptions", "Ljava/util/List;", false)
  | 3 => ("java/lang/Throwable", "detailMessage", "Ljava/lang/String;", false)
  | 4 => ("java/lang/Throwable", "backtrace", "Ljava/lang/Object;", false)
  | 5 => ("java/lang/Throwable", "depth", "I", false)
  | 6 => ("BracketRoom$Wrong", "kind", "I", false)
  | _ => ("BracketRoom$Wrong", "place", "I", false)
def tyX3 : Nat → FieldType := fun k => match k with
  | 0 => .object "java/lang/Throwable"
  | 1 => .array (.object "java/lang/StackTraceElement")
  | 2 => .object "java/util/List"
  | 3 => .object "java/lang/String"
  | 4 => .object "java/lang/Object"
  | 5 => .int
  | 6 => .int
  | _ => .int
abbrev wsX30 : List Cond := u_ws RX3 TX3 8
theorem nmX3 : ∀ a, a < 8 → ∀ b, b < 8 → a ≠ b → (TX3 a).2.1 ≠ (TX3 b).2.1 := by decide +kernel
theorem tyX3_ok : ∀ k, k < 8 → parseFieldDescriptor (TX3 k).2.2.1 = some (tyX3 k) := by decide +kernel
def yX3_init : MethodName := ⟨RX3, "<init>", "()V"⟩
def yX3_of : MethodName := ⟨RX3, "of", "(II)LBracketRoom$Wrong;"⟩
def RX4 : String := "BracketRoom$World"
def TX4 : u_T := fun k => match k with
  | 0 => ("BracketRoom$World", "table", "[[[I", true)
  | 1 => ("BracketRoom$World", "prime", "I", false)
  | _ => ("BracketRoom$World", "size", "I", false)
def tyX4 : Nat → FieldType := fun k => match k with
  | 0 => .array (.array (.array .int))
  | 1 => .int
  | _ => .int
abbrev wsX40 : List Cond := u_ws RX4 TX4 3
theorem nmX4 : ∀ a, a < 3 → ∀ b, b < 3 → a ≠ b → (TX4 a).2.1 ≠ (TX4 b).2.1 := by decide +kernel
theorem tyX4_ok : ∀ k, k < 3 → parseFieldDescriptor (TX4 k).2.2.1 = some (tyX4 k) := by decide +kernel
def yX4_init : MethodName := ⟨RX4, "<init>", "()V"⟩
def yX4_clear : MethodName := ⟨RX4, "clear", "()V"⟩
def yX4_set : MethodName := ⟨RX4, "set", "(IIII)V"⟩
def yX4_by : MethodName := ⟨RX4, "by", "(I)I"⟩
def yX4_copy : MethodName := ⟨RX4, "copy", "(LBracketRoom$World;)V"⟩
def yX4_vectors : MethodName := ⟨RX4, "vectors", "()I"⟩
def yX4_parts : MethodName := ⟨RX4, "parts", "(I[I)V"⟩
def yX4_bracket : MethodName := ⟨RX4, "bracket", "([I[I[I)V"⟩
def yX4_vector : MethodName := ⟨RX4, "vector", "([I)I"⟩
def yX4_inverse : MethodName := ⟨RX4, "inverse", "(I)I"⟩
def yX4_rank : MethodName := ⟨RX4, "rank", "([[III)I"⟩
def yX4_isLike : MethodName := ⟨RX4, "isLike", "(LBracketRoom$World;)Z"⟩
def RX5 : String := "BracketRoom$Span"
def TX5 : u_T := fun k => match k with
  | 0 => ("BracketRoom$Span", "rows", "[[I", true)
  | 1 => ("BracketRoom$Span", "leads", "[I", true)
  | _ => ("BracketRoom$Span", "many", "I", false)
def tyX5 : Nat → FieldType := fun k => match k with
  | 0 => .array (.array .int)
  | 1 => .array .int
  | _ => .int
abbrev wsX50 : List Cond := u_ws RX5 TX5 3
theorem nmX5 : ∀ a, a < 3 → ∀ b, b < 3 → a ≠ b → (TX5 a).2.1 ≠ (TX5 b).2.1 := by decide +kernel
theorem tyX5_ok : ∀ k, k < 3 → parseFieldDescriptor (TX5 k).2.2.1 = some (tyX5 k) := by decide +kernel
def yX5_init : MethodName := ⟨RX5, "<init>", "()V"⟩
def yX5_add : MethodName := ⟨RX5, "add", "(LBracketRoom$World;[I)Z"⟩
def yX5_reduce : MethodName := ⟨RX5, "reduce", "(LBracketRoom$World;[I)V"⟩
def yX5_all : MethodName := ⟨RX5, "all", "(LBracketRoom$World;)V"⟩
def yX5_copy : MethodName := ⟨RX5, "copy", "(LBracketRoom$Span;)V"⟩
def yX5_holds : MethodName := ⟨RX5, "holds", "(LBracketRoom$World;[I[I)Z"⟩
def RX6 : String := "BracketRoom$Tray"
def TX6 : u_T := fun k => match k with
  | 0 => ("BracketRoom$Tray", "row", "Ljava/lang/Object;", false)
  | _ => ("BracketRoom$Tray", "sort", "I", false)
def tyX6 : Nat → FieldType := fun k => match k with
  | 0 => .object "java/lang/Object"
  | _ => .int
abbrev wsX60 : List Cond := u_ws RX6 TX6 2
theorem nmX6 : ∀ a, a < 2 → ∀ b, b < 2 → a ≠ b → (TX6 a).2.1 ≠ (TX6 b).2.1 := by decide +kernel
theorem tyX6_ok : ∀ k, k < 2 → parseFieldDescriptor (TX6 k).2.2.1 = some (tyX6 k) := by decide +kernel
def yX6_init : MethodName := ⟨RX6, "<init>", "()V"⟩
def yX6_make : MethodName := ⟨RX6, "make", "(II)V"⟩
def yX6_set : MethodName := ⟨RX6, "set", "(IJ)V"⟩
def yX6_get : MethodName := ⟨RX6, "get", "(I)J"⟩
def yX6_many : MethodName := ⟨RX6, "many", "()I"⟩
def RX7 : String := "BracketRoom$Kept"
def TX7 : u_T := fun k => match k with
  | 0 => ("BracketRoom$Kept", "world", "LBracketRoom$World;", true)
  | 1 => ("BracketRoom$Kept", "shelves", "[LBracketRoom$World;", true)
  | 2 => ("BracketRoom$Kept", "isHeld", "[Z", true)
  | 3 => ("BracketRoom$Kept", "steps", "[LBracketRoom$Step;", false)
  | _ => ("BracketRoom$Kept", "stepMany", "I", false)
def tyX7 : Nat → FieldType := fun k => match k with
  | 0 => .object "BracketRoom$World"
  | 1 => .array (.object "BracketRoom$World")
  | 2 => .array .boolean
  | 3 => .array (.object "BracketRoom$Step")
  | _ => .int
abbrev wsX70 : List Cond := u_ws RX7 TX7 5
theorem nmX7 : ∀ a, a < 5 → ∀ b, b < 5 → a ≠ b → (TX7 a).2.1 ≠ (TX7 b).2.1 := by decide +kernel
theorem tyX7_ok : ∀ k, k < 5 → parseFieldDescriptor (TX7 k).2.2.1 = some (tyX7 k) := by decide +kernel
def yX7_init : MethodName := ⟨RX7, "<init>", "()V"⟩
def RX8 : String := "BracketRoomModel"
def TX8 : u_T := fun k => match k with
  | 0 => ("BracketRoomModel", "status", "I", false)
  | 1 => ("BracketRoomModel", "thrown", "I", false)
  | 2 => ("BracketRoomModel", "above", "J", false)
  | 3 => ("BracketRoomModel", "under", "J", false)
  | 4 => ("BracketRoomModel", "traySort", "[I", true)
  | 5 => ("BracketRoomModel", "trayMany", "[I", true)
  | 6 => ("BracketRoomModel", "numbers", "[J", true)
  | 7 => ("BracketRoomModel", "tape", "[B", true)
  | 8 => ("BracketRoomModel", "taped", "I", false)
  | 9 => ("BracketRoomModel", "textEnd", "I", false)
  | 10 => ("BracketRoomModel", "faultKind", "I", false)
  | 11 => ("BracketRoomModel", "faultAt", "I", false)
  | 12 => ("BracketRoomModel", "bad", "I", false)
  | 13 => ("BracketRoomModel", "badAt", "I", false)
  | 14 => ("BracketRoomModel", "token", "I", false)
  | 15 => ("BracketRoomModel", "at", "I", false)
  | 16 => ("BracketRoomModel", "behind", "I", false)
  | 17 => ("BracketRoomModel", "number", "I", false)
  | 18 => ("BracketRoomModel", "word", "J", false)
  | 19 => ("BracketRoomModel", "c", "[I", true)
  | 20 => ("BracketRoomModel", "fresh", "[I", true)
  | 21 => ("BracketRoomModel", "other", "[I", true)
  | 22 => ("BracketRoomModel", "newScript", "[I", true)
  | 23 => ("BracketRoomModel", "markMany", "I", false)
  | 24 => ("BracketRoomModel", "w", "[I", false)
  | 25 => ("BracketRoomModel", "base", "I", false)
  | 26 => ("BracketRoomModel", "p", "I", false)
  | 27 => ("BracketRoomModel", "n", "I", false)
  | 28 => ("BracketRoomModel", "spanA", "[I", true)
  | 29 => ("BracketRoomModel", "spanB", "[I", true)
  | 30 => ("BracketRoomModel", "spanC", "[I", true)
  | 31 => ("BracketRoomModel", "spanD", "[I", true)
  | 32 => ("BracketRoomModel", "spanE", "[I", true)
  | 33 => ("BracketRoomModel", "v1", "[I", true)
  | 34 => ("BracketRoomModel", "v2", "[I", true)
  | 35 => ("BracketRoomModel", "v3", "[I", true)
  | 36 => ("BracketRoomModel", "v4", "[I", true)
  | 37 => ("BracketRoomModel", "rows", "[I", true)
  | 38 => ("BracketRoomModel", "row", "[I", true)
  | 39 => ("BracketRoomModel", "rowMany", "I", false)
  | 40 => ("BracketRoomModel", "images", "[I", true)
  | 41 => ("BracketRoomModel", "imageSpan", "[I", true)
  | 42 => ("BracketRoomModel", "imageMany", "[I", true)
  | 43 => ("BracketRoomModel", "tries", "I", false)
  | 44 => ("BracketRoomModel", "told", "I", false)
  | 45 => ("BracketRoomModel", "mapMany", "I", false)
  | 46 => ("BracketRoomModel", "spent", "Z", false)
  | 47 => ("BracketRoomModel", "stopsAtFirst", "Z", false)
  | 48 => ("BracketRoomModel", "lastRan", "[I", true)
  | 49 => ("BracketRoomModel", "hasRan", "Z", false)
  | 50 => ("BracketRoomModel", "isOver", "Z", false)
  | 51 => ("BracketRoomModel", "done", "I", false)
  | 52 => ("BracketRoomModel", "missed", "I", false)
  | 53 => ("BracketRoomModel", "leftOver", "I", false)
  | 54 => ("BracketRoomModel", "reduced", "[I", true)
  | 55 => ("BracketRoomModel", "jacobi", "[I", true)
  | 56 => ("BracketRoomModel", "leads", "[I", true)
  | 57 => ("BracketRoomModel", "freeRow", "[I", true)
  | 58 => ("BracketRoomModel", "freePart", "[I", true)
  | 59 => ("BracketRoomModel", "leadMany", "I", false)
  | 60 => ("BracketRoomModel", "freeMany", "I", false)
  | 61 => ("BracketRoomModel", "matrix", "[I", true)
  | 62 => ("BracketRoomModel", "powers", "[I", true)
  | 63 => ("BracketRoomModel", "product", "[I", true)
  | 64 => ("BracketRoomModel", "source", "[I", false)
  | 65 => ("BracketRoomModel", "sourceFrom", "I", false)
  | 66 => ("BracketRoomModel", "base5", "[I", true)
  | 67 => ("BracketRoomModel", "back5", "[I", true)
  | 68 => ("BracketRoomModel", "seen", "[Z", true)
  | 69 => ("BracketRoomModel", "one", "[I", true)
  | _ => ("BracketRoomModel", "newSteps", "I", false)
def tyX8 : Nat → FieldType := fun k => match k with
  | 0 => .int
  | 1 => .int
  | 2 => .long
  | 3 => .long
  | 4 => .array .int
  | 5 => .array .int
  | 6 => .array .long
  | 7 => .array .byte
  | 8 => .int
  | 9 => .int
  | 10 => .int
  | 11 => .int
  | 12 => .int
  | 13 => .int
  | 14 => .int
  | 15 => .int
  | 16 => .int
  | 17 => .int
  | 18 => .long
  | 19 => .array .int
  | 20 => .array .int
  | 21 => .array .int
  | 22 => .array .int
  | 23 => .int
  | 24 => .array .int
  | 25 => .int
  | 26 => .int
  | 27 => .int
  | 28 => .array .int
  | 29 => .array .int
  | 30 => .array .int
  | 31 => .array .int
  | 32 => .array .int
  | 33 => .array .int
  | 34 => .array .int
  | 35 => .array .int
  | 36 => .array .int
  | 37 => .array .int
  | 38 => .array .int
  | 39 => .int
  | 40 => .array .int
  | 41 => .array .int
  | 42 => .array .int
  | 43 => .int
  | 44 => .int
  | 45 => .int
  | 46 => .boolean
  | 47 => .boolean
  | 48 => .array .int
  | 49 => .boolean
  | 50 => .boolean
  | 51 => .int
  | 52 => .int
  | 53 => .int
  | 54 => .array .int
  | 55 => .array .int
  | 56 => .array .int
  | 57 => .array .int
  | 58 => .array .int
  | 59 => .int
  | 60 => .int
  | 61 => .array .int
  | 62 => .array .int
  | 63 => .array .int
  | 64 => .array .int
  | 65 => .int
  | 66 => .array .int
  | 67 => .array .int
  | 68 => .array .boolean
  | 69 => .array .int
  | _ => .int
abbrev wsX80 : List Cond := u_ws RX8 TX8 71
theorem nmX8 : ∀ a, a < 71 → ∀ b, b < 71 → a ≠ b → (TX8 a).2.1 ≠ (TX8 b).2.1 := by decide +kernel
theorem tyX8_ok : ∀ k, k < 71 → parseFieldDescriptor (TX8 k).2.2.1 = some (tyX8 k) := by decide +kernel
def yX8_init : MethodName := ⟨RX8, "<init>", "()V"⟩
def yX8_status : MethodName := ⟨RX8, "status", "()I"⟩
def yX8_top : MethodName := ⟨RX8, "top", "()J"⟩
def yX8_bottom : MethodName := ⟨RX8, "bottom", "()J"⟩
def yX8_tray : MethodName := ⟨RX8, "tray", "(III)Z"⟩
def yX8_no : MethodName := ⟨RX8, "no", "(I)Z"⟩
def yX8_write : MethodName := ⟨RX8, "write", "(IIJ)Z"⟩
def yX8_placed : MethodName := ⟨RX8, "placed", "(II)I"⟩
def yX8_trayed : MethodName := ⟨RX8, "trayed", "(I)I"⟩
def yX8_cut : MethodName := ⟨RX8, "cut", "(IJ)J"⟩
def yX8_read : MethodName := ⟨RX8, "read", "(II)J"⟩
def yX8_pour : MethodName := ⟨RX8, "pour", "(IIIII)Z"⟩
def yX8_feed : MethodName := ⟨RX8, "feed", "(IIIII)I"⟩
def yX8_lay : MethodName := ⟨RX8, "lay", "(I)V"⟩
def yX8_fault : MethodName := ⟨RX8, "fault", "(I)I"⟩
def yX8_world : MethodName := ⟨RX8, "world", "(I)I"⟩
def yX8_opens : MethodName := ⟨RX8, "opens", "(II)Z"⟩
def yX8_next : MethodName := ⟨RX8, "next", "()V"⟩
def yX8_look2 : MethodName := ⟨RX8, "look2", "(I)I"⟩
def yX8_isLetter : MethodName := ⟨RX8, "isLetter", "(I)Z"⟩
def yX8_isDigit : MethodName := ⟨RX8, "isDigit", "(I)Z"⟩
def yX8_isSignByte : MethodName := ⟨RX8, "isSignByte", "(I)Z"⟩
def yX8_isPrime : MethodName := ⟨RX8, "isPrime", "()Z"⟩
def yX8_spelled : MethodName := ⟨RX8, "spelled", "(IIIIII)J"⟩
def yX8_isWord : MethodName := ⟨RX8, "isWord", "(J)Z"⟩
def yX8_must : MethodName := ⟨RX8, "must", "(Z)V"⟩
def yX8_wrong : MethodName := ⟨RX8, "wrong", "()V"⟩
def yX8_fail : MethodName := ⟨RX8, "fail", "(II)V"⟩
def yX8_isPrimeNumber : MethodName := ⟨RX8, "isPrimeNumber", "(I)Z"⟩
def yX8_count : MethodName := ⟨RX8, "count", "(II)I"⟩
def yX8_isIn : MethodName := ⟨RX8, "isIn", "(JJJ)Z"⟩
def yX8_isSign : MethodName := ⟨RX8, "isSign", "(I)Z"⟩
def yX8_isSizeWord : MethodName := ⟨RX8, "isSizeWord", "()Z"⟩
def yX8_greatest : MethodName := ⟨RX8, "greatest", "(I)I"⟩
def yX8_clear : MethodName := ⟨RX8, "clear", "([IIII)V"⟩
def yX8_isBracket : MethodName := ⟨RX8, "isBracket", "()Z"⟩
def yX8_longer : MethodName := ⟨RX8, "longer", "(JIII)J"⟩
def yX8_readBracket : MethodName := ⟨RX8, "readBracket", "()V"⟩
def yX8_cell : MethodName := ⟨RX8, "cell", "(III)I"⟩
def yX8_isGives : MethodName := ⟨RX8, "isGives", "()Z"⟩
def yX8_isLess : MethodName := ⟨RX8, "isLess", "()Z"⟩
def yX8_isOf : MethodName := ⟨RX8, "isOf", "()Z"⟩
def yX8_set : MethodName := ⟨RX8, "set", "([IIIIII)V"⟩
def yX8_left : MethodName := ⟨RX8, "left", "(II)I"⟩
def yX8_isWell : MethodName := ⟨RX8, "isWell", "()Z"⟩
def yX8_move : MethodName := ⟨RX8, "move", "([II[II)V"⟩
def yX8_many : MethodName := ⟨RX8, "many", "(I)I"⟩
def yX8_askNow : MethodName := ⟨RX8, "askNow", "()V"⟩
def yX8_ask : MethodName := ⟨RX8, "ask", "([II)V"⟩
def yX8_refuse : MethodName := ⟨RX8, "refuse", "(I)I"⟩
def yX8_table : MethodName := ⟨RX8, "table", "(III)I"⟩
def yX8_constant : MethodName := ⟨RX8, "constant", "(III)I"⟩
def yX8_isBase : MethodName := ⟨RX8, "isBase", "(I)Z"⟩
def yX8_put : MethodName := ⟨RX8, "put", "(IIII)Z"⟩
def yX8_bracket : MethodName := ⟨RX8, "bracket", "(II)I"⟩
def yX8_isVector : MethodName := ⟨RX8, "isVector", "(J)Z"⟩
def yX8_vectors : MethodName := ⟨RX8, "vectors", "()I"⟩
def yX8_powerOf : MethodName := ⟨RX8, "powerOf", "(I)I"⟩
def yX8_parts2 : MethodName := ⟨RX8, "parts2", "(I[II)V"⟩
def yX8_bracketOf : MethodName := ⟨RX8, "bracketOf", "([II[II[I)V"⟩
def yX8_numberOfVector : MethodName := ⟨RX8, "numberOfVector", "([II)I"⟩
def yX8_lawful : MethodName := ⟨RX8, "lawful", "()I"⟩
def yX8_isLawful : MethodName := ⟨RX8, "isLawful", "()Z"⟩
def yX8_breaks : MethodName := ⟨RX8, "breaks", "(III)Z"⟩
def yX8_addJacobi : MethodName := ⟨RX8, "addJacobi", "(III[I)V"⟩
def yX8_unit : MethodName := ⟨RX8, "unit", "(I[I)V"⟩
def yX8_leadOf : MethodName := ⟨RX8, "leadOf", "([II)I"⟩
def yX8_failing : MethodName := ⟨RX8, "failing", "(I)I"⟩
def yX8_keep : MethodName := ⟨RX8, "keep", "(I)Z"⟩
def yX8_isShelf : MethodName := ⟨RX8, "isShelf", "(I)Z"⟩
def yX8_take : MethodName := ⟨RX8, "take", "(I)Z"⟩
def yX8_isEmpty : MethodName := ⟨RX8, "isEmpty", "(I)Z"⟩
def yX8_span : MethodName := ⟨RX8, "span", "(III)I"⟩
def yX8_isTray : MethodName := ⟨RX8, "isTray", "(I)Z"⟩
def yX8_wrongVectors : MethodName := ⟨RX8, "wrongVectors", "(II)I"⟩
def yX8_numberOf : MethodName := ⟨RX8, "numberOf", "(II)J"⟩
def yX8_made : MethodName := ⟨RX8, "made", "(III)I"⟩
def yX8_join : MethodName := ⟨RX8, "join", "([II[II)I"⟩
def yX8_reduce : MethodName := ⟨RX8, "reduce", "([II[II)V"⟩
def yX8_inverse : MethodName := ⟨RX8, "inverse", "(I)I"⟩
def yX8_copySpan : MethodName := ⟨RX8, "copySpan", "([I[I)V"⟩
def yX8_wholeSpan : MethodName := ⟨RX8, "wholeSpan", "([I)I"⟩
def yX8_derived : MethodName := ⟨RX8, "derived", "(I)I"⟩
def yX8_seriesOf : MethodName := ⟨RX8, "seriesOf", "(IZ)I"⟩
def yX8_brackets : MethodName := ⟨RX8, "brackets", "([II[II[I)I"⟩
def yX8_lower : MethodName := ⟨RX8, "lower", "(I)I"⟩
def yX8_centre : MethodName := ⟨RX8, "centre", "()I"⟩
def yX8_centreSize : MethodName := ⟨RX8, "centreSize", "()I"⟩
def yX8_noRows : MethodName := ⟨RX8, "noRows", "()V"⟩
def yX8_addEquation : MethodName := ⟨RX8, "addEquation", "(I)V"⟩
def yX8_leadOfRow : MethodName := ⟨RX8, "leadOfRow", "([III)I"⟩
def yX8_centralizer : MethodName := ⟨RX8, "centralizer", "(I)I"⟩
def yX8_rankOf : MethodName := ⟨RX8, "rankOf", "(I)I"⟩
def yX8_rank : MethodName := ⟨RX8, "rank", "(I)I"⟩
def yX8_parts : MethodName := ⟨RX8, "parts", "(II)I"⟩
def yX8_countSpans : MethodName := ⟨RX8, "countSpans", "(II)I"⟩
def yX8_lead : MethodName := ⟨RX8, "lead", "(I)V"⟩
def yX8_spanBy : MethodName := ⟨RX8, "spanBy", "(I)V"⟩
def yX8_isSuch : MethodName := ⟨RX8, "isSuch", "(II)Z"⟩
def yX8_isIdeal : MethodName := ⟨RX8, "isIdeal", "(I)Z"⟩
def yX8_holds : MethodName := ⟨RX8, "holds", "([II[II)Z"⟩
def yX8_isPart : MethodName := ⟨RX8, "isPart", "(I)Z"⟩
def yX8_isAbelianPart : MethodName := ⟨RX8, "isAbelianPart", "(I)Z"⟩
def yX8_endsIn0 : MethodName := ⟨RX8, "endsIn0", "(IZ)Z"⟩
def yX8_normalizerSize : MethodName := ⟨RX8, "normalizerSize", "(I)I"⟩
def yX8_share : MethodName := ⟨RX8, "share", "()Z"⟩
def yX8_fraction : MethodName := ⟨RX8, "fraction", "(JJ)Z"⟩
def yX8_is : MethodName := ⟨RX8, "is", "(I)I"⟩
def yX8_isSo : MethodName := ⟨RX8, "isSo", "(I)Z"⟩
def yX8_isAbelian : MethodName := ⟨RX8, "isAbelian", "()Z"⟩
def yX8_isSimple : MethodName := ⟨RX8, "isSimple", "()Z"⟩
def yX8_isUnimodular : MethodName := ⟨RX8, "isUnimodular", "()Z"⟩
def yX8_radical : MethodName := ⟨RX8, "radical", "(I)I"⟩
def yX8_power : MethodName := ⟨RX8, "power", "(I)I"⟩
def yX8_matrixOf : MethodName := ⟨RX8, "matrixOf", "(I)V"⟩
def yX8_isZero : MethodName := ⟨RX8, "isZero", "([I)Z"⟩
def yX8_times : MethodName := ⟨RX8, "times", "([I[I[I)V"⟩
def yX8_derivations : MethodName := ⟨RX8, "derivations", "(I)I"⟩
def yX8_derivationSize : MethodName := ⟨RX8, "derivationSize", "()I"⟩
def yX8_form : MethodName := ⟨RX8, "form", "()I"⟩
def yX8_formRank : MethodName := ⟨RX8, "formRank", "()I"⟩
def yX8_classes : MethodName := ⟨RX8, "classes", "(I)I"⟩
def yX8_classSize : MethodName := ⟨RX8, "classSize", "(I)I"⟩
def yX8_setsOf : MethodName := ⟨RX8, "setsOf", "(I)I"⟩
def yX8_bits : MethodName := ⟨RX8, "bits", "(I)I"⟩
def yX8_rankOfD : MethodName := ⟨RX8, "rankOfD", "(I)I"⟩
def yX8_rowOfD : MethodName := ⟨RX8, "rowOfD", "(II)V"⟩
def yX8_numberOfSet : MethodName := ⟨RX8, "numberOfSet", "(I)I"⟩
def yX8_commuting : MethodName := ⟨RX8, "commuting", "()I"⟩
def yX8_commutingMany : MethodName := ⟨RX8, "commutingMany", "()I"⟩
def yX8_maps : MethodName := ⟨RX8, "maps", "()I"⟩
def yX8_findMaps : MethodName := ⟨RX8, "findMaps", "([IIZ)V"⟩
def yX8_goMaps : MethodName := ⟨RX8, "goMaps", "(I)V"⟩
def yX8_isMapSoFar : MethodName := ⟨RX8, "isMapSoFar", "(I)Z"⟩
def yX8_sourceTable : MethodName := ⟨RX8, "sourceTable", "(III)I"⟩
def yX8_sameAs : MethodName := ⟨RX8, "sameAs", "(I)I"⟩
def yX8_same : MethodName := ⟨RX8, "same", "(I)I"⟩
def yX8_isUnlike : MethodName := ⟨RX8, "isUnlike", "([II)Z"⟩
def yX8_tries : MethodName := ⟨RX8, "tries", "()I"⟩
def yX8_parted : MethodName := ⟨RX8, "parted", "(I)I"⟩
def yX8_markBy : MethodName := ⟨RX8, "markBy", "(I)I"⟩
def yX8_change : MethodName := ⟨RX8, "change", "(I)Z"⟩
def yX8_changeInto : MethodName := ⟨RX8, "changeInto", "()Z"⟩
def yX8_turnsBack : MethodName := ⟨RX8, "turnsBack", "()Z"⟩
def yX8_exchange : MethodName := ⟨RX8, "exchange", "([III)V"⟩
def yX8_takeOther : MethodName := ⟨RX8, "takeOther", "()V"⟩
def yX8_squeeze : MethodName := ⟨RX8, "squeeze", "(I)Z"⟩
def yX8_barred : MethodName := ⟨RX8, "barred", "(I)I"⟩
def yX8_cocycle : MethodName := ⟨RX8, "cocycle", "(I)I"⟩
def yX8_wrongForm : MethodName := ⟨RX8, "wrongForm", "(I)I"⟩
def yX8_couples : MethodName := ⟨RX8, "couples", "()I"⟩
def yX8_isClosed : MethodName := ⟨RX8, "isClosed", "(I)Z"⟩
def yX8_formOfBracket : MethodName := ⟨RX8, "formOfBracket", "(IIII)I"⟩
def yX8_formOf : MethodName := ⟨RX8, "formOf", "(III)I"⟩
def yX8_coupleOf : MethodName := ⟨RX8, "coupleOf", "(II)I"⟩
def yX8_grow : MethodName := ⟨RX8, "grow", "(I)I"⟩
def yX8_sum : MethodName := ⟨RX8, "sum", "(I)I"⟩
def yX8_sumWith : MethodName := ⟨RX8, "sumWith", "(I)I"⟩
def yX8_rest : MethodName := ⟨RX8, "rest", "(II)I"⟩
def yX8_wrongMade : MethodName := ⟨RX8, "wrongMade", "(II)I"⟩
def yX8_takeOut : MethodName := ⟨RX8, "takeOut", "(II)I"⟩
def yX8_tables : MethodName := ⟨RX8, "tables", "(III)I"⟩
def yX8_numbersOf : MethodName := ⟨RX8, "numbersOf", "(I)I"⟩
def yX8_tableBy : MethodName := ⟨RX8, "tableBy", "(I)V"⟩
def yX8_seeAll : MethodName := ⟨RX8, "seeAll", "()V"⟩
def yX8_codeOf : MethodName := ⟨RX8, "codeOf", "([I)I"⟩
def yX8_script : MethodName := ⟨RX8, "script", "(I)I"⟩
def yX8_readStep : MethodName := ⟨RX8, "readStep", "(I)V"⟩
def yX8_stepWord : MethodName := ⟨RX8, "stepWord", "()I"⟩
def yX8_readRest : MethodName := ⟨RX8, "readRest", "(I)V"⟩
def yX8_isBy : MethodName := ⟨RX8, "isBy", "()Z"⟩
def yX8_isTo : MethodName := ⟨RX8, "isTo", "()Z"⟩
def yX8_readTest : MethodName := ⟨RX8, "readTest", "(I)V"⟩
def yX8_testWord : MethodName := ⟨RX8, "testWord", "()I"⟩
def yX8_readSign : MethodName := ⟨RX8, "readSign", "(I)V"⟩
def yX8_isEnd : MethodName := ⟨RX8, "isEnd", "()Z"⟩
def yX8_run : MethodName := ⟨RX8, "run", "()I"⟩
def yX8_doAll : MethodName := ⟨RX8, "doAll", "(II)V"⟩
def yX8_doOne : MethodName := ⟨RX8, "doOne", "(I)V"⟩
def yX8_isSoNow : MethodName := ⟨RX8, "isSoNow", "(I)Z"⟩
def yX8_compares : MethodName := ⟨RX8, "compares", "(II)Z"⟩
def yX8_doPlain : MethodName := ⟨RX8, "doPlain", "(I)Z"⟩
def yX8_linear : MethodName := ⟨RX8, "linear", "(I)Z"⟩
def yX8_ran : MethodName := ⟨RX8, "ran", "(I)I"⟩
def yX8_mark : MethodName := ⟨RX8, "mark", "()I"⟩
def yX8_copy : MethodName := ⟨RX8, "copy", "(II)V"⟩
def yX8_back : MethodName := ⟨RX8, "back", "()I"⟩
def RX9 : String := "BracketRoom$Step"
def TX9 : u_T := fun k => match k with
  | 0 => ("BracketRoom$Step", "kind", "I", true)
  | 1 => ("BracketRoom$Step", "one", "I", false)
  | 2 => ("BracketRoom$Step", "two", "I", false)
  | 3 => ("BracketRoom$Step", "number", "I", false)
  | 4 => ("BracketRoom$Step", "compares", "I", false)
  | 5 => ("BracketRoom$Step", "test", "I", false)
  | 6 => ("BracketRoom$Step", "to", "I", false)
  | _ => ("BracketRoom$Step", "rounds", "I", false)
def tyX9 : Nat → FieldType := fun k => match k with
  | 0 => .int
  | 1 => .int
  | 2 => .int
  | 3 => .int
  | 4 => .int
  | 5 => .int
  | 6 => .int
  | _ => .int
abbrev wsX90 : List Cond := u_ws RX9 TX9 8
theorem nmX9 : ∀ a, a < 8 → ∀ b, b < 8 → a ≠ b → (TX9 a).2.1 ≠ (TX9 b).2.1 := by decide +kernel
theorem tyX9_ok : ∀ k, k < 8 → parseFieldDescriptor (TX9 k).2.2.1 = some (tyX9 k) := by decide +kernel
def yX9_init : MethodName := ⟨RX9, "<init>", "(I)V"⟩
def RJ0 : String := "java/lang/Throwable"
def TJ0 : u_T := fun k => match k with
  | 0 => ("java/lang/Throwable", "cause", "Ljava/lang/Throwable;", false)
  | 1 => ("java/lang/Throwable", "stackTrace", "[Ljava/lang/StackTraceElement;", false)
  | 2 => ("java/lang/Throwable", "suppressedExceptions", "Ljava/util/List;", false)
  | 3 => ("java/lang/Throwable", "detailMessage", "Ljava/lang/String;", false)
  | _ => ("java/lang/Throwable", "backtrace", "Ljava/lang/Object;", false)
def tyJ0 : Nat → FieldType := fun k => match k with
  | 0 => .object "java/lang/Throwable"
  | 1 => .array (.object "java/lang/StackTraceElement")
  | 2 => .object "java/util/List"
  | 3 => .object "java/lang/String"
  | _ => .object "java/lang/Object"
abbrev wsJ00 : List Cond := u_ws RJ0 TJ0 5
theorem nmJ0 : ∀ a, a < 5 → ∀ b, b < 5 → a ≠ b → (TJ0 a).2.1 ≠ (TJ0 b).2.1 := by decide +kernel
theorem tyJ0_ok : ∀ k, k < 5 → parseFieldDescriptor (TJ0 k).2.2.1 = some (tyJ0 k) := by decide +kernel
def yJ0_init : MethodName := ⟨RJ0, "<init>", "()V"⟩
def yJ0_init_2 : MethodName := ⟨RJ0, "<init>", "(Ljava/lang/String;Ljava/lang/Throwable;ZZ)V"⟩
def yJ0_init_3 : MethodName := ⟨RJ0, "<init>", "(Ljava/lang/String;)V"⟩
def RJ1 : String := "java/lang/Exception"
def yJ1_init : MethodName := ⟨RJ1, "<init>", "(Ljava/lang/String;Ljava/lang/Throwable;ZZ)V"⟩
def yJ1_init_2 : MethodName := ⟨RJ1, "<init>", "(Ljava/lang/String;)V"⟩
def yJ1_init_3 : MethodName := ⟨RJ1, "<init>", "()V"⟩
def RJ2 : String := "java/lang/RuntimeException"
def yJ2_init : MethodName := ⟨RJ2, "<init>", "(Ljava/lang/String;Ljava/lang/Throwable;ZZ)V"⟩
def yJ2_init_2 : MethodName := ⟨RJ2, "<init>", "(Ljava/lang/String;)V"⟩
def yJ2_init_3 : MethodName := ⟨RJ2, "<init>", "()V"⟩
def RJ3 : String := "java/lang/NegativeArraySizeException"
def TJ3 : u_T := fun k => match k with
  | 0 => ("java/lang/Throwable", "backtrace", "Ljava/lang/Object;", false)
  | 1 => ("java/lang/Throwable", "detailMessage", "Ljava/lang/String;", false)
  | 2 => ("java/lang/Throwable", "cause", "Ljava/lang/Throwable;", false)
  | 3 => ("java/lang/Throwable", "stackTrace", "[Ljava/lang/StackTraceElement;", false)
  | 4 => ("java/lang/Throwable", "depth", "I", false)
  | _ => ("java/lang/Throwable", "suppressedExceptions", "Ljava/util/List;", false)
def tyJ3 : Nat → FieldType := fun k => match k with
  | 0 => .object "java/lang/Object"
  | 1 => .object "java/lang/String"
  | 2 => .object "java/lang/Throwable"
  | 3 => .array (.object "java/lang/StackTraceElement")
  | 4 => .int
  | _ => .object "java/util/List"
abbrev wsJ30 : List Cond := u_ws RJ3 TJ3 6
theorem nmJ3 : ∀ a, a < 6 → ∀ b, b < 6 → a ≠ b → (TJ3 a).2.1 ≠ (TJ3 b).2.1 := by decide +kernel
theorem tyJ3_ok : ∀ k, k < 6 → parseFieldDescriptor (TJ3 k).2.2.1 = some (tyJ3 k) := by decide +kernel
def yJ3_init : MethodName := ⟨RJ3, "<init>", "(Ljava/lang/String;)V"⟩
def RJ4 : String := "java/lang/String"
def TJ4 : u_T := fun k => match k with
  | 0 => ("java/lang/String", "value", "[B", true)
  | _ => ("java/lang/String", "coder", "B", true)
def tyJ4 : Nat → FieldType := fun k => match k with
  | 0 => .array .byte
  | _ => .byte
abbrev wsJ40 : List Cond := u_ws RJ4 TJ4 2
theorem nmJ4 : ∀ a, a < 2 → ∀ b, b < 2 → a ≠ b → (TJ4 a).2.1 ≠ (TJ4 b).2.1 := by decide +kernel
theorem tyJ4_ok : ∀ k, k < 2 → parseFieldDescriptor (TJ4 k).2.2.1 = some (tyJ4 k) := by decide +kernel
def yJ4_length : MethodName := ⟨RJ4, "length", "()I"⟩
def yJ4_coder : MethodName := ⟨RJ4, "coder", "()B"⟩
def yJ4_charAt : MethodName := ⟨RJ4, "charAt", "(I)C"⟩
def yJ4_isLatin1 : MethodName := ⟨RJ4, "isLatin1", "()Z"⟩
def yJ4_checkIndex : MethodName := ⟨RJ4, "checkIndex", "(II)V"⟩
def RJ5 : String := "java/lang/NullPointerException"
def TJ5 : u_T := fun k => match k with
  | 0 => ("java/lang/Throwable", "backtrace", "Ljava/lang/Object;", false)
  | 1 => ("java/lang/Throwable", "detailMessage", "Ljava/lang/String;", false)
  | 2 => ("java/lang/Throwable", "cause", "Ljava/lang/Throwable;", false)
  | 3 => ("java/lang/Throwable", "stackTrace", "[Ljava/lang/StackTraceElement;", false)
  | 4 => ("java/lang/Throwable", "depth", "I", false)
  | 5 => ("java/lang/Throwable", "suppressedExceptions", "Ljava/util/List;", false)
  | 6 => ("java/lang/NullPointerException", "extendedMessageState", "I", false)
  | _ => ("java/lang/NullPointerException", "extendedMessage", "Ljava/lang/String;", false)
def tyJ5 : Nat → FieldType := fun k => match k with
  | 0 => .object "java/lang/Object"
  | 1 => .object "java/lang/String"
  | 2 => .object "java/lang/Throwable"
  | 3 => .array (.object "java/lang/StackTraceElement")
  | 4 => .int
  | 5 => .object "java/util/List"
  | 6 => .int
  | _ => .object "java/lang/String"
abbrev wsJ50 : List Cond := u_ws RJ5 TJ5 8
theorem nmJ5 : ∀ a, a < 8 → ∀ b, b < 8 → a ≠ b → (TJ5 a).2.1 ≠ (TJ5 b).2.1 := by decide +kernel
theorem tyJ5_ok : ∀ k, k < 8 → parseFieldDescriptor (TJ5 k).2.2.1 = some (tyJ5 k) := by decide +kernel
def yJ5_init : MethodName := ⟨RJ5, "<init>", "()V"⟩
def RJ6 : String := "java/lang/IndexOutOfBoundsException"
def yJ6_init : MethodName := ⟨RJ6, "<init>", "(Ljava/lang/String;)V"⟩
def RJ7 : String := "java/lang/ArrayIndexOutOfBoundsException"
def TJ7 : u_T := fun k => match k with
  | 0 => ("java/lang/Throwable", "backtrace", "Ljava/lang/Object;", false)
  | 1 => ("java/lang/Throwable", "detailMessage", "Ljava/lang/String;", false)
  | 2 => ("java/lang/Throwable", "cause", "Ljava/lang/Throwable;", false)
  | 3 => ("java/lang/Throwable", "stackTrace", "[Ljava/lang/StackTraceElement;", false)
  | 4 => ("java/lang/Throwable", "depth", "I", false)
  | _ => ("java/lang/Throwable", "suppressedExceptions", "Ljava/util/List;", false)
def tyJ7 : Nat → FieldType := fun k => match k with
  | 0 => .object "java/lang/Object"
  | 1 => .object "java/lang/String"
  | 2 => .object "java/lang/Throwable"
  | 3 => .array (.object "java/lang/StackTraceElement")
  | 4 => .int
  | _ => .object "java/util/List"
abbrev wsJ70 : List Cond := u_ws RJ7 TJ7 6
theorem nmJ7 : ∀ a, a < 6 → ∀ b, b < 6 → a ≠ b → (TJ7 a).2.1 ≠ (TJ7 b).2.1 := by decide +kernel
theorem tyJ7_ok : ∀ k, k < 6 → parseFieldDescriptor (TJ7 k).2.2.1 = some (tyJ7 k) := by decide +kernel
def yJ7_init : MethodName := ⟨RJ7, "<init>", "(Ljava/lang/String;)V"⟩
def RJ8 : String := "java/lang/Math"
def yJ8_min : MethodName := ⟨RJ8, "min", "(II)I"⟩
def yJ8_floorMod : MethodName := ⟨RJ8, "floorMod", "(II)I"⟩
def yJ8_abs : MethodName := ⟨RJ8, "abs", "(J)J"⟩
def RJ9 : String := "java/lang/StringLatin1"
def yJ9_charAt : MethodName := ⟨RJ9, "charAt", "([BI)C"⟩
def RJ10 : String := "jdk/internal/util/Preconditions"
def yJ10_checkIndex : MethodName := ⟨RJ10, "checkIndex", "(IILjava/util/function/BiFunction;)I"⟩
def RJ11 : String := "java/lang/StringUTF16"
def yJ11_charAt : MethodName := ⟨RJ11, "charAt", "([BI)C"⟩
def yJ11_checkIndex : MethodName := ⟨RJ11, "checkIndex", "(I[B)V"⟩
def yJ11_length : MethodName := ⟨RJ11, "length", "([B)I"⟩
def yJ11_getChar : MethodName := ⟨RJ11, "getChar", "([BI)C"⟩
def RJ12 : String := "java/lang/Integer"
def yJ12_bitCount : MethodName := ⟨RJ12, "bitCount", "(I)I"⟩
def RJ13 : String := "java/lang/Object"
def yJ13_init : MethodName := ⟨RJ13, "<init>", "()V"⟩
theorem q187 : (Jvm.Cond.initialized "BracketRoom") ∈ lw_all := lw_g (lw_at lw_m1 1 rfl) rfl
theorem q212 : (Jvm.Cond.instantiable "BracketRoom" (48 : Nat)) ∈ lw_all := lw_g (lw_at lw_m1 26 rfl) rfl
theorem q214 : (Jvm.Cond.instanceMethod ({ cls := "BracketRoom", name := "<init>", desc := "()V" } : Jvm.MethodName)) ∈ lw_all := lw_g (lw_at lw_m1 28 rfl) rfl
theorem q215 : (Jvm.Cond.code ({ cls := "BracketRoom", name := "<init>", desc := "()V" } : Jvm.MethodName) prog_1_method_3_code (2 : Nat) (Option.none : Option Jvm.ClassFile.FieldType)) ∈ lw_all := lw_g (lw_at lw_m1 29 rfl) rfl
theorem q216 : (Jvm.Cond.methodLink "BracketRoom" (3 : Nat) ({ cls := "java/lang/Object", name := "<init>", desc := "()V" } : Jvm.MethodName)) ∈ lw_all := lw_g (lw_at lw_m1 30 rfl) rfl
theorem q219 : (Jvm.Cond.classLink "BracketRoom" (9 : Nat) "BracketRoom$Tray") ∈ lw_all := lw_g (lw_at lw_m1 33 rfl) rfl
theorem q221 : (Jvm.Cond.classLink "BracketRoom" (15 : Nat) "BracketRoom$Reader") ∈ lw_all := lw_g (lw_at lw_m1 35 rfl) rfl
theorem q223 : (Jvm.Cond.classLink "BracketRoom" (17 : Nat) "BracketRoom$Wrong") ∈ lw_all := lw_g (lw_at lw_m1 37 rfl) rfl
theorem q278 : (Jvm.Cond.methodLink "BracketRoom" (19 : Nat) ({ cls := "BracketRoom$Wrong", name := "<init>", desc := "()V" } : Jvm.MethodName)) ∈ lw_all := lw_g (lw_at lw_m1 92 rfl) rfl
theorem q291 : (Jvm.Cond.fieldLinkNest "BracketRoom" (214 : Nat) "BracketRoom$Wrong" "kind" "I" "BracketRoom") ∈ lw_tbl := lw_at lw_m1 105 rfl
theorem q293 : (Jvm.Cond.fieldLinkNest "BracketRoom" (217 : Nat) "BracketRoom$Wrong" "place" "I" "BracketRoom") ∈ lw_tbl := lw_at lw_m1 107 rfl
theorem q311 : (Jvm.Cond.methodLink "BracketRoom" (20 : Nat) ({ cls := "BracketRoom$Reader", name := "<init>", desc := "(LBracketRoom$Wrong;)V" } : Jvm.MethodName)) ∈ lw_all := lw_g (lw_at lw_m1 125 rfl) rfl
theorem q320 : (Jvm.Cond.fieldLinkNest "BracketRoom" (203 : Nat) "BracketRoom$Reader" "taped" "I" "BracketRoom") ∈ lw_tbl := lw_at lw_m1 134 rfl
theorem q322 : (Jvm.Cond.fieldLinkNest "BracketRoom" (246 : Nat) "BracketRoom$Reader" "stepMany" "I" "BracketRoom") ∈ lw_tbl := lw_at lw_m1 136 rfl
theorem q324 : (Jvm.Cond.fieldLinkNest "BracketRoom" (250 : Nat) "BracketRoom$Reader" "counted" "I" "BracketRoom") ∈ lw_tbl := lw_at lw_m1 138 rfl
theorem q329 : (Jvm.Cond.fieldLink "BracketRoom" (210 : Nat) "BracketRoom$Reader" "tape" "[B") ∈ lw_all := lw_g (lw_at lw_m1 143 rfl) rfl
theorem q376 : (Jvm.Cond.classLink "BracketRoom" (27 : Nat) "BracketRoom$World") ∈ lw_all := lw_g (lw_at lw_m1 190 rfl) rfl
theorem q378 : (Jvm.Cond.methodLinkNest "BracketRoom" (29 : Nat) ({ cls := "BracketRoom$World", name := "<init>", desc := "()V" } : Jvm.MethodName) "BracketRoom") ∈ lw_tbl := lw_at lw_m1 192 rfl
theorem q386 : (Jvm.Cond.fieldLink "BracketRoom" (256 : Nat) "BracketRoom$World" "table" "[[[I") ∈ lw_all := lw_g (lw_at lw_m1 200 rfl) rfl
theorem q390 : (Jvm.Cond.fieldLinkNest "BracketRoom" (253 : Nat) "BracketRoom$World" "prime" "I" "BracketRoom") ∈ lw_tbl := lw_at lw_m1 204 rfl
theorem q394 : (Jvm.Cond.fieldLinkNest "BracketRoom" (196 : Nat) "BracketRoom$World" "size" "I" "BracketRoom") ∈ lw_tbl := lw_at lw_m1 208 rfl
theorem q403 : (Jvm.Cond.classLink "BracketRoom" (72 : Nat) "BracketRoom$Span") ∈ lw_all := lw_g (lw_at lw_m1 217 rfl) rfl
theorem q405 : (Jvm.Cond.methodLinkNest "BracketRoom" (74 : Nat) ({ cls := "BracketRoom$Span", name := "<init>", desc := "()V" } : Jvm.MethodName) "BracketRoom") ∈ lw_tbl := lw_at lw_m1 219 rfl
theorem q411 : (Jvm.Cond.fieldLink "BracketRoom" (305 : Nat) "BracketRoom$Span" "rows" "[[I") ∈ lw_all := lw_g (lw_at lw_m1 225 rfl) rfl
theorem q413 : (Jvm.Cond.fieldLink "BracketRoom" (403 : Nat) "BracketRoom$Span" "leads" "[I") ∈ lw_all := lw_g (lw_at lw_m1 227 rfl) rfl
theorem q415 : (Jvm.Cond.fieldLinkNest "BracketRoom" (302 : Nat) "BracketRoom$Span" "many" "I" "BracketRoom") ∈ lw_tbl := lw_at lw_m1 229 rfl
theorem q424 : (Jvm.Cond.classLink "BracketRoom" (91 : Nat) "[[I") ∈ lw_all := lw_g (lw_at lw_m1 238 rfl) rfl
theorem q426 : (Jvm.Cond.classLink "BracketRoom" (136 : Nat) "BracketRoom$Kept") ∈ lw_all := lw_g (lw_at lw_m2 0 rfl) rfl
theorem q429 : (Jvm.Cond.methodLinkNest "BracketRoom" (142 : Nat) ({ cls := "BracketRoom$Tray", name := "<init>", desc := "()V" } : Jvm.MethodName) "BracketRoom") ∈ lw_tbl := lw_at lw_m2 3 rfl
theorem q434 : (Jvm.Cond.fieldLinkNest "BracketRoom" (181 : Nat) "BracketRoom$Tray" "row" "Ljava/lang/Object;" "BracketRoom") ∈ lw_tbl := lw_at lw_m2 8 rfl
theorem q436 : (Jvm.Cond.fieldLinkNest "BracketRoom" (185 : Nat) "BracketRoom$Tray" "sort" "I" "BracketRoom") ∈ lw_tbl := lw_at lw_m2 10 rfl
theorem q443 : (Jvm.Cond.methodLink "BracketRoom" (143 : Nat) ({ cls := "BracketRoom$Kept", name := "<init>", desc := "()V" } : Jvm.MethodName)) ∈ lw_all := lw_g (lw_at lw_m2 17 rfl) rfl
theorem q450 : (Jvm.Cond.fieldLink "BracketRoom" (576 : Nat) "BracketRoom$Kept" "world" "LBracketRoom$World;") ∈ lw_all := lw_g (lw_at lw_m2 24 rfl) rfl
theorem q452 : (Jvm.Cond.fieldLink "BracketRoom" (577 : Nat) "BracketRoom$Kept" "shelves" "[LBracketRoom$World;") ∈ lw_all := lw_g (lw_at lw_m2 26 rfl) rfl
theorem q454 : (Jvm.Cond.fieldLink "BracketRoom" (578 : Nat) "BracketRoom$Kept" "isHeld" "[Z") ∈ lw_all := lw_g (lw_at lw_m2 28 rfl) rfl
theorem q455 : (Jvm.Cond.fieldLink "BracketRoom" (579 : Nat) "BracketRoom$Kept" "steps" "[LBracketRoom$Step;") ∈ lw_all := lw_g (lw_at lw_m2 29 rfl) rfl
theorem q456 : (Jvm.Cond.fieldLink "BracketRoom" (580 : Nat) "BracketRoom$Kept" "stepMany" "I") ∈ lw_all := lw_g (lw_at lw_m2 30 rfl) rfl
theorem q468 : (Jvm.Cond.fieldLink "BracketRoom" (11 : Nat) "BracketRoom" "trays" "[LBracketRoom$Tray;") ∈ lw_all := lw_g (lw_at lw_m2 42 rfl) rfl
theorem q469 : (Jvm.Cond.fieldLink "BracketRoom" (23 : Nat) "BracketRoom" "reader" "LBracketRoom$Reader;") ∈ lw_all := lw_g (lw_at lw_m2 43 rfl) rfl
theorem q470 : (Jvm.Cond.fieldLink "BracketRoom" (30 : Nat) "BracketRoom" "world" "LBracketRoom$World;") ∈ lw_all := lw_g (lw_at lw_m2 44 rfl) rfl
theorem q471 : (Jvm.Cond.fieldLink "BracketRoom" (34 : Nat) "BracketRoom" "read" "LBracketRoom$World;") ∈ lw_all := lw_g (lw_at lw_m2 45 rfl) rfl
theorem q472 : (Jvm.Cond.fieldLink "BracketRoom" (37 : Nat) "BracketRoom" "shelves" "[LBracketRoom$World;") ∈ lw_all := lw_g (lw_at lw_m2 46 rfl) rfl
theorem q473 : (Jvm.Cond.fieldLink "BracketRoom" (41 : Nat) "BracketRoom" "isHeld" "[Z") ∈ lw_all := lw_g (lw_at lw_m2 47 rfl) rfl
theorem q474 : (Jvm.Cond.fieldLink "BracketRoom" (242 : Nat) "BracketRoom" "steps" "[LBracketRoom$Step;") ∈ lw_all := lw_g (lw_at lw_m2 48 rfl) rfl
theorem q475 : (Jvm.Cond.fieldLink "BracketRoom" (249 : Nat) "BracketRoom" "stepMany" "I") ∈ lw_all := lw_g (lw_at lw_m2 49 rfl) rfl
theorem q476 : (Jvm.Cond.fieldLink "BracketRoom" (144 : Nat) "BracketRoom" "status" "I") ∈ lw_all := lw_g (lw_at lw_m2 50 rfl) rfl
theorem q477 : (Jvm.Cond.fieldLink "BracketRoom" (45 : Nat) "BracketRoom" "faultKind" "I") ∈ lw_all := lw_g (lw_at lw_m2 51 rfl) rfl
theorem q478 : (Jvm.Cond.fieldLink "BracketRoom" (49 : Nat) "BracketRoom" "faultPlace" "I") ∈ lw_all := lw_g (lw_at lw_m2 52 rfl) rfl
theorem q479 : (Jvm.Cond.fieldLink "BracketRoom" (147 : Nat) "BracketRoom" "top" "J") ∈ lw_all := lw_g (lw_at lw_m2 53 rfl) rfl
theorem q480 : (Jvm.Cond.fieldLink "BracketRoom" (52 : Nat) "BracketRoom" "bottom" "J") ∈ lw_all := lw_g (lw_at lw_m2 54 rfl) rfl
theorem q481 : (Jvm.Cond.fieldLink "BracketRoom" (56 : Nat) "BracketRoom" "x" "[I") ∈ lw_all := lw_g (lw_at lw_m2 55 rfl) rfl
theorem q482 : (Jvm.Cond.fieldLink "BracketRoom" (60 : Nat) "BracketRoom" "y" "[I") ∈ lw_all := lw_g (lw_at lw_m2 56 rfl) rfl
theorem q483 : (Jvm.Cond.fieldLink "BracketRoom" (63 : Nat) "BracketRoom" "z" "[I") ∈ lw_all := lw_g (lw_at lw_m2 57 rfl) rfl
theorem q484 : (Jvm.Cond.fieldLink "BracketRoom" (66 : Nat) "BracketRoom" "work" "[I") ∈ lw_all := lw_g (lw_at lw_m2 58 rfl) rfl
theorem q485 : (Jvm.Cond.fieldLink "BracketRoom" (69 : Nat) "BracketRoom" "three" "[I") ∈ lw_all := lw_g (lw_at lw_m2 59 rfl) rfl
theorem q486 : (Jvm.Cond.fieldLink "BracketRoom" (75 : Nat) "BracketRoom" "one" "LBracketRoom$Span;") ∈ lw_all := lw_g (lw_at lw_m2 60 rfl) rfl
theorem q487 : (Jvm.Cond.fieldLink "BracketRoom" (79 : Nat) "BracketRoom" "two" "LBracketRoom$Span;") ∈ lw_all := lw_g (lw_at lw_m2 61 rfl) rfl
theorem q488 : (Jvm.Cond.fieldLink "BracketRoom" (82 : Nat) "BracketRoom" "next" "LBracketRoom$Span;") ∈ lw_all := lw_g (lw_at lw_m2 62 rfl) rfl
theorem q489 : (Jvm.Cond.fieldLink "BracketRoom" (85 : Nat) "BracketRoom" "all" "LBracketRoom$Span;") ∈ lw_all := lw_g (lw_at lw_m2 63 rfl) rfl
theorem q490 : (Jvm.Cond.fieldLink "BracketRoom" (88 : Nat) "BracketRoom" "whole" "LBracketRoom$Span;") ∈ lw_all := lw_g (lw_at lw_m2 64 rfl) rfl
theorem q491 : (Jvm.Cond.fieldLink "BracketRoom" (93 : Nat) "BracketRoom" "rows" "[[I") ∈ lw_all := lw_g (lw_at lw_m2 65 rfl) rfl
theorem q492 : (Jvm.Cond.fieldLink "BracketRoom" (96 : Nat) "BracketRoom" "gone" "LBracketRoom$Span;") ∈ lw_all := lw_g (lw_at lw_m2 66 rfl) rfl
theorem q493 : (Jvm.Cond.fieldLink "BracketRoom" (99 : Nat) "BracketRoom" "freeRow" "[I") ∈ lw_all := lw_g (lw_at lw_m2 67 rfl) rfl
theorem q494 : (Jvm.Cond.fieldLink "BracketRoom" (102 : Nat) "BracketRoom" "freePart" "[I") ∈ lw_all := lw_g (lw_at lw_m2 68 rfl) rfl
theorem q495 : (Jvm.Cond.fieldLink "BracketRoom" (105 : Nat) "BracketRoom" "image" "[[I") ∈ lw_all := lw_g (lw_at lw_m2 69 rfl) rfl
theorem q496 : (Jvm.Cond.fieldLink "BracketRoom" (108 : Nat) "BracketRoom" "ahead" "[LBracketRoom$Span;") ∈ lw_all := lw_g (lw_at lw_m2 70 rfl) rfl
theorem q497 : (Jvm.Cond.fieldLink "BracketRoom" (452 : Nat) "BracketRoom" "tried" "I") ∈ lw_all := lw_g (lw_at lw_m2 71 rfl) rfl
theorem q498 : (Jvm.Cond.fieldLink "BracketRoom" (112 : Nat) "BracketRoom" "toldTries" "I") ∈ lw_all := lw_g (lw_at lw_m2 72 rfl) rfl
theorem q499 : (Jvm.Cond.fieldLink "BracketRoom" (445 : Nat) "BracketRoom" "found" "I") ∈ lw_all := lw_g (lw_at lw_m2 73 rfl) rfl
theorem q500 : (Jvm.Cond.fieldLink "BracketRoom" (448 : Nat) "BracketRoom" "isSpent" "Z") ∈ lw_all := lw_g (lw_at lw_m2 74 rfl) rfl
theorem q501 : (Jvm.Cond.fieldLink "BracketRoom" (115 : Nat) "BracketRoom" "base" "[[I") ∈ lw_all := lw_g (lw_at lw_m2 75 rfl) rfl
theorem q502 : (Jvm.Cond.fieldLink "BracketRoom" (118 : Nat) "BracketRoom" "back" "[[I") ∈ lw_all := lw_g (lw_at lw_m2 76 rfl) rfl
theorem q503 : (Jvm.Cond.fieldLink "BracketRoom" (121 : Nat) "BracketRoom" "square" "[[I") ∈ lw_all := lw_g (lw_at lw_m2 77 rfl) rfl
theorem q504 : (Jvm.Cond.fieldLink "BracketRoom" (124 : Nat) "BracketRoom" "grows" "[[I") ∈ lw_all := lw_g (lw_at lw_m2 78 rfl) rfl
theorem q505 : (Jvm.Cond.fieldLink "BracketRoom" (127 : Nat) "BracketRoom" "leftBase" "[I") ∈ lw_all := lw_g (lw_at lw_m2 79 rfl) rfl
theorem q506 : (Jvm.Cond.fieldLink "BracketRoom" (130 : Nat) "BracketRoom" "tried0" "LBracketRoom$World;") ∈ lw_all := lw_g (lw_at lw_m2 80 rfl) rfl
theorem q507 : (Jvm.Cond.fieldLink "BracketRoom" (133 : Nat) "BracketRoom" "unlike" "[LBracketRoom$World;") ∈ lw_all := lw_g (lw_at lw_m2 81 rfl) rfl
theorem q508 : (Jvm.Cond.fieldLink "BracketRoom" (546 : Nat) "BracketRoom" "missed" "I") ∈ lw_all := lw_g (lw_at lw_m2 82 rfl) rfl
theorem q509 : (Jvm.Cond.fieldLink "BracketRoom" (549 : Nat) "BracketRoom" "ranSteps" "I") ∈ lw_all := lw_g (lw_at lw_m2 83 rfl) rfl
theorem q510 : (Jvm.Cond.fieldLink "BracketRoom" (552 : Nat) "BracketRoom" "isLeft" "I") ∈ lw_all := lw_g (lw_at lw_m2 84 rfl) rfl
theorem q511 : (Jvm.Cond.fieldLink "BracketRoom" (570 : Nat) "BracketRoom" "isTold" "Z") ∈ lw_all := lw_g (lw_at lw_m2 85 rfl) rfl
theorem q512 : (Jvm.Cond.fieldLink "BracketRoom" (564 : Nat) "BracketRoom" "toldMissed" "I") ∈ lw_all := lw_g (lw_at lw_m2 86 rfl) rfl
theorem q513 : (Jvm.Cond.fieldLink "BracketRoom" (567 : Nat) "BracketRoom" "toldLeft" "I") ∈ lw_all := lw_g (lw_at lw_m2 87 rfl) rfl
theorem q514 : (Jvm.Cond.fieldLink "BracketRoom" (138 : Nat) "BracketRoom" "marked" "[LBracketRoom$Kept;") ∈ lw_all := lw_g (lw_at lw_m2 88 rfl) rfl
theorem q515 : (Jvm.Cond.fieldLink "BracketRoom" (573 : Nat) "BracketRoom" "marks" "I") ∈ lw_all := lw_g (lw_at lw_m2 89 rfl) rfl
theorem q516 : (Jvm.Cond.laysFinal "BracketRoom" "BracketRoom" "trays" "[LBracketRoom$Tray;") ∈ lw_all := lw_g (lw_at lw_m2 90 rfl) rfl
theorem q517 : (Jvm.Cond.soleField "BracketRoom" "trays") ∈ lw_all := lw_g (lw_at lw_m2 91 rfl) rfl
theorem q518 : (Jvm.Cond.laysFinal "BracketRoom" "BracketRoom" "reader" "LBracketRoom$Reader;") ∈ lw_all := lw_g (lw_at lw_m2 92 rfl) rfl
theorem q519 : (Jvm.Cond.soleField "BracketRoom" "reader") ∈ lw_all := lw_g (lw_at lw_m2 93 rfl) rfl
theorem q520 : (Jvm.Cond.laysFinal "BracketRoom" "BracketRoom" "world" "LBracketRoom$World;") ∈ lw_all := lw_g (lw_at lw_m2 94 rfl) rfl
theorem q521 : (Jvm.Cond.soleField "BracketRoom" "world") ∈ lw_all := lw_g (lw_at lw_m2 95 rfl) rfl
theorem q522 : (Jvm.Cond.laysFinal "BracketRoom" "BracketRoom" "read" "LBracketRoom$World;") ∈ lw_all := lw_g (lw_at lw_m2 96 rfl) rfl
theorem q523 : (Jvm.Cond.soleField "BracketRoom" "read") ∈ lw_all := lw_g (lw_at lw_m2 97 rfl) rfl
theorem q524 : (Jvm.Cond.laysFinal "BracketRoom" "BracketRoom" "shelves" "[LBracketRoom$World;") ∈ lw_all := lw_g (lw_at lw_m2 98 rfl) rfl
theorem q525 : (Jvm.Cond.soleField "BracketRoom" "shelves") ∈ lw_all := lw_g (lw_at lw_m2 99 rfl) rfl
theorem q526 : (Jvm.Cond.laysFinal "BracketRoom" "BracketRoom" "isHeld" "[Z") ∈ lw_all := lw_g (lw_at lw_m2 100 rfl) rfl
theorem q527 : (Jvm.Cond.soleField "BracketRoom" "isHeld") ∈ lw_all := lw_g (lw_at lw_m2 101 rfl) rfl
theorem q528 : (Jvm.Cond.lays "BracketRoom" "BracketRoom" "steps" "[LBracketRoom$Step;") ∈ lw_all := lw_g (lw_at lw_m2 102 rfl) rfl
theorem q529 : (Jvm.Cond.soleField "BracketRoom" "steps") ∈ lw_all := lw_g (lw_at lw_m2 103 rfl) rfl
theorem q530 : (Jvm.Cond.lays "BracketRoom" "BracketRoom" "stepMany" "I") ∈ lw_all := lw_g (lw_at lw_m2 104 rfl) rfl
theorem q531 : (Jvm.Cond.soleField "BracketRoom" "stepMany") ∈ lw_all := lw_g (lw_at lw_m2 105 rfl) rfl
theorem q532 : (Jvm.Cond.lays "BracketRoom" "BracketRoom" "status" "I") ∈ lw_all := lw_g (lw_at lw_m2 106 rfl) rfl
theorem q533 : (Jvm.Cond.soleField "BracketRoom" "status") ∈ lw_all := lw_g (lw_at lw_m2 107 rfl) rfl
theorem q534 : (Jvm.Cond.lays "BracketRoom" "BracketRoom" "faultKind" "I") ∈ lw_all := lw_g (lw_at lw_m2 108 rfl) rfl
theorem q535 : (Jvm.Cond.soleField "BracketRoom" "faultKind") ∈ lw_all := lw_g (lw_at lw_m2 109 rfl) rfl
theorem q536 : (Jvm.Cond.lays "BracketRoom" "BracketRoom" "faultPlace" "I") ∈ lw_all := lw_g (lw_at lw_m2 110 rfl) rfl
theorem q537 : (Jvm.Cond.soleField "BracketRoom" "faultPlace") ∈ lw_all := lw_g (lw_at lw_m2 111 rfl) rfl
theorem q538 : (Jvm.Cond.lays "BracketRoom" "BracketRoom" "top" "J") ∈ lw_all := lw_g (lw_at lw_m2 112 rfl) rfl
theorem q539 : (Jvm.Cond.soleField "BracketRoom" "top") ∈ lw_all := lw_g (lw_at lw_m2 113 rfl) rfl
theorem q540 : (Jvm.Cond.lays "BracketRoom" "BracketRoom" "bottom" "J") ∈ lw_all := lw_g (lw_at lw_m2 114 rfl) rfl
theorem q541 : (Jvm.Cond.soleField "BracketRoom" "bottom") ∈ lw_all := lw_g (lw_at lw_m2 115 rfl) rfl
theorem q542 : (Jvm.Cond.laysFinal "BracketRoom" "BracketRoom" "x" "[I") ∈ lw_all := lw_g (lw_at lw_m2 116 rfl) rfl
theorem q543 : (Jvm.Cond.soleField "BracketRoom" "x") ∈ lw_all := lw_g (lw_at lw_m2 117 rfl) rfl
theorem q544 : (Jvm.Cond.laysFinal "BracketRoom" "BracketRoom" "y" "[I") ∈ lw_all := lw_g (lw_at lw_m2 118 rfl) rfl
theorem q545 : (Jvm.Cond.soleField "BracketRoom" "y") ∈ lw_all := lw_g (lw_at lw_m2 119 rfl) rfl
theorem q546 : (Jvm.Cond.laysFinal "BracketRoom" "BracketRoom" "z" "[I") ∈ lw_all := lw_g (lw_at lw_m2 120 rfl) rfl
theorem q547 : (Jvm.Cond.soleField "BracketRoom" "z") ∈ lw_all := lw_g (lw_at lw_m2 121 rfl) rfl
theorem q548 : (Jvm.Cond.laysFinal "BracketRoom" "BracketRoom" "work" "[I") ∈ lw_all := lw_g (lw_at lw_m2 122 rfl) rfl
theorem q549 : (Jvm.Cond.soleField "BracketRoom" "work") ∈ lw_all := lw_g (lw_at lw_m2 123 rfl) rfl
theorem q550 : (Jvm.Cond.laysFinal "BracketRoom" "BracketRoom" "three" "[I") ∈ lw_all := lw_g (lw_at lw_m2 124 rfl) rfl
theorem q551 : (Jvm.Cond.soleField "BracketRoom" "three") ∈ lw_all := lw_g (lw_at lw_m2 125 rfl) rfl
theorem q552 : (Jvm.Cond.laysFinal "BracketRoom" "BracketRoom" "one" "LBracketRoom$Span;") ∈ lw_all := lw_g (lw_at lw_m2 126 rfl) rfl
theorem q553 : (Jvm.Cond.soleField "BracketRoom" "one") ∈ lw_all := lw_g (lw_at lw_m2 127 rfl) rfl
theorem q554 : (Jvm.Cond.laysFinal "BracketRoom" "BracketRoom" "two" "LBracketRoom$Span;") ∈ lw_all := lw_g (lw_at lw_m2 128 rfl) rfl
theorem q555 : (Jvm.Cond.soleField "BracketRoom" "two") ∈ lw_all := lw_g (lw_at lw_m2 129 rfl) rfl
theorem q556 : (Jvm.Cond.laysFinal "BracketRoom" "BracketRoom" "next" "LBracketRoom$Span;") ∈ lw_all := lw_g (lw_at lw_m2 130 rfl) rfl
theorem q557 : (Jvm.Cond.soleField "BracketRoom" "next") ∈ lw_all := lw_g (lw_at lw_m2 131 rfl) rfl
theorem q558 : (Jvm.Cond.laysFinal "BracketRoom" "BracketRoom" "all" "LBracketRoom$Span;") ∈ lw_all := lw_g (lw_at lw_m2 132 rfl) rfl
theorem q559 : (Jvm.Cond.soleField "BracketRoom" "all") ∈ lw_all := lw_g (lw_at lw_m2 133 rfl) rfl
theorem q560 : (Jvm.Cond.laysFinal "BracketRoom" "BracketRoom" "whole" "LBracketRoom$Span;") ∈ lw_all := lw_g (lw_at lw_m2 134 rfl) rfl
theorem q561 : (Jvm.Cond.soleField "BracketRoom" "whole") ∈ lw_all := lw_g (lw_at lw_m2 135 rfl) rfl
theorem q562 : (Jvm.Cond.laysFinal "BracketRoom" "BracketRoom" "rows" "[[I") ∈ lw_all := lw_g (lw_at lw_m2 136 rfl) rfl
theorem q563 : (Jvm.Cond.soleField "BracketRoom" "rows") ∈ lw_all := lw_g (lw_at lw_m2 137 rfl) rfl
theorem q564 : (Jvm.Cond.laysFinal "BracketRoom" "BracketRoom" "gone" "LBracketRoom$Span;") ∈ lw_all := lw_g (lw_at lw_m2 138 rfl) rfl
theorem q565 : (Jvm.Cond.soleField "BracketRoom" "gone") ∈ lw_all := lw_g (lw_at lw_m2 139 rfl) rfl
theorem q566 : (Jvm.Cond.laysFinal "BracketRoom" "BracketRoom" "freeRow" "[I") ∈ lw_all := lw_g (lw_at lw_m2 140 rfl) rfl
theorem q567 : (Jvm.Cond.soleField "BracketRoom" "freeRow") ∈ lw_all := lw_g (lw_at lw_m2 141 rfl) rfl
theorem q568 : (Jvm.Cond.laysFinal "BracketRoom" "BracketRoom" "freePart" "[I") ∈ lw_all := lw_g (lw_at lw_m2 142 rfl) rfl
theorem q569 : (Jvm.Cond.soleField "BracketRoom" "freePart") ∈ lw_all := lw_g (lw_at lw_m2 143 rfl) rfl
theorem q570 : (Jvm.Cond.laysFinal "BracketRoom" "BracketRoom" "image" "[[I") ∈ lw_all := lw_g (lw_at lw_m2 144 rfl) rfl
theorem q571 : (Jvm.Cond.soleField "BracketRoom" "image") ∈ lw_all := lw_g (lw_at lw_m2 145 rfl) rfl
theorem q572 : (Jvm.Cond.laysFinal "BracketRoom" "BracketRoom" "ahead" "[LBracketRoom$Span;") ∈ lw_all := lw_g (lw_at lw_m2 146 rfl) rfl
theorem q573 : (Jvm.Cond.soleField "BracketRoom" "ahead") ∈ lw_all := lw_g (lw_at lw_m2 147 rfl) rfl
theorem q574 : (Jvm.Cond.lays "BracketRoom" "BracketRoom" "tried" "I") ∈ lw_all := lw_g (lw_at lw_m2 148 rfl) rfl
theorem q575 : (Jvm.Cond.soleField "BracketRoom" "tried") ∈ lw_all := lw_g (lw_at lw_m2 149 rfl) rfl
theorem q576 : (Jvm.Cond.lays "BracketRoom" "BracketRoom" "toldTries" "I") ∈ lw_all := lw_g (lw_at lw_m2 150 rfl) rfl
theorem q577 : (Jvm.Cond.soleField "BracketRoom" "toldTries") ∈ lw_all := lw_g (lw_at lw_m2 151 rfl) rfl
theorem q578 : (Jvm.Cond.lays "BracketRoom" "BracketRoom" "found" "I") ∈ lw_all := lw_g (lw_at lw_m2 152 rfl) rfl
theorem q579 : (Jvm.Cond.soleField "BracketRoom" "found") ∈ lw_all := lw_g (lw_at lw_m2 153 rfl) rfl
theorem q580 : (Jvm.Cond.lays "BracketRoom" "BracketRoom" "isSpent" "Z") ∈ lw_all := lw_g (lw_at lw_m2 154 rfl) rfl
theorem q581 : (Jvm.Cond.soleField "BracketRoom" "isSpent") ∈ lw_all := lw_g (lw_at lw_m2 155 rfl) rfl
theorem q582 : (Jvm.Cond.laysFinal "BracketRoom" "BracketRoom" "base" "[[I") ∈ lw_all := lw_g (lw_at lw_m2 156 rfl) rfl
theorem q583 : (Jvm.Cond.soleField "BracketRoom" "base") ∈ lw_all := lw_g (lw_at lw_m2 157 rfl) rfl
theorem q584 : (Jvm.Cond.laysFinal "BracketRoom" "BracketRoom" "back" "[[I") ∈ lw_all := lw_g (lw_at lw_m2 158 rfl) rfl
theorem q585 : (Jvm.Cond.soleField "BracketRoom" "back") ∈ lw_all := lw_g (lw_at lw_m2 159 rfl) rfl
theorem q586 : (Jvm.Cond.laysFinal "BracketRoom" "BracketRoom" "square" "[[I") ∈ lw_all := lw_g (lw_at lw_m2 160 rfl) rfl
theorem q587 : (Jvm.Cond.soleField "BracketRoom" "square") ∈ lw_all := lw_g (lw_at lw_m2 161 rfl) rfl
theorem q588 : (Jvm.Cond.laysFinal "BracketRoom" "BracketRoom" "grows" "[[I") ∈ lw_all := lw_g (lw_at lw_m2 162 rfl) rfl
theorem q589 : (Jvm.Cond.soleField "BracketRoom" "grows") ∈ lw_all := lw_g (lw_at lw_m2 163 rfl) rfl
theorem q590 : (Jvm.Cond.laysFinal "BracketRoom" "BracketRoom" "leftBase" "[I") ∈ lw_all := lw_g (lw_at lw_m2 164 rfl) rfl
theorem q591 : (Jvm.Cond.soleField "BracketRoom" "leftBase") ∈ lw_all := lw_g (lw_at lw_m2 165 rfl) rfl
theorem q592 : (Jvm.Cond.laysFinal "BracketRoom" "BracketRoom" "tried0" "LBracketRoom$World;") ∈ lw_all := lw_g (lw_at lw_m2 166 rfl) rfl
theorem q593 : (Jvm.Cond.soleField "BracketRoom" "tried0") ∈ lw_all := lw_g (lw_at lw_m2 167 rfl) rfl
theorem q594 : (Jvm.Cond.laysFinal "BracketRoom" "BracketRoom" "unlike" "[LBracketRoom$World;") ∈ lw_all := lw_g (lw_at lw_m2 168 rfl) rfl
theorem q595 : (Jvm.Cond.soleField "BracketRoom" "unlike") ∈ lw_all := lw_g (lw_at lw_m2 169 rfl) rfl
theorem q596 : (Jvm.Cond.lays "BracketRoom" "BracketRoom" "missed" "I") ∈ lw_all := lw_g (lw_at lw_m2 170 rfl) rfl
theorem q597 : (Jvm.Cond.soleField "BracketRoom" "missed") ∈ lw_all := lw_g (lw_at lw_m2 171 rfl) rfl
theorem q598 : (Jvm.Cond.lays "BracketRoom" "BracketRoom" "ranSteps" "I") ∈ lw_all := lw_g (lw_at lw_m2 172 rfl) rfl
theorem q599 : (Jvm.Cond.soleField "BracketRoom" "ranSteps") ∈ lw_all := lw_g (lw_at lw_m2 173 rfl) rfl
theorem q600 : (Jvm.Cond.lays "BracketRoom" "BracketRoom" "isLeft" "I") ∈ lw_all := lw_g (lw_at lw_m2 174 rfl) rfl
theorem q601 : (Jvm.Cond.soleField "BracketRoom" "isLeft") ∈ lw_all := lw_g (lw_at lw_m2 175 rfl) rfl
theorem q602 : (Jvm.Cond.lays "BracketRoom" "BracketRoom" "isTold" "Z") ∈ lw_all := lw_g (lw_at lw_m2 176 rfl) rfl
theorem q603 : (Jvm.Cond.soleField "BracketRoom" "isTold") ∈ lw_all := lw_g (lw_at lw_m2 177 rfl) rfl
theorem q604 : (Jvm.Cond.lays "BracketRoom" "BracketRoom" "toldMissed" "I") ∈ lw_all := lw_g (lw_at lw_m2 178 rfl) rfl
theorem q605 : (Jvm.Cond.soleField "BracketRoom" "toldMissed") ∈ lw_all := lw_g (lw_at lw_m2 179 rfl) rfl
theorem q606 : (Jvm.Cond.lays "BracketRoom" "BracketRoom" "toldLeft" "I") ∈ lw_all := lw_g (lw_at lw_m2 180 rfl) rfl
theorem q607 : (Jvm.Cond.soleField "BracketRoom" "toldLeft") ∈ lw_all := lw_g (lw_at lw_m2 181 rfl) rfl
theorem q608 : (Jvm.Cond.laysFinal "BracketRoom" "BracketRoom" "marked" "[LBracketRoom$Kept;") ∈ lw_all := lw_g (lw_at lw_m2 182 rfl) rfl
theorem q609 : (Jvm.Cond.soleField "BracketRoom" "marked") ∈ lw_all := lw_g (lw_at lw_m2 183 rfl) rfl
theorem q610 : (Jvm.Cond.lays "BracketRoom" "BracketRoom" "marks" "I") ∈ lw_all := lw_g (lw_at lw_m2 184 rfl) rfl
theorem q611 : (Jvm.Cond.soleField "BracketRoom" "marks") ∈ lw_all := lw_g (lw_at lw_m2 185 rfl) rfl
theorem q612 : (Jvm.Cond.superclass "BracketRoom" "java/lang/Object") ∈ lw_all := lw_g (lw_at lw_m2 186 rfl) rfl
theorem q614 : (Jvm.Cond.instanceMethod ({ cls := "BracketRoom", name := "status", desc := "()I" } : Jvm.MethodName)) ∈ lw_all := lw_g (lw_at lw_m2 188 rfl) rfl
theorem q615 : (Jvm.Cond.selects "BracketRoom" ({ cls := "BracketRoom", name := "status", desc := "()I" } : Jvm.MethodName) ({ cls := "BracketRoom", name := "status", desc := "()I" } : Jvm.MethodName)) ∈ lw_all := lw_g (lw_at lw_m2 189 rfl) rfl
theorem q616 : (Jvm.Cond.code ({ cls := "BracketRoom", name := "status", desc := "()I" } : Jvm.MethodName) prog_1_method_4_code (1 : Nat) (Option.some Jvm.ClassFile.FieldType.int)) ∈ lw_all := lw_g (lw_at lw_m2 190 rfl) rfl
theorem q618 : (Jvm.Cond.instanceMethod ({ cls := "BracketRoom", name := "top", desc := "()J" } : Jvm.MethodName)) ∈ lw_all := lw_g (lw_at lw_m2 192 rfl) rfl
theorem q619 : (Jvm.Cond.selects "BracketRoom" ({ cls := "BracketRoom", name := "top", desc := "()J" } : Jvm.MethodName) ({ cls := "BracketRoom", name := "top", desc := "()J" } : Jvm.MethodName)) ∈ lw_all := lw_g (lw_at lw_m2 193 rfl) rfl
theorem q620 : (Jvm.Cond.code ({ cls := "BracketRoom", name := "top", desc := "()J" } : Jvm.MethodName) prog_1_method_5_code (1 : Nat) (Option.some Jvm.ClassFile.FieldType.long)) ∈ lw_all := lw_g (lw_at lw_m2 194 rfl) rfl
theorem q622 : (Jvm.Cond.instanceMethod ({ cls := "BracketRoom", name := "bottom", desc := "()J" } : Jvm.MethodName)) ∈ lw_all := lw_g (lw_at lw_m2 196 rfl) rfl
theorem q623 : (Jvm.Cond.selects "BracketRoom" ({ cls := "BracketRoom", name := "bottom", desc := "()J" } : Jvm.MethodName) ({ cls := "BracketRoom", name := "bottom", desc := "()J" } : Jvm.MethodName)) ∈ lw_all := lw_g (lw_at lw_m2 197 rfl) rfl
theorem q624 : (Jvm.Cond.code ({ cls := "BracketRoom", name := "bottom", desc := "()J" } : Jvm.MethodName) prog_1_method_6_code (1 : Nat) (Option.some Jvm.ClassFile.FieldType.long)) ∈ lw_all := lw_g (lw_at lw_m2 198 rfl) rfl
theorem q626 : (Jvm.Cond.instanceMethod ({ cls := "BracketRoom", name := "tray", desc := "(III)Z" } : Jvm.MethodName)) ∈ lw_all := lw_g (lw_at lw_m2 200 rfl) rfl
theorem q627 : (Jvm.Cond.selects "BracketRoom" ({ cls := "BracketRoom", name := "tray", desc := "(III)Z" } : Jvm.MethodName) ({ cls := "BracketRoom", name := "tray", desc := "(III)Z" } : Jvm.MethodName)) ∈ lw_all := lw_g (lw_at lw_m2 201 rfl) rfl
theorem q628 : (Jvm.Cond.codeWith ({ cls := "BracketRoom", name := "tray", desc := "(III)Z" } : Jvm.MethodName) prog_1_method_12_code (5 : Nat) (Option.some Jvm.ClassFile.FieldType.boolean) [((34 : Nat), (45 : Nat), (48 : Nat), (161 : Nat))]) ∈ lw_all := lw_g (lw_at lw_m2 202 rfl) rfl
theorem q629 : (Jvm.Cond.classLink "BracketRoom" (161 : Nat) "java/lang/NegativeArraySizeException") ∈ lw_all := lw_g (lw_at lw_m2 203 rfl) rfl
theorem q656 : (Jvm.Cond.methodLink "BracketRoom" (154 : Nat) ({ cls := "BracketRoom", name := "isTray", desc := "(I)Z" } : Jvm.MethodName)) ∈ lw_all := lw_g (lw_at lw_m2 230 rfl) rfl
theorem q657 : (Jvm.Cond.static ({ cls := "BracketRoom", name := "isTray", desc := "(I)Z" } : Jvm.MethodName)) ∈ lw_all := lw_g (lw_at lw_m2 231 rfl) rfl
theorem q658 : (Jvm.Cond.code ({ cls := "BracketRoom", name := "isTray", desc := "(I)Z" } : Jvm.MethodName) prog_1_method_11_code (1 : Nat) (Option.some Jvm.ClassFile.FieldType.boolean)) ∈ lw_all := lw_g (lw_at lw_m2 232 rfl) rfl
theorem q659 : (Jvm.Cond.methodLink "BracketRoom" (150 : Nat) ({ cls := "BracketRoom", name := "is0", desc := "(I)Z" } : Jvm.MethodName)) ∈ lw_all := lw_g (lw_at lw_m2 233 rfl) rfl
theorem q660 : (Jvm.Cond.privateMethod ({ cls := "BracketRoom", name := "is0", desc := "(I)Z" } : Jvm.MethodName)) ∈ lw_tbl := lw_at lw_m2 234 rfl
theorem q661 : (Jvm.Cond.instanceMethod ({ cls := "BracketRoom", name := "is0", desc := "(I)Z" } : Jvm.MethodName)) ∈ lw_all := lw_g (lw_at lw_m2 235 rfl) rfl
theorem q662 : (Jvm.Cond.code ({ cls := "BracketRoom", name := "is0", desc := "(I)Z" } : Jvm.MethodName) prog_1_method_7_code (2 : Nat) (Option.some Jvm.ClassFile.FieldType.boolean)) ∈ lw_all := lw_g (lw_at lw_m2 236 rfl) rfl
theorem q663 : (Jvm.Cond.methodLink "BracketRoom" (157 : Nat) ({ cls := "BracketRoom$Tray", name := "make", desc := "(II)V" } : Jvm.MethodName)) ∈ lw_all := lw_g (lw_at lw_m2 237 rfl) rfl
theorem q670 : (Jvm.Cond.instanceMethod ({ cls := "BracketRoom", name := "write", desc := "(IIJ)Z" } : Jvm.MethodName)) ∈ lw_all := lw_g (lw_at lw_m3 4 rfl) rfl
theorem q671 : (Jvm.Cond.selects "BracketRoom" ({ cls := "BracketRoom", name := "write", desc := "(IIJ)Z" } : Jvm.MethodName) ({ cls := "BracketRoom", name := "write", desc := "(IIJ)Z" } : Jvm.MethodName)) ∈ lw_all := lw_g (lw_at lw_m3 5 rfl) rfl
theorem q672 : (Jvm.Cond.codeWith ({ cls := "BracketRoom", name := "write", desc := "(IIJ)Z" } : Jvm.MethodName) prog_1_method_13_code (6 : Nat) (Option.some Jvm.ClassFile.FieldType.boolean) [((13 : Nat), (24 : Nat), (27 : Nat), (167 : Nat)), ((13 : Nat), (24 : Nat), (35 : Nat), (169 : Nat))]) ∈ lw_all := lw_g (lw_at lw_m3 6 rfl) rfl
theorem q673 : (Jvm.Cond.classLink "BracketRoom" (167 : Nat) "java/lang/NullPointerException") ∈ lw_all := lw_g (lw_at lw_m3 7 rfl) rfl
theorem q698 : (Jvm.Cond.classLink "BracketRoom" (169 : Nat) "java/lang/ArrayIndexOutOfBoundsException") ∈ lw_all := lw_g (lw_at lw_m3 32 rfl) rfl
theorem q717 : (Jvm.Cond.methodLink "BracketRoom" (163 : Nat) ({ cls := "BracketRoom$Tray", name := "set", desc := "(IJ)V" } : Jvm.MethodName)) ∈ lw_all := lw_g (lw_at lw_m3 51 rfl) rfl
theorem q726 : (Jvm.Cond.instanceMethod ({ cls := "BracketRoom", name := "read", desc := "(II)J" } : Jvm.MethodName)) ∈ lw_all := lw_g (lw_at lw_m3 60 rfl) rfl
theorem q727 : (Jvm.Cond.selects "BracketRoom" ({ cls := "BracketRoom", name := "read", desc := "(II)J" } : Jvm.MethodName) ({ cls := "BracketRoom", name := "read", desc := "(II)J" } : Jvm.MethodName)) ∈ lw_all := lw_g (lw_at lw_m3 61 rfl) rfl
theorem q728 : (Jvm.Cond.codeWith ({ cls := "BracketRoom", name := "read", desc := "(II)J" } : Jvm.MethodName) prog_1_method_14_code (4 : Nat) (Option.some Jvm.ClassFile.FieldType.long) [((19 : Nat), (29 : Nat), (30 : Nat), (167 : Nat)), ((19 : Nat), (29 : Nat), (39 : Nat), (169 : Nat))]) ∈ lw_all := lw_g (lw_at lw_m3 62 rfl) rfl
theorem q729 : (Jvm.Cond.methodLink "BracketRoom" (171 : Nat) ({ cls := "BracketRoom", name := "none", desc := "(I)I" } : Jvm.MethodName)) ∈ lw_all := lw_g (lw_at lw_m3 63 rfl) rfl
theorem q730 : (Jvm.Cond.privateMethod ({ cls := "BracketRoom", name := "none", desc := "(I)I" } : Jvm.MethodName)) ∈ lw_tbl := lw_at lw_m3 64 rfl
theorem q731 : (Jvm.Cond.instanceMethod ({ cls := "BracketRoom", name := "none", desc := "(I)I" } : Jvm.MethodName)) ∈ lw_all := lw_g (lw_at lw_m3 65 rfl) rfl
theorem q732 : (Jvm.Cond.code ({ cls := "BracketRoom", name := "none", desc := "(I)I" } : Jvm.MethodName) prog_1_method_8_code (2 : Nat) (Option.some Jvm.ClassFile.FieldType.int)) ∈ lw_all := lw_g (lw_at lw_m3 66 rfl) rfl
theorem q733 : (Jvm.Cond.methodLink "BracketRoom" (175 : Nat) ({ cls := "BracketRoom$Tray", name := "get", desc := "(I)J" } : Jvm.MethodName)) ∈ lw_all := lw_g (lw_at lw_m3 67 rfl) rfl
theorem q737 : (Jvm.Cond.constantLong "BracketRoom" (179 : Nat) (-1 : Int64)) ∈ lw_all := lw_g (lw_at lw_m3 71 rfl) rfl
theorem q739 : (Jvm.Cond.instanceMethod ({ cls := "BracketRoom", name := "pour", desc := "(IIIII)Z" } : Jvm.MethodName)) ∈ lw_all := lw_g (lw_at lw_m3 73 rfl) rfl
theorem q740 : (Jvm.Cond.selects "BracketRoom" ({ cls := "BracketRoom", name := "pour", desc := "(IIIII)Z" } : Jvm.MethodName) ({ cls := "BracketRoom", name := "pour", desc := "(IIIII)Z" } : Jvm.MethodName)) ∈ lw_all := lw_g (lw_at lw_m3 74 rfl) rfl
theorem q741 : (Jvm.Cond.codeWith ({ cls := "BracketRoom", name := "pour", desc := "(IIIII)Z" } : Jvm.MethodName) prog_1_method_15_code (9 : Nat) (Option.some Jvm.ClassFile.FieldType.boolean) [((80 : Nat), (92 : Nat), (95 : Nat), (167 : Nat)), ((80 : Nat), (92 : Nat), (103 : Nat), (194 : Nat))]) ∈ lw_all := lw_g (lw_at lw_m3 75 rfl) rfl
theorem q742 : (Jvm.Cond.classLink "BracketRoom" (194 : Nat) "java/lang/IndexOutOfBoundsException") ∈ lw_all := lw_g (lw_at lw_m3 76 rfl) rfl
theorem q743 : (Jvm.Cond.methodLink "BracketRoom" (188 : Nat) ({ cls := "java/lang/System", name := "arraycopy", desc := "(Ljava/lang/Object;ILjava/lang/Object;II)V" } : Jvm.MethodName)) ∈ lw_all := lw_g (lw_at lw_m3 77 rfl) rfl
theorem q747 : (Jvm.Cond.instanceMethod ({ cls := "BracketRoom", name := "feed", desc := "(IIIII)I" } : Jvm.MethodName)) ∈ lw_all := lw_g (lw_at lw_m3 81 rfl) rfl
theorem q748 : (Jvm.Cond.selects "BracketRoom" ({ cls := "BracketRoom", name := "feed", desc := "(IIIII)I" } : Jvm.MethodName) ({ cls := "BracketRoom", name := "feed", desc := "(IIIII)I" } : Jvm.MethodName)) ∈ lw_all := lw_g (lw_at lw_m3 82 rfl) rfl
theorem q749 : (Jvm.Cond.code ({ cls := "BracketRoom", name := "feed", desc := "(IIIII)I" } : Jvm.MethodName) prog_1_method_20_code (6 : Nat) (Option.some Jvm.ClassFile.FieldType.int)) ∈ lw_all := lw_g (lw_at lw_m3 83 rfl) rfl
theorem q750 : (Jvm.Cond.methodLink "BracketRoom" (206 : Nat) ({ cls := "BracketRoom", name := "four", desc := "(I)V" } : Jvm.MethodName)) ∈ lw_all := lw_g (lw_at lw_m3 84 rfl) rfl
theorem q751 : (Jvm.Cond.privateMethod ({ cls := "BracketRoom", name := "four", desc := "(I)V" } : Jvm.MethodName)) ∈ lw_tbl := lw_at lw_m3 85 rfl
theorem q752 : (Jvm.Cond.instanceMethod ({ cls := "BracketRoom", name := "four", desc := "(I)V" } : Jvm.MethodName)) ∈ lw_all := lw_g (lw_at lw_m3 86 rfl) rfl
theorem q753 : (Jvm.Cond.code ({ cls := "BracketRoom", name := "four", desc := "(I)V" } : Jvm.MethodName) prog_1_method_21_code (3 : Nat) (Option.none : Option Jvm.ClassFile.FieldType)) ∈ lw_all := lw_g (lw_at lw_m3 87 rfl) rfl
theorem q755 : (Jvm.Cond.instanceMethod ({ cls := "BracketRoom", name := "world", desc := "(I)I" } : Jvm.MethodName)) ∈ lw_all := lw_g (lw_at lw_m3 89 rfl) rfl
theorem q756 : (Jvm.Cond.selects "BracketRoom" ({ cls := "BracketRoom", name := "world", desc := "(I)I" } : Jvm.MethodName) ({ cls := "BracketRoom", name := "world", desc := "(I)I" } : Jvm.MethodName)) ∈ lw_all := lw_g (lw_at lw_m3 90 rfl) rfl
theorem q757 : (Jvm.Cond.codeWith ({ cls := "BracketRoom", name := "world", desc := "(I)I" } : Jvm.MethodName) prog_1_method_24_code (3 : Nat) (Option.some Jvm.ClassFile.FieldType.int) [((17 : Nat), (29 : Nat), (32 : Nat), (17 : Nat))]) ∈ lw_all := lw_g (lw_at lw_m3 91 rfl) rfl
theorem q758 : (Jvm.Cond.methodLink "BracketRoom" (220 : Nat) ({ cls := "BracketRoom", name := "takes", desc := "(II)Z" } : Jvm.MethodName)) ∈ lw_all := lw_g (lw_at lw_m3 92 rfl) rfl
theorem q759 : (Jvm.Cond.privateMethod ({ cls := "BracketRoom", name := "takes", desc := "(II)Z" } : Jvm.MethodName)) ∈ lw_tbl := lw_at lw_m3 93 rfl
theorem q760 : (Jvm.Cond.instanceMethod ({ cls := "BracketRoom", name := "takes", desc := "(II)Z" } : Jvm.MethodName)) ∈ lw_all := lw_g (lw_at lw_m3 94 rfl) rfl
theorem q761 : (Jvm.Cond.code ({ cls := "BracketRoom", name := "takes", desc := "(II)Z" } : Jvm.MethodName) prog_1_method_22_code (3 : Nat) (Option.some Jvm.ClassFile.FieldType.boolean)) ∈ lw_all := lw_g (lw_at lw_m3 95 rfl) rfl
theorem q762 : (Jvm.Cond.methodLink "BracketRoom" (224 : Nat) ({ cls := "BracketRoom$Reader", name := "world", desc := "(ILBracketRoom$World;)V" } : Jvm.MethodName)) ∈ lw_all := lw_g (lw_at lw_m3 96 rfl) rfl
theorem q893 : (Jvm.Cond.static ({ cls := "BracketRoom", name := "isPrime", desc := "(I)Z" } : Jvm.MethodName)) ∈ lw_all := lw_g (lw_at lw_m3 227 rfl) rfl
theorem q894 : (Jvm.Cond.code ({ cls := "BracketRoom", name := "isPrime", desc := "(I)Z" } : Jvm.MethodName) prog_1_method_2_code (1 : Nat) (Option.some Jvm.ClassFile.FieldType.boolean)) ∈ lw_all := lw_g (lw_at lw_m3 228 rfl) rfl
theorem q911 : (Jvm.Cond.static ({ cls := "BracketRoom", name := "widest", desc := "(I)I" } : Jvm.MethodName)) ∈ lw_all := lw_g (lw_at lw_m4 5 rfl) rfl
theorem q912 : (Jvm.Cond.code ({ cls := "BracketRoom", name := "widest", desc := "(I)I" } : Jvm.MethodName) prog_1_method_1_code (1 : Nat) (Option.some Jvm.ClassFile.FieldType.int)) ∈ lw_all := lw_g (lw_at lw_m4 6 rfl) rfl
theorem q935 : (Jvm.Cond.methodLink "BracketRoom" (227 : Nat) ({ cls := "BracketRoom", name := "refused", desc := "(LBracketRoom$Wrong;)I" } : Jvm.MethodName)) ∈ lw_all := lw_g (lw_at lw_m4 29 rfl) rfl
theorem q936 : (Jvm.Cond.privateMethod ({ cls := "BracketRoom", name := "refused", desc := "(LBracketRoom$Wrong;)I" } : Jvm.MethodName)) ∈ lw_tbl := lw_at lw_m4 30 rfl
theorem q937 : (Jvm.Cond.instanceMethod ({ cls := "BracketRoom", name := "refused", desc := "(LBracketRoom$Wrong;)I" } : Jvm.MethodName)) ∈ lw_all := lw_g (lw_at lw_m4 31 rfl) rfl
theorem q938 : (Jvm.Cond.code ({ cls := "BracketRoom", name := "refused", desc := "(LBracketRoom$Wrong;)I" } : Jvm.MethodName) prog_1_method_23_code (2 : Nat) (Option.some Jvm.ClassFile.FieldType.int)) ∈ lw_all := lw_g (lw_at lw_m4 32 rfl) rfl
theorem q939 : (Jvm.Cond.methodLink "BracketRoom" (231 : Nat) ({ cls := "BracketRoom$World", name := "copy", desc := "(LBracketRoom$World;)V" } : Jvm.MethodName)) ∈ lw_all := lw_g (lw_at lw_m4 33 rfl) rfl
theorem q944 : (Jvm.Cond.methodLink "BracketRoom" (235 : Nat) ({ cls := "BracketRoom", name := "gives", desc := "(I)I" } : Jvm.MethodName)) ∈ lw_all := lw_g (lw_at lw_m4 38 rfl) rfl
theorem q945 : (Jvm.Cond.privateMethod ({ cls := "BracketRoom", name := "gives", desc := "(I)I" } : Jvm.MethodName)) ∈ lw_tbl := lw_at lw_m4 39 rfl
theorem q946 : (Jvm.Cond.instanceMethod ({ cls := "BracketRoom", name := "gives", desc := "(I)I" } : Jvm.MethodName)) ∈ lw_all := lw_g (lw_at lw_m4 40 rfl) rfl
theorem q947 : (Jvm.Cond.code ({ cls := "BracketRoom", name := "gives", desc := "(I)I" } : Jvm.MethodName) prog_1_method_9_code (2 : Nat) (Option.some Jvm.ClassFile.FieldType.int)) ∈ lw_all := lw_g (lw_at lw_m4 41 rfl) rfl
theorem q949 : (Jvm.Cond.instanceMethod ({ cls := "BracketRoom", name := "script", desc := "(I)I" } : Jvm.MethodName)) ∈ lw_all := lw_g (lw_at lw_m4 43 rfl) rfl
theorem q950 : (Jvm.Cond.selects "BracketRoom" ({ cls := "BracketRoom", name := "script", desc := "(I)I" } : Jvm.MethodName) ({ cls := "BracketRoom", name := "script", desc := "(I)I" } : Jvm.MethodName)) ∈ lw_all := lw_g (lw_at lw_m4 44 rfl) rfl
theorem q951 : (Jvm.Cond.codeWith ({ cls := "BracketRoom", name := "script", desc := "(I)I" } : Jvm.MethodName) prog_1_method_25_code (3 : Nat) (Option.some Jvm.ClassFile.FieldType.int) [((17 : Nat), (29 : Nat), (32 : Nat), (17 : Nat))]) ∈ lw_all := lw_g (lw_at lw_m4 45 rfl) rfl
theorem q952 : (Jvm.Cond.methodLink "BracketRoom" (238 : Nat) ({ cls := "BracketRoom$Reader", name := "script", desc := "(I)[LBracketRoom$Step;" } : Jvm.MethodName)) ∈ lw_all := lw_g (lw_at lw_m4 46 rfl) rfl
theorem q968 : (Jvm.Cond.fieldLink "BracketRoom" (537 : Nat) "BracketRoom$Step" "kind" "I") ∈ lw_all := lw_g (lw_at lw_m4 62 rfl) rfl
theorem q970 : (Jvm.Cond.fieldLinkNest "BracketRoom" (532 : Nat) "BracketRoom$Step" "one" "I" "BracketRoom") ∈ lw_tbl := lw_at lw_m4 64 rfl
theorem q972 : (Jvm.Cond.fieldLinkNest "BracketRoom" (538 : Nat) "BracketRoom$Step" "two" "I" "BracketRoom") ∈ lw_tbl := lw_at lw_m4 66 rfl
theorem q974 : (Jvm.Cond.fieldLinkNest "BracketRoom" (526 : Nat) "BracketRoom$Step" "number" "I" "BracketRoom") ∈ lw_tbl := lw_at lw_m4 68 rfl
theorem q976 : (Jvm.Cond.fieldLinkNest "BracketRoom" (521 : Nat) "BracketRoom$Step" "compares" "I" "BracketRoom") ∈ lw_tbl := lw_at lw_m4 70 rfl
theorem q978 : (Jvm.Cond.fieldLinkNest "BracketRoom" (529 : Nat) "BracketRoom$Step" "test" "I" "BracketRoom") ∈ lw_tbl := lw_at lw_m4 72 rfl
theorem q980 : (Jvm.Cond.fieldLinkNest "BracketRoom" (540 : Nat) "BracketRoom$Step" "to" "I" "BracketRoom") ∈ lw_tbl := lw_at lw_m4 74 rfl
theorem q981 : (Jvm.Cond.fieldLinkNest "BracketRoom" (543 : Nat) "BracketRoom$Step" "rounds" "I" "BracketRoom") ∈ lw_tbl := lw_at lw_m4 75 rfl
theorem q1012 : (Jvm.Cond.instanceMethod ({ cls := "BracketRoom", name := "fault", desc := "(I)I" } : Jvm.MethodName)) ∈ lw_all := lw_g (lw_at lw_m4 106 rfl) rfl
theorem q1013 : (Jvm.Cond.selects "BracketRoom" ({ cls := "BracketRoom", name := "fault", desc := "(I)I" } : Jvm.MethodName) ({ cls := "BracketRoom", name := "fault", desc := "(I)I" } : Jvm.MethodName)) ∈ lw_all := lw_g (lw_at lw_m4 107 rfl) rfl
theorem q1014 : (Jvm.Cond.code ({ cls := "BracketRoom", name := "fault", desc := "(I)I" } : Jvm.MethodName) prog_1_method_26_code (2 : Nat) (Option.some Jvm.ClassFile.FieldType.int)) ∈ lw_all := lw_g (lw_at lw_m4 108 rfl) rfl
theorem q1016 : (Jvm.Cond.instanceMethod ({ cls := "BracketRoom", name := "many", desc := "(I)I" } : Jvm.MethodName)) ∈ lw_all := lw_g (lw_at lw_m4 110 rfl) rfl
theorem q1017 : (Jvm.Cond.selects "BracketRoom" ({ cls := "BracketRoom", name := "many", desc := "(I)I" } : Jvm.MethodName) ({ cls := "BracketRoom", name := "many", desc := "(I)I" } : Jvm.MethodName)) ∈ lw_all := lw_g (lw_at lw_m4 111 rfl) rfl
theorem q1018 : (Jvm.Cond.code ({ cls := "BracketRoom", name := "many", desc := "(I)I" } : Jvm.MethodName) prog_1_method_27_code (6 : Nat) (Option.some Jvm.ClassFile.FieldType.int)) ∈ lw_all := lw_g (lw_at lw_m4 112 rfl) rfl
theorem q1020 : (Jvm.Cond.instanceMethod ({ cls := "BracketRoom", name := "constant", desc := "(III)I" } : Jvm.MethodName)) ∈ lw_all := lw_g (lw_at lw_m4 114 rfl) rfl
theorem q1021 : (Jvm.Cond.selects "BracketRoom" ({ cls := "BracketRoom", name := "constant", desc := "(III)I" } : Jvm.MethodName) ({ cls := "BracketRoom", name := "constant", desc := "(III)I" } : Jvm.MethodName)) ∈ lw_all := lw_g (lw_at lw_m4 115 rfl) rfl
theorem q1022 : (Jvm.Cond.code ({ cls := "BracketRoom", name := "constant", desc := "(III)I" } : Jvm.MethodName) prog_1_method_28_code (4 : Nat) (Option.some Jvm.ClassFile.FieldType.int)) ∈ lw_all := lw_g (lw_at lw_m4 116 rfl) rfl
theorem q1023 : (Jvm.Cond.methodLink "BracketRoom" (260 : Nat) ({ cls := "BracketRoom", name := "isBase", desc := "(I)Z" } : Jvm.MethodName)) ∈ lw_all := lw_g (lw_at lw_m4 117 rfl) rfl
theorem q1024 : (Jvm.Cond.privateMethod ({ cls := "BracketRoom", name := "isBase", desc := "(I)Z" } : Jvm.MethodName)) ∈ lw_tbl := lw_at lw_m4 118 rfl
theorem q1025 : (Jvm.Cond.instanceMethod ({ cls := "BracketRoom", name := "isBase", desc := "(I)Z" } : Jvm.MethodName)) ∈ lw_all := lw_g (lw_at lw_m4 119 rfl) rfl
theorem q1026 : (Jvm.Cond.code ({ cls := "BracketRoom", name := "isBase", desc := "(I)Z" } : Jvm.MethodName) prog_1_method_17_code (2 : Nat) (Option.some Jvm.ClassFile.FieldType.boolean)) ∈ lw_all := lw_g (lw_at lw_m4 120 rfl) rfl
theorem q1028 : (Jvm.Cond.instanceMethod ({ cls := "BracketRoom", name := "put", desc := "(IIII)Z" } : Jvm.MethodName)) ∈ lw_all := lw_g (lw_at lw_m4 122 rfl) rfl
theorem q1029 : (Jvm.Cond.selects "BracketRoom" ({ cls := "BracketRoom", name := "put", desc := "(IIII)Z" } : Jvm.MethodName) ({ cls := "BracketRoom", name := "put", desc := "(IIII)Z" } : Jvm.MethodName)) ∈ lw_all := lw_g (lw_at lw_m4 123 rfl) rfl
theorem q1030 : (Jvm.Cond.code ({ cls := "BracketRoom", name := "put", desc := "(IIII)Z" } : Jvm.MethodName) prog_1_method_29_code (5 : Nat) (Option.some Jvm.ClassFile.FieldType.boolean)) ∈ lw_all := lw_g (lw_at lw_m4 124 rfl) rfl
theorem q1031 : (Jvm.Cond.methodLink "BracketRoom" (263 : Nat) ({ cls := "BracketRoom$World", name := "set", desc := "(IIII)V" } : Jvm.MethodName)) ∈ lw_all := lw_g (lw_at lw_m4 125 rfl) rfl
theorem q1033 : (Jvm.Cond.instanceMethod ({ cls := "BracketRoom", name := "bracket", desc := "(II)I" } : Jvm.MethodName)) ∈ lw_all := lw_g (lw_at lw_m4 127 rfl) rfl
theorem q1034 : (Jvm.Cond.selects "BracketRoom" ({ cls := "BracketRoom", name := "bracket", desc := "(II)I" } : Jvm.MethodName) ({ cls := "BracketRoom", name := "bracket", desc := "(II)I" } : Jvm.MethodName)) ∈ lw_all := lw_g (lw_at lw_m4 128 rfl) rfl
theorem q1035 : (Jvm.Cond.code ({ cls := "BracketRoom", name := "bracket", desc := "(II)I" } : Jvm.MethodName) prog_1_method_30_code (3 : Nat) (Option.some Jvm.ClassFile.FieldType.int)) ∈ lw_all := lw_g (lw_at lw_m4 129 rfl) rfl
theorem q1036 : (Jvm.Cond.methodLink "BracketRoom" (266 : Nat) ({ cls := "BracketRoom", name := "isVector", desc := "(J)Z" } : Jvm.MethodName)) ∈ lw_all := lw_g (lw_at lw_m4 130 rfl) rfl
theorem q1037 : (Jvm.Cond.privateMethod ({ cls := "BracketRoom", name := "isVector", desc := "(J)Z" } : Jvm.MethodName)) ∈ lw_tbl := lw_at lw_m4 131 rfl
theorem q1038 : (Jvm.Cond.instanceMethod ({ cls := "BracketRoom", name := "isVector", desc := "(J)Z" } : Jvm.MethodName)) ∈ lw_all := lw_g (lw_at lw_m4 132 rfl) rfl
theorem q1039 : (Jvm.Cond.code ({ cls := "BracketRoom", name := "isVector", desc := "(J)Z" } : Jvm.MethodName) prog_1_method_18_code (3 : Nat) (Option.some Jvm.ClassFile.FieldType.boolean)) ∈ lw_all := lw_g (lw_at lw_m4 133 rfl) rfl
theorem q1040 : (Jvm.Cond.methodLink "BracketRoom" (199 : Nat) ({ cls := "BracketRoom$World", name := "vectors", desc := "()I" } : Jvm.MethodName)) ∈ lw_all := lw_g (lw_at lw_m4 134 rfl) rfl
theorem q1044 : (Jvm.Cond.methodLink "BracketRoom" (270 : Nat) ({ cls := "BracketRoom$World", name := "parts", desc := "(I[I)V" } : Jvm.MethodName)) ∈ lw_all := lw_g (lw_at lw_m4 138 rfl) rfl
theorem q1048 : (Jvm.Cond.methodLink "BracketRoom" (274 : Nat) ({ cls := "BracketRoom$World", name := "bracket", desc := "([I[I[I)V" } : Jvm.MethodName)) ∈ lw_all := lw_g (lw_at lw_m4 142 rfl) rfl
theorem q1052 : (Jvm.Cond.methodLink "BracketRoom" (278 : Nat) ({ cls := "BracketRoom$World", name := "vector", desc := "([I)I" } : Jvm.MethodName)) ∈ lw_all := lw_g (lw_at lw_m4 146 rfl) rfl
theorem q1057 : (Jvm.Cond.instanceMethod ({ cls := "BracketRoom", name := "lawful", desc := "()I" } : Jvm.MethodName)) ∈ lw_all := lw_g (lw_at lw_m4 151 rfl) rfl
theorem q1058 : (Jvm.Cond.selects "BracketRoom" ({ cls := "BracketRoom", name := "lawful", desc := "()I" } : Jvm.MethodName) ({ cls := "BracketRoom", name := "lawful", desc := "()I" } : Jvm.MethodName)) ∈ lw_all := lw_g (lw_at lw_m4 152 rfl) rfl
theorem q1059 : (Jvm.Cond.code ({ cls := "BracketRoom", name := "lawful", desc := "()I" } : Jvm.MethodName) prog_1_method_33_code (1 : Nat) (Option.some Jvm.ClassFile.FieldType.int)) ∈ lw_all := lw_g (lw_at lw_m4 153 rfl) rfl
theorem q1060 : (Jvm.Cond.methodLink "BracketRoom" (289 : Nat) ({ cls := "BracketRoom", name := "isLawful", desc := "(LBracketRoom$World;)Z" } : Jvm.MethodName)) ∈ lw_all := lw_g (lw_at lw_m4 154 rfl) rfl
theorem q1061 : (Jvm.Cond.privateMethod ({ cls := "BracketRoom", name := "isLawful", desc := "(LBracketRoom$World;)Z" } : Jvm.MethodName)) ∈ lw_tbl := lw_at lw_m4 155 rfl
theorem q1062 : (Jvm.Cond.instanceMethod ({ cls := "BracketRoom", name := "isLawful", desc := "(LBracketRoom$World;)Z" } : Jvm.MethodName)) ∈ lw_all := lw_g (lw_at lw_m4 156 rfl) rfl
theorem q1063 : (Jvm.Cond.code ({ cls := "BracketRoom", name := "isLawful", desc := "(LBracketRoom$World;)Z" } : Jvm.MethodName) prog_1_method_32_code (5 : Nat) (Option.some Jvm.ClassFile.FieldType.boolean)) ∈ lw_all := lw_g (lw_at lw_m4 157 rfl) rfl
theorem q1064 : (Jvm.Cond.methodLink "BracketRoom" (285 : Nat) ({ cls := "BracketRoom", name := "keepsLaw", desc := "(LBracketRoom$World;III)Z" } : Jvm.MethodName)) ∈ lw_all := lw_g (lw_at lw_m4 158 rfl) rfl
theorem q1065 : (Jvm.Cond.static ({ cls := "BracketRoom", name := "keepsLaw", desc := "(LBracketRoom$World;III)Z" } : Jvm.MethodName)) ∈ lw_all := lw_g (lw_at lw_m4 159 rfl) rfl
theorem q1066 : (Jvm.Cond.code ({ cls := "BracketRoom", name := "keepsLaw", desc := "(LBracketRoom$World;III)Z" } : Jvm.MethodName) prog_1_method_31_code (7 : Nat) (Option.some Jvm.ClassFile.FieldType.boolean)) ∈ lw_all := lw_g (lw_at lw_m4 160 rfl) rfl
theorem q1067 : (Jvm.Cond.methodLink "BracketRoom" (282 : Nat) ({ cls := "BracketRoom$World", name := "by", desc := "(I)I" } : Jvm.MethodName)) ∈ lw_all := lw_g (lw_at lw_m4 161 rfl) rfl
theorem q1069 : (Jvm.Cond.instanceMethod ({ cls := "BracketRoom", name := "failing", desc := "(I)I" } : Jvm.MethodName)) ∈ lw_all := lw_g (lw_at lw_m4 163 rfl) rfl
theorem q1070 : (Jvm.Cond.selects "BracketRoom" ({ cls := "BracketRoom", name := "failing", desc := "(I)I" } : Jvm.MethodName) ({ cls := "BracketRoom", name := "failing", desc := "(I)I" } : Jvm.MethodName)) ∈ lw_all := lw_g (lw_at lw_m4 164 rfl) rfl
theorem q1071 : (Jvm.Cond.code ({ cls := "BracketRoom", name := "failing", desc := "(I)I" } : Jvm.MethodName) prog_1_method_34_code (2 : Nat) (Option.some Jvm.ClassFile.FieldType.int)) ∈ lw_all := lw_g (lw_at lw_m4 165 rfl) rfl
theorem q1073 : (Jvm.Cond.instanceMethod ({ cls := "BracketRoom", name := "keep", desc := "(I)Z" } : Jvm.MethodName)) ∈ lw_all := lw_g (lw_at lw_m4 167 rfl) rfl
theorem q1074 : (Jvm.Cond.selects "BracketRoom" ({ cls := "BracketRoom", name := "keep", desc := "(I)Z" } : Jvm.MethodName) ({ cls := "BracketRoom", name := "keep", desc := "(I)Z" } : Jvm.MethodName)) ∈ lw_all := lw_g (lw_at lw_m4 168 rfl) rfl
theorem q1075 : (Jvm.Cond.code ({ cls := "BracketRoom", name := "keep", desc := "(I)Z" } : Jvm.MethodName) prog_1_method_36_code (2 : Nat) (Option.some Jvm.ClassFile.FieldType.boolean)) ∈ lw_all := lw_g (lw_at lw_m4 169 rfl) rfl
theorem q1076 : (Jvm.Cond.methodLink "BracketRoom" (293 : Nat) ({ cls := "BracketRoom", name := "isShelf", desc := "(I)Z" } : Jvm.MethodName)) ∈ lw_all := lw_g (lw_at lw_m4 170 rfl) rfl
theorem q1077 : (Jvm.Cond.static ({ cls := "BracketRoom", name := "isShelf", desc := "(I)Z" } : Jvm.MethodName)) ∈ lw_all := lw_g (lw_at lw_m4 171 rfl) rfl
theorem q1078 : (Jvm.Cond.code ({ cls := "BracketRoom", name := "isShelf", desc := "(I)Z" } : Jvm.MethodName) prog_1_method_19_code (1 : Nat) (Option.some Jvm.ClassFile.FieldType.boolean)) ∈ lw_all := lw_g (lw_at lw_m4 172 rfl) rfl
theorem q1079 : (Jvm.Cond.methodLink "BracketRoom" (296 : Nat) ({ cls := "BracketRoom", name := "keeps", desc := "(I)V" } : Jvm.MethodName)) ∈ lw_all := lw_g (lw_at lw_m4 173 rfl) rfl
theorem q1080 : (Jvm.Cond.privateMethod ({ cls := "BracketRoom", name := "keeps", desc := "(I)V" } : Jvm.MethodName)) ∈ lw_tbl := lw_at lw_m4 174 rfl
theorem q1081 : (Jvm.Cond.instanceMethod ({ cls := "BracketRoom", name := "keeps", desc := "(I)V" } : Jvm.MethodName)) ∈ lw_all := lw_g (lw_at lw_m4 175 rfl) rfl
theorem q1082 : (Jvm.Cond.code ({ cls := "BracketRoom", name := "keeps", desc := "(I)V" } : Jvm.MethodName) prog_1_method_35_code (2 : Nat) (Option.none : Option Jvm.ClassFile.FieldType)) ∈ lw_all := lw_g (lw_at lw_m4 176 rfl) rfl
theorem q1084 : (Jvm.Cond.instanceMethod ({ cls := "BracketRoom", name := "take", desc := "(I)Z" } : Jvm.MethodName)) ∈ lw_all := lw_g (lw_at lw_m4 178 rfl) rfl
theorem q1085 : (Jvm.Cond.selects "BracketRoom" ({ cls := "BracketRoom", name := "take", desc := "(I)Z" } : Jvm.MethodName) ({ cls := "BracketRoom", name := "take", desc := "(I)Z" } : Jvm.MethodName)) ∈ lw_all := lw_g (lw_at lw_m4 179 rfl) rfl
theorem q1086 : (Jvm.Cond.code ({ cls := "BracketRoom", name := "take", desc := "(I)Z" } : Jvm.MethodName) prog_1_method_38_code (3 : Nat) (Option.some Jvm.ClassFile.FieldType.boolean)) ∈ lw_all := lw_g (lw_at lw_m4 180 rfl) rfl
theorem q1087 : (Jvm.Cond.methodLink "BracketRoom" (299 : Nat) ({ cls := "BracketRoom", name := "noShelf", desc := "(I)I" } : Jvm.MethodName)) ∈ lw_all := lw_g (lw_at lw_m4 181 rfl) rfl
theorem q1088 : (Jvm.Cond.privateMethod ({ cls := "BracketRoom", name := "noShelf", desc := "(I)I" } : Jvm.MethodName)) ∈ lw_tbl := lw_at lw_m4 182 rfl
theorem q1089 : (Jvm.Cond.instanceMethod ({ cls := "BracketRoom", name := "noShelf", desc := "(I)I" } : Jvm.MethodName)) ∈ lw_all := lw_g (lw_at lw_m4 183 rfl) rfl
theorem q1090 : (Jvm.Cond.code ({ cls := "BracketRoom", name := "noShelf", desc := "(I)I" } : Jvm.MethodName) prog_1_method_37_code (2 : Nat) (Option.some Jvm.ClassFile.FieldType.int)) ∈ lw_all := lw_g (lw_at lw_m4 184 rfl) rfl
theorem q1092 : (Jvm.Cond.instanceMethod ({ cls := "BracketRoom", name := "span", desc := "(III)I" } : Jvm.MethodName)) ∈ lw_all := lw_g (lw_at lw_m4 186 rfl) rfl
theorem q1093 : (Jvm.Cond.selects "BracketRoom" ({ cls := "BracketRoom", name := "span", desc := "(III)I" } : Jvm.MethodName) ({ cls := "BracketRoom", name := "span", desc := "(III)I" } : Jvm.MethodName)) ∈ lw_all := lw_g (lw_at lw_m4 187 rfl) rfl
theorem q1094 : (Jvm.Cond.code ({ cls := "BracketRoom", name := "span", desc := "(III)I" } : Jvm.MethodName) prog_1_method_43_code (5 : Nat) (Option.some Jvm.ClassFile.FieldType.int)) ∈ lw_all := lw_g (lw_at lw_m4 188 rfl) rfl
theorem q1095 : (Jvm.Cond.constantLong "BracketRoom" (318 : Nat) (20 : Int64)) ∈ lw_all := lw_g (lw_at lw_m4 189 rfl) rfl
theorem q1096 : (Jvm.Cond.methodLink "BracketRoom" (320 : Nat) ({ cls := "BracketRoom", name := "isFrom", desc := "(JJJ)Z" } : Jvm.MethodName)) ∈ lw_all := lw_g (lw_at lw_m4 190 rfl) rfl
theorem q1097 : (Jvm.Cond.static ({ cls := "BracketRoom", name := "isFrom", desc := "(JJJ)Z" } : Jvm.MethodName)) ∈ lw_all := lw_g (lw_at lw_m4 191 rfl) rfl
theorem q1098 : (Jvm.Cond.code ({ cls := "BracketRoom", name := "isFrom", desc := "(JJJ)Z" } : Jvm.MethodName) prog_1_method_16_code (6 : Nat) (Option.some Jvm.ClassFile.FieldType.boolean)) ∈ lw_all := lw_g (lw_at lw_m4 192 rfl) rfl
theorem q1099 : (Jvm.Cond.methodLink "BracketRoom" (324 : Nat) ({ cls := "BracketRoom", name := "wrongRow", desc := "(IIZ)I" } : Jvm.MethodName)) ∈ lw_all := lw_g (lw_at lw_m4 193 rfl) rfl
theorem q1100 : (Jvm.Cond.privateMethod ({ cls := "BracketRoom", name := "wrongRow", desc := "(IIZ)I" } : Jvm.MethodName)) ∈ lw_tbl := lw_at lw_m4 194 rfl
theorem q1101 : (Jvm.Cond.instanceMethod ({ cls := "BracketRoom", name := "wrongRow", desc := "(IIZ)I" } : Jvm.MethodName)) ∈ lw_all := lw_g (lw_at lw_m4 195 rfl) rfl
theorem q1102 : (Jvm.Cond.code ({ cls := "BracketRoom", name := "wrongRow", desc := "(IIZ)I" } : Jvm.MethodName) prog_1_method_41_code (6 : Nat) (Option.some Jvm.ClassFile.FieldType.int)) ∈ lw_all := lw_g (lw_at lw_m4 196 rfl) rfl
theorem q1103 : (Jvm.Cond.methodLink "BracketRoom" (316 : Nat) ({ cls := "BracketRoom$Tray", name := "many", desc := "()I" } : Jvm.MethodName)) ∈ lw_all := lw_g (lw_at lw_m4 197 rfl) rfl
theorem q1107 : (Jvm.Cond.methodLink "BracketRoom" (328 : Nat) ({ cls := "BracketRoom", name := "spans", desc := "(LBracketRoom$Span;II)V" } : Jvm.MethodName)) ∈ lw_all := lw_g (lw_at lw_m4 201 rfl) rfl
theorem q1108 : (Jvm.Cond.privateMethod ({ cls := "BracketRoom", name := "spans", desc := "(LBracketRoom$Span;II)V" } : Jvm.MethodName)) ∈ lw_tbl := lw_at lw_m4 202 rfl
theorem q1109 : (Jvm.Cond.instanceMethod ({ cls := "BracketRoom", name := "spans", desc := "(LBracketRoom$Span;II)V" } : Jvm.MethodName)) ∈ lw_all := lw_g (lw_at lw_m4 203 rfl) rfl
theorem q1110 : (Jvm.Cond.code ({ cls := "BracketRoom", name := "spans", desc := "(LBracketRoom$Span;II)V" } : Jvm.MethodName) prog_1_method_42_code (5 : Nat) (Option.none : Option Jvm.ClassFile.FieldType)) ∈ lw_all := lw_g (lw_at lw_m4 204 rfl) rfl
theorem q1111 : (Jvm.Cond.methodLink "BracketRoom" (306 : Nat) ({ cls := "BracketRoom$Span", name := "add", desc := "(LBracketRoom$World;[I)Z" } : Jvm.MethodName)) ∈ lw_all := lw_g (lw_at lw_m4 205 rfl) rfl
theorem q1125 : (Jvm.Cond.methodLink "BracketRoom" (332 : Nat) ({ cls := "BracketRoom", name := "closes", desc := "(LBracketRoom$World;LBracketRoom$Span;Z)V" } : Jvm.MethodName)) ∈ lw_all := lw_g (lw_at lw_m4 219 rfl) rfl
theorem q1126 : (Jvm.Cond.privateMethod ({ cls := "BracketRoom", name := "closes", desc := "(LBracketRoom$World;LBracketRoom$Span;Z)V" } : Jvm.MethodName)) ∈ lw_tbl := lw_at lw_m4 220 rfl
theorem q1127 : (Jvm.Cond.instanceMethod ({ cls := "BracketRoom", name := "closes", desc := "(LBracketRoom$World;LBracketRoom$Span;Z)V" } : Jvm.MethodName)) ∈ lw_all := lw_g (lw_at lw_m4 221 rfl) rfl
theorem q1128 : (Jvm.Cond.code ({ cls := "BracketRoom", name := "closes", desc := "(LBracketRoom$World;LBracketRoom$Span;Z)V" } : Jvm.MethodName) prog_1_method_40_code (6 : Nat) (Option.none : Option Jvm.ClassFile.FieldType)) ∈ lw_all := lw_g (lw_at lw_m4 222 rfl) rfl
theorem q1129 : (Jvm.Cond.methodLink "BracketRoom" (310 : Nat) ({ cls := "BracketRoom$Span", name := "all", desc := "(LBracketRoom$World;)V" } : Jvm.MethodName)) ∈ lw_all := lw_g (lw_at lw_m4 223 rfl) rfl
theorem q1133 : (Jvm.Cond.methodLink "BracketRoom" (312 : Nat) ({ cls := "BracketRoom", name := "brackets", desc := "(LBracketRoom$World;LBracketRoom$Span;LBracketRoom$Span;LBracketRoom$Span;)V" } : Jvm.MethodName)) ∈ lw_all := lw_g (lw_at lw_m4 227 rfl) rfl
theorem q1134 : (Jvm.Cond.privateMethod ({ cls := "BracketRoom", name := "brackets", desc := "(LBracketRoom$World;LBracketRoom$Span;LBracketRoom$Span;LBracketRoom$Span;)V" } : Jvm.MethodName)) ∈ lw_tbl := lw_at lw_m4 228 rfl
theorem q1135 : (Jvm.Cond.instanceMethod ({ cls := "BracketRoom", name := "brackets", desc := "(LBracketRoom$World;LBracketRoom$Span;LBracketRoom$Span;LBracketRoom$Span;)V" } : Jvm.MethodName)) ∈ lw_all := lw_g (lw_at lw_m4 229 rfl) rfl
theorem q1136 : (Jvm.Cond.code ({ cls := "BracketRoom", name := "brackets", desc := "(LBracketRoom$World;LBracketRoom$Span;LBracketRoom$Span;LBracketRoom$Span;)V" } : Jvm.MethodName) prog_1_method_39_code (7 : Nat) (Option.none : Option Jvm.ClassFile.FieldType)) ∈ lw_all := lw_g (lw_at lw_m4 230 rfl) rfl
theorem q1138 : (Jvm.Cond.instanceMethod ({ cls := "BracketRoom", name := "derived", desc := "(I)I" } : Jvm.MethodName)) ∈ lw_all := lw_g (lw_at lw_m4 232 rfl) rfl
theorem q1139 : (Jvm.Cond.selects "BracketRoom" ({ cls := "BracketRoom", name := "derived", desc := "(I)I" } : Jvm.MethodName) ({ cls := "BracketRoom", name := "derived", desc := "(I)I" } : Jvm.MethodName)) ∈ lw_all := lw_g (lw_at lw_m4 233 rfl) rfl
theorem q1140 : (Jvm.Cond.code ({ cls := "BracketRoom", name := "derived", desc := "(I)I" } : Jvm.MethodName) prog_1_method_47_code (2 : Nat) (Option.some Jvm.ClassFile.FieldType.int)) ∈ lw_all := lw_g (lw_at lw_m4 234 rfl) rfl
theorem q1141 : (Jvm.Cond.constantLong "BracketRoom" (343 : Nat) (9 : Int64)) ∈ lw_all := lw_g (lw_at lw_m4 235 rfl) rfl
theorem q1142 : (Jvm.Cond.methodLink "BracketRoom" (345 : Nat) ({ cls := "BracketRoom", name := "derivedOf", desc := "(LBracketRoom$World;I)I" } : Jvm.MethodName)) ∈ lw_all := lw_g (lw_at lw_m4 236 rfl) rfl
theorem q1143 : (Jvm.Cond.privateMethod ({ cls := "BracketRoom", name := "derivedOf", desc := "(LBracketRoom$World;I)I" } : Jvm.MethodName)) ∈ lw_tbl := lw_at lw_m4 237 rfl
theorem q1144 : (Jvm.Cond.instanceMethod ({ cls := "BracketRoom", name := "derivedOf", desc := "(LBracketRoom$World;I)I" } : Jvm.MethodName)) ∈ lw_all := lw_g (lw_at lw_m4 238 rfl) rfl
theorem q1145 : (Jvm.Cond.code ({ cls := "BracketRoom", name := "derivedOf", desc := "(LBracketRoom$World;I)I" } : Jvm.MethodName) prog_1_method_45_code (3 : Nat) (Option.some Jvm.ClassFile.FieldType.int)) ∈ lw_all := lw_g (lw_at lw_m4 239 rfl) rfl
theorem q1146 : (Jvm.Cond.methodLink "BracketRoom" (339 : Nat) ({ cls := "BracketRoom", name := "series", desc := "(LBracketRoom$World;LBracketRoom$Span;IZ)I" } : Jvm.MethodName)) ∈ lw_all := lw_g (lw_at lw_m5 0 rfl) rfl
theorem q1147 : (Jvm.Cond.privateMethod ({ cls := "BracketRoom", name := "series", desc := "(LBracketRoom$World;LBracketRoom$Span;IZ)I" } : Jvm.MethodName)) ∈ lw_tbl := lw_at lw_m5 1 rfl
theorem q1148 : (Jvm.Cond.instanceMethod ({ cls := "BracketRoom", name := "series", desc := "(LBracketRoom$World;LBracketRoom$Span;IZ)I" } : Jvm.MethodName)) ∈ lw_all := lw_g (lw_at lw_m5 2 rfl) rfl
theorem q1149 : (Jvm.Cond.code ({ cls := "BracketRoom", name := "series", desc := "(LBracketRoom$World;LBracketRoom$Span;IZ)I" } : Jvm.MethodName) prog_1_method_44_code (6 : Nat) (Option.some Jvm.ClassFile.FieldType.int)) ∈ lw_all := lw_g (lw_at lw_m5 3 rfl) rfl
theorem q1150 : (Jvm.Cond.methodLink "BracketRoom" (336 : Nat) ({ cls := "BracketRoom$Span", name := "copy", desc := "(LBracketRoom$Span;)V" } : Jvm.MethodName)) ∈ lw_all := lw_g (lw_at lw_m5 4 rfl) rfl
theorem q1155 : (Jvm.Cond.instanceMethod ({ cls := "BracketRoom", name := "lower", desc := "(I)I" } : Jvm.MethodName)) ∈ lw_all := lw_g (lw_at lw_m5 9 rfl) rfl
theorem q1156 : (Jvm.Cond.selects "BracketRoom" ({ cls := "BracketRoom", name := "lower", desc := "(I)I" } : Jvm.MethodName) ({ cls := "BracketRoom", name := "lower", desc := "(I)I" } : Jvm.MethodName)) ∈ lw_all := lw_g (lw_at lw_m5 10 rfl) rfl
theorem q1157 : (Jvm.Cond.code ({ cls := "BracketRoom", name := "lower", desc := "(I)I" } : Jvm.MethodName) prog_1_method_48_code (2 : Nat) (Option.some Jvm.ClassFile.FieldType.int)) ∈ lw_all := lw_g (lw_at lw_m5 11 rfl) rfl
theorem q1158 : (Jvm.Cond.methodLink "BracketRoom" (349 : Nat) ({ cls := "BracketRoom", name := "lowerOf", desc := "(LBracketRoom$World;I)I" } : Jvm.MethodName)) ∈ lw_all := lw_g (lw_at lw_m5 12 rfl) rfl
theorem q1159 : (Jvm.Cond.privateMethod ({ cls := "BracketRoom", name := "lowerOf", desc := "(LBracketRoom$World;I)I" } : Jvm.MethodName)) ∈ lw_tbl := lw_at lw_m5 13 rfl
theorem q1160 : (Jvm.Cond.instanceMethod ({ cls := "BracketRoom", name := "lowerOf", desc := "(LBracketRoom$World;I)I" } : Jvm.MethodName)) ∈ lw_all := lw_g (lw_at lw_m5 14 rfl) rfl
theorem q1161 : (Jvm.Cond.code ({ cls := "BracketRoom", name := "lowerOf", desc := "(LBracketRoom$World;I)I" } : Jvm.MethodName) prog_1_method_46_code (3 : Nat) (Option.some Jvm.ClassFile.FieldType.int)) ∈ lw_all := lw_g (lw_at lw_m5 15 rfl) rfl
theorem q1163 : (Jvm.Cond.instanceMethod ({ cls := "BracketRoom", name := "centre", desc := "()I" } : Jvm.MethodName)) ∈ lw_all := lw_g (lw_at lw_m5 17 rfl) rfl
theorem q1164 : (Jvm.Cond.selects "BracketRoom" ({ cls := "BracketRoom", name := "centre", desc := "()I" } : Jvm.MethodName) ({ cls := "BracketRoom", name := "centre", desc := "()I" } : Jvm.MethodName)) ∈ lw_all := lw_g (lw_at lw_m5 18 rfl) rfl
theorem q1165 : (Jvm.Cond.code ({ cls := "BracketRoom", name := "centre", desc := "()I" } : Jvm.MethodName) prog_1_method_51_code (1 : Nat) (Option.some Jvm.ClassFile.FieldType.int)) ∈ lw_all := lw_g (lw_at lw_m5 19 rfl) rfl
theorem q1166 : (Jvm.Cond.methodLink "BracketRoom" (359 : Nat) ({ cls := "BracketRoom", name := "centreOf", desc := "(LBracketRoom$World;)I" } : Jvm.MethodName)) ∈ lw_all := lw_g (lw_at lw_m5 20 rfl) rfl
theorem q1167 : (Jvm.Cond.privateMethod ({ cls := "BracketRoom", name := "centreOf", desc := "(LBracketRoom$World;)I" } : Jvm.MethodName)) ∈ lw_tbl := lw_at lw_m5 21 rfl
theorem q1168 : (Jvm.Cond.instanceMethod ({ cls := "BracketRoom", name := "centreOf", desc := "(LBracketRoom$World;)I" } : Jvm.MethodName)) ∈ lw_all := lw_g (lw_at lw_m5 22 rfl) rfl
theorem q1169 : (Jvm.Cond.code ({ cls := "BracketRoom", name := "centreOf", desc := "(LBracketRoom$World;)I" } : Jvm.MethodName) prog_1_method_50_code (4 : Nat) (Option.some Jvm.ClassFile.FieldType.int)) ∈ lw_all := lw_g (lw_at lw_m5 23 rfl) rfl
theorem q1170 : (Jvm.Cond.methodLink "BracketRoom" (352 : Nat) ({ cls := "BracketRoom", name := "clearRows", desc := "(II)V" } : Jvm.MethodName)) ∈ lw_all := lw_g (lw_at lw_m5 24 rfl) rfl
theorem q1171 : (Jvm.Cond.privateMethod ({ cls := "BracketRoom", name := "clearRows", desc := "(II)V" } : Jvm.MethodName)) ∈ lw_tbl := lw_at lw_m5 25 rfl
theorem q1172 : (Jvm.Cond.instanceMethod ({ cls := "BracketRoom", name := "clearRows", desc := "(II)V" } : Jvm.MethodName)) ∈ lw_all := lw_g (lw_at lw_m5 26 rfl) rfl
theorem q1173 : (Jvm.Cond.code ({ cls := "BracketRoom", name := "clearRows", desc := "(II)V" } : Jvm.MethodName) prog_1_method_49_code (5 : Nat) (Option.none : Option Jvm.ClassFile.FieldType)) ∈ lw_all := lw_g (lw_at lw_m5 27 rfl) rfl
theorem q1174 : (Jvm.Cond.methodLink "BracketRoom" (355 : Nat) ({ cls := "BracketRoom$World", name := "rank", desc := "([[III)I" } : Jvm.MethodName)) ∈ lw_all := lw_g (lw_at lw_m5 28 rfl) rfl
theorem q1180 : (Jvm.Cond.instanceMethod ({ cls := "BracketRoom", name := "centralizer", desc := "(I)I" } : Jvm.MethodName)) ∈ lw_all := lw_g (lw_at lw_m5 34 rfl) rfl
theorem q1181 : (Jvm.Cond.selects "BracketRoom" ({ cls := "BracketRoom", name := "centralizer", desc := "(I)I" } : Jvm.MethodName) ({ cls := "BracketRoom", name := "centralizer", desc := "(I)I" } : Jvm.MethodName)) ∈ lw_all := lw_g (lw_at lw_m5 35 rfl) rfl
theorem q1182 : (Jvm.Cond.code ({ cls := "BracketRoom", name := "centralizer", desc := "(I)I" } : Jvm.MethodName) prog_1_method_53_code (2 : Nat) (Option.some Jvm.ClassFile.FieldType.int)) ∈ lw_all := lw_g (lw_at lw_m5 36 rfl) rfl
theorem q1183 : (Jvm.Cond.methodLink "BracketRoom" (363 : Nat) ({ cls := "BracketRoom", name := "rankOf", desc := "(LBracketRoom$World;I)I" } : Jvm.MethodName)) ∈ lw_all := lw_g (lw_at lw_m5 37 rfl) rfl
theorem q1184 : (Jvm.Cond.privateMethod ({ cls := "BracketRoom", name := "rankOf", desc := "(LBracketRoom$World;I)I" } : Jvm.MethodName)) ∈ lw_tbl := lw_at lw_m5 38 rfl
theorem q1185 : (Jvm.Cond.instanceMethod ({ cls := "BracketRoom", name := "rankOf", desc := "(LBracketRoom$World;I)I" } : Jvm.MethodName)) ∈ lw_all := lw_g (lw_at lw_m5 39 rfl) rfl
theorem q1186 : (Jvm.Cond.code ({ cls := "BracketRoom", name := "rankOf", desc := "(LBracketRoom$World;I)I" } : Jvm.MethodName) prog_1_method_52_code (5 : Nat) (Option.some Jvm.ClassFile.FieldType.int)) ∈ lw_all := lw_g (lw_at lw_m5 40 rfl) rfl
theorem q1188 : (Jvm.Cond.instanceMethod ({ cls := "BracketRoom", name := "rank", desc := "(I)I" } : Jvm.MethodName)) ∈ lw_all := lw_g (lw_at lw_m5 42 rfl) rfl
theorem q1189 : (Jvm.Cond.selects "BracketRoom" ({ cls := "BracketRoom", name := "rank", desc := "(I)I" } : Jvm.MethodName) ({ cls := "BracketRoom", name := "rank", desc := "(I)I" } : Jvm.MethodName)) ∈ lw_all := lw_g (lw_at lw_m5 43 rfl) rfl
theorem q1190 : (Jvm.Cond.code ({ cls := "BracketRoom", name := "rank", desc := "(I)I" } : Jvm.MethodName) prog_1_method_54_code (2 : Nat) (Option.some Jvm.ClassFile.FieldType.int)) ∈ lw_all := lw_g (lw_at lw_m5 44 rfl) rfl
theorem q1192 : (Jvm.Cond.instanceMethod ({ cls := "BracketRoom", name := "power", desc := "(I)I" } : Jvm.MethodName)) ∈ lw_all := lw_g (lw_at lw_m5 46 rfl) rfl
theorem q1193 : (Jvm.Cond.selects "BracketRoom" ({ cls := "BracketRoom", name := "power", desc := "(I)I" } : Jvm.MethodName) ({ cls := "BracketRoom", name := "power", desc := "(I)I" } : Jvm.MethodName)) ∈ lw_all := lw_g (lw_at lw_m5 47 rfl) rfl
theorem q1194 : (Jvm.Cond.code ({ cls := "BracketRoom", name := "power", desc := "(I)I" } : Jvm.MethodName) prog_1_method_55_code (6 : Nat) (Option.some Jvm.ClassFile.FieldType.int)) ∈ lw_all := lw_g (lw_at lw_m5 48 rfl) rfl
theorem q1196 : (Jvm.Cond.instanceMethod ({ cls := "BracketRoom", name := "is", desc := "(I)I" } : Jvm.MethodName)) ∈ lw_all := lw_g (lw_at lw_m5 50 rfl) rfl
theorem q1197 : (Jvm.Cond.selects "BracketRoom" ({ cls := "BracketRoom", name := "is", desc := "(I)I" } : Jvm.MethodName) ({ cls := "BracketRoom", name := "is", desc := "(I)I" } : Jvm.MethodName)) ∈ lw_all := lw_g (lw_at lw_m5 51 rfl) rfl
theorem q1198 : (Jvm.Cond.code ({ cls := "BracketRoom", name := "is", desc := "(I)I" } : Jvm.MethodName) prog_1_method_67_code (3 : Nat) (Option.some Jvm.ClassFile.FieldType.int)) ∈ lw_all := lw_g (lw_at lw_m5 52 rfl) rfl
theorem q1199 : (Jvm.Cond.methodLink "BracketRoom" (413 : Nat) ({ cls := "BracketRoom", name := "isSimple", desc := "(LBracketRoom$World;)Z" } : Jvm.MethodName)) ∈ lw_all := lw_g (lw_at lw_m5 53 rfl) rfl
theorem q1200 : (Jvm.Cond.privateMethod ({ cls := "BracketRoom", name := "isSimple", desc := "(LBracketRoom$World;)Z" } : Jvm.MethodName)) ∈ lw_tbl := lw_at lw_m5 54 rfl
theorem q1201 : (Jvm.Cond.instanceMethod ({ cls := "BracketRoom", name := "isSimple", desc := "(LBracketRoom$World;)Z" } : Jvm.MethodName)) ∈ lw_all := lw_g (lw_at lw_m5 55 rfl) rfl
theorem q1202 : (Jvm.Cond.code ({ cls := "BracketRoom", name := "isSimple", desc := "(LBracketRoom$World;)Z" } : Jvm.MethodName) prog_1_method_65_code (3 : Nat) (Option.some Jvm.ClassFile.FieldType.boolean)) ∈ lw_all := lw_g (lw_at lw_m5 56 rfl) rfl
theorem q1203 : (Jvm.Cond.methodLink "BracketRoom" (410 : Nat) ({ cls := "BracketRoom", name := "count", desc := "(LBracketRoom$World;II)I" } : Jvm.MethodName)) ∈ lw_all := lw_g (lw_at lw_m5 57 rfl) rfl
theorem q1204 : (Jvm.Cond.privateMethod ({ cls := "BracketRoom", name := "count", desc := "(LBracketRoom$World;II)I" } : Jvm.MethodName)) ∈ lw_tbl := lw_at lw_m5 58 rfl
theorem q1205 : (Jvm.Cond.instanceMethod ({ cls := "BracketRoom", name := "count", desc := "(LBracketRoom$World;II)I" } : Jvm.MethodName)) ∈ lw_all := lw_g (lw_at lw_m5 59 rfl) rfl
theorem q1206 : (Jvm.Cond.code ({ cls := "BracketRoom", name := "count", desc := "(LBracketRoom$World;II)I" } : Jvm.MethodName) prog_1_method_63_code (6 : Nat) (Option.some Jvm.ClassFile.FieldType.int)) ∈ lw_all := lw_g (lw_at lw_m5 60 rfl) rfl
theorem q1207 : (Jvm.Cond.methodLink "BracketRoom" (394 : Nat) ({ cls := "java/lang/Integer", name := "bitCount", desc := "(I)I" } : Jvm.MethodName)) ∈ lw_all := lw_g (lw_at lw_m5 61 rfl) rfl
theorem q1213 : (Jvm.Cond.methodLink "BracketRoom" (399 : Nat) ({ cls := "BracketRoom", name := "countBy", desc := "(LBracketRoom$World;II)I" } : Jvm.MethodName)) ∈ lw_all := lw_g (lw_at lw_m5 67 rfl) rfl
theorem q1214 : (Jvm.Cond.privateMethod ({ cls := "BracketRoom", name := "countBy", desc := "(LBracketRoom$World;II)I" } : Jvm.MethodName)) ∈ lw_tbl := lw_at lw_m5 68 rfl
theorem q1215 : (Jvm.Cond.instanceMethod ({ cls := "BracketRoom", name := "countBy", desc := "(LBracketRoom$World;II)I" } : Jvm.MethodName)) ∈ lw_all := lw_g (lw_at lw_m5 69 rfl) rfl
theorem q1216 : (Jvm.Cond.code ({ cls := "BracketRoom", name := "countBy", desc := "(LBracketRoom$World;II)I" } : Jvm.MethodName) prog_1_method_64_code (10 : Nat) (Option.some Jvm.ClassFile.FieldType.int)) ∈ lw_all := lw_g (lw_at lw_m5 70 rfl) rfl
theorem q1217 : (Jvm.Cond.methodLink "BracketRoom" (406 : Nat) ({ cls := "BracketRoom", name := "isKind", desc := "(LBracketRoom$World;LBracketRoom$Span;I)Z" } : Jvm.MethodName)) ∈ lw_all := lw_g (lw_at lw_m5 71 rfl) rfl
theorem q1218 : (Jvm.Cond.privateMethod ({ cls := "BracketRoom", name := "isKind", desc := "(LBracketRoom$World;LBracketRoom$Span;I)Z" } : Jvm.MethodName)) ∈ lw_tbl := lw_at lw_m5 72 rfl
theorem q1219 : (Jvm.Cond.instanceMethod ({ cls := "BracketRoom", name := "isKind", desc := "(LBracketRoom$World;LBracketRoom$Span;I)Z" } : Jvm.MethodName)) ∈ lw_all := lw_g (lw_at lw_m5 73 rfl) rfl
theorem q1220 : (Jvm.Cond.code ({ cls := "BracketRoom", name := "isKind", desc := "(LBracketRoom$World;LBracketRoom$Span;I)Z" } : Jvm.MethodName) prog_1_method_62_code (4 : Nat) (Option.some Jvm.ClassFile.FieldType.boolean)) ∈ lw_all := lw_g (lw_at lw_m5 74 rfl) rfl
theorem q1221 : (Jvm.Cond.methodLink "BracketRoom" (374 : Nat) ({ cls := "BracketRoom", name := "isPart", desc := "(LBracketRoom$World;LBracketRoom$Span;)Z" } : Jvm.MethodName)) ∈ lw_all := lw_g (lw_at lw_m5 75 rfl) rfl
theorem q1222 : (Jvm.Cond.privateMethod ({ cls := "BracketRoom", name := "isPart", desc := "(LBracketRoom$World;LBracketRoom$Span;)Z" } : Jvm.MethodName)) ∈ lw_tbl := lw_at lw_m5 76 rfl
theorem q1223 : (Jvm.Cond.instanceMethod ({ cls := "BracketRoom", name := "isPart", desc := "(LBracketRoom$World;LBracketRoom$Span;)Z" } : Jvm.MethodName)) ∈ lw_all := lw_g (lw_at lw_m5 77 rfl) rfl
theorem q1224 : (Jvm.Cond.code ({ cls := "BracketRoom", name := "isPart", desc := "(LBracketRoom$World;LBracketRoom$Span;)Z" } : Jvm.MethodName) prog_1_method_56_code (5 : Nat) (Option.some Jvm.ClassFile.FieldType.boolean)) ∈ lw_all := lw_g (lw_at lw_m5 78 rfl) rfl
theorem q1225 : (Jvm.Cond.methodLink "BracketRoom" (366 : Nat) ({ cls := "BracketRoom$Span", name := "holds", desc := "(LBracketRoom$World;[I[I)Z" } : Jvm.MethodName)) ∈ lw_all := lw_g (lw_at lw_m5 79 rfl) rfl
theorem q1229 : (Jvm.Cond.methodLink "BracketRoom" (378 : Nat) ({ cls := "BracketRoom", name := "isIdeal", desc := "(LBracketRoom$World;LBracketRoom$Span;)Z" } : Jvm.MethodName)) ∈ lw_all := lw_g (lw_at lw_m5 83 rfl) rfl
theorem q1230 : (Jvm.Cond.privateMethod ({ cls := "BracketRoom", name := "isIdeal", desc := "(LBracketRoom$World;LBracketRoom$Span;)Z" } : Jvm.MethodName)) ∈ lw_tbl := lw_at lw_m5 84 rfl
theorem q1231 : (Jvm.Cond.instanceMethod ({ cls := "BracketRoom", name := "isIdeal", desc := "(LBracketRoom$World;LBracketRoom$Span;)Z" } : Jvm.MethodName)) ∈ lw_all := lw_g (lw_at lw_m5 85 rfl) rfl
theorem q1232 : (Jvm.Cond.code ({ cls := "BracketRoom", name := "isIdeal", desc := "(LBracketRoom$World;LBracketRoom$Span;)Z" } : Jvm.MethodName) prog_1_method_57_code (6 : Nat) (Option.some Jvm.ClassFile.FieldType.boolean)) ∈ lw_all := lw_g (lw_at lw_m5 86 rfl) rfl
theorem q1233 : (Jvm.Cond.methodLink "BracketRoom" (381 : Nat) ({ cls := "BracketRoom", name := "isAbelian", desc := "(LBracketRoom$World;LBracketRoom$Span;)Z" } : Jvm.MethodName)) ∈ lw_all := lw_g (lw_at lw_m5 87 rfl) rfl
theorem q1234 : (Jvm.Cond.privateMethod ({ cls := "BracketRoom", name := "isAbelian", desc := "(LBracketRoom$World;LBracketRoom$Span;)Z" } : Jvm.MethodName)) ∈ lw_tbl := lw_at lw_m5 88 rfl
theorem q1235 : (Jvm.Cond.instanceMethod ({ cls := "BracketRoom", name := "isAbelian", desc := "(LBracketRoom$World;LBracketRoom$Span;)Z" } : Jvm.MethodName)) ∈ lw_all := lw_g (lw_at lw_m5 89 rfl) rfl
theorem q1236 : (Jvm.Cond.code ({ cls := "BracketRoom", name := "isAbelian", desc := "(LBracketRoom$World;LBracketRoom$Span;)Z" } : Jvm.MethodName) prog_1_method_58_code (3 : Nat) (Option.some Jvm.ClassFile.FieldType.boolean)) ∈ lw_all := lw_g (lw_at lw_m5 90 rfl) rfl
theorem q1237 : (Jvm.Cond.methodLink "BracketRoom" (384 : Nat) ({ cls := "BracketRoom", name := "isNilpotent", desc := "(LBracketRoom$World;LBracketRoom$Span;)Z" } : Jvm.MethodName)) ∈ lw_all := lw_g (lw_at lw_m5 91 rfl) rfl
theorem q1238 : (Jvm.Cond.privateMethod ({ cls := "BracketRoom", name := "isNilpotent", desc := "(LBracketRoom$World;LBracketRoom$Span;)Z" } : Jvm.MethodName)) ∈ lw_tbl := lw_at lw_m5 92 rfl
theorem q1239 : (Jvm.Cond.instanceMethod ({ cls := "BracketRoom", name := "isNilpotent", desc := "(LBracketRoom$World;LBracketRoom$Span;)Z" } : Jvm.MethodName)) ∈ lw_all := lw_g (lw_at lw_m5 93 rfl) rfl
theorem q1240 : (Jvm.Cond.code ({ cls := "BracketRoom", name := "isNilpotent", desc := "(LBracketRoom$World;LBracketRoom$Span;)Z" } : Jvm.MethodName) prog_1_method_59_code (3 : Nat) (Option.some Jvm.ClassFile.FieldType.boolean)) ∈ lw_all := lw_g (lw_at lw_m5 94 rfl) rfl
theorem q1241 : (Jvm.Cond.methodLink "BracketRoom" (387 : Nat) ({ cls := "BracketRoom", name := "normalizer", desc := "(LBracketRoom$World;LBracketRoom$Span;)I" } : Jvm.MethodName)) ∈ lw_all := lw_g (lw_at lw_m5 95 rfl) rfl
theorem q1242 : (Jvm.Cond.privateMethod ({ cls := "BracketRoom", name := "normalizer", desc := "(LBracketRoom$World;LBracketRoom$Span;)I" } : Jvm.MethodName)) ∈ lw_tbl := lw_at lw_m5 96 rfl
theorem q1243 : (Jvm.Cond.instanceMethod ({ cls := "BracketRoom", name := "normalizer", desc := "(LBracketRoom$World;LBracketRoom$Span;)I" } : Jvm.MethodName)) ∈ lw_all := lw_g (lw_at lw_m5 97 rfl) rfl
theorem q1244 : (Jvm.Cond.code ({ cls := "BracketRoom", name := "normalizer", desc := "(LBracketRoom$World;LBracketRoom$Span;)I" } : Jvm.MethodName) prog_1_method_61_code (6 : Nat) (Option.some Jvm.ClassFile.FieldType.int)) ∈ lw_all := lw_g (lw_at lw_m5 98 rfl) rfl
theorem q1245 : (Jvm.Cond.methodLink "BracketRoom" (370 : Nat) ({ cls := "BracketRoom$Span", name := "reduce", desc := "(LBracketRoom$World;[I)V" } : Jvm.MethodName)) ∈ lw_all := lw_g (lw_at lw_m5 99 rfl) rfl
theorem q1246 : (Jvm.Cond.methodLink "BracketRoom" (391 : Nat) ({ cls := "BracketRoom", name := "isSolvable", desc := "(LBracketRoom$World;LBracketRoom$Span;)Z" } : Jvm.MethodName)) ∈ lw_all := lw_g (lw_at lw_m5 100 rfl) rfl
theorem q1247 : (Jvm.Cond.privateMethod ({ cls := "BracketRoom", name := "isSolvable", desc := "(LBracketRoom$World;LBracketRoom$Span;)Z" } : Jvm.MethodName)) ∈ lw_tbl := lw_at lw_m5 101 rfl
theorem q1248 : (Jvm.Cond.instanceMethod ({ cls := "BracketRoom", name := "isSolvable", desc := "(LBracketRoom$World;LBracketRoom$Span;)Z" } : Jvm.MethodName)) ∈ lw_all := lw_g (lw_at lw_m5 102 rfl) rfl
theorem q1249 : (Jvm.Cond.code ({ cls := "BracketRoom", name := "isSolvable", desc := "(LBracketRoom$World;LBracketRoom$Span;)Z" } : Jvm.MethodName) prog_1_method_60_code (3 : Nat) (Option.some Jvm.ClassFile.FieldType.boolean)) ∈ lw_all := lw_g (lw_at lw_m5 103 rfl) rfl
theorem q1250 : (Jvm.Cond.methodLink "BracketRoom" (416 : Nat) ({ cls := "BracketRoom", name := "isUnimodular", desc := "(LBracketRoom$World;)Z" } : Jvm.MethodName)) ∈ lw_all := lw_g (lw_at lw_m5 104 rfl) rfl
theorem q1251 : (Jvm.Cond.privateMethod ({ cls := "BracketRoom", name := "isUnimodular", desc := "(LBracketRoom$World;)Z" } : Jvm.MethodName)) ∈ lw_tbl := lw_at lw_m5 105 rfl
theorem q1252 : (Jvm.Cond.instanceMethod ({ cls := "BracketRoom", name := "isUnimodular", desc := "(LBracketRoom$World;)Z" } : Jvm.MethodName)) ∈ lw_all := lw_g (lw_at lw_m5 106 rfl) rfl
theorem q1253 : (Jvm.Cond.code ({ cls := "BracketRoom", name := "isUnimodular", desc := "(LBracketRoom$World;)Z" } : Jvm.MethodName) prog_1_method_66_code (5 : Nat) (Option.some Jvm.ClassFile.FieldType.boolean)) ∈ lw_all := lw_g (lw_at lw_m5 107 rfl) rfl
theorem q1255 : (Jvm.Cond.instanceMethod ({ cls := "BracketRoom", name := "radical", desc := "(I)I" } : Jvm.MethodName)) ∈ lw_all := lw_g (lw_at lw_m5 109 rfl) rfl
theorem q1256 : (Jvm.Cond.selects "BracketRoom" ({ cls := "BracketRoom", name := "radical", desc := "(I)I" } : Jvm.MethodName) ({ cls := "BracketRoom", name := "radical", desc := "(I)I" } : Jvm.MethodName)) ∈ lw_all := lw_g (lw_at lw_m5 110 rfl) rfl
theorem q1257 : (Jvm.Cond.code ({ cls := "BracketRoom", name := "radical", desc := "(I)I" } : Jvm.MethodName) prog_1_method_68_code (3 : Nat) (Option.some Jvm.ClassFile.FieldType.int)) ∈ lw_all := lw_g (lw_at lw_m5 111 rfl) rfl
theorem q1259 : (Jvm.Cond.instanceMethod ({ cls := "BracketRoom", name := "parts", desc := "(II)I" } : Jvm.MethodName)) ∈ lw_all := lw_g (lw_at lw_m5 113 rfl) rfl
theorem q1260 : (Jvm.Cond.selects "BracketRoom" ({ cls := "BracketRoom", name := "parts", desc := "(II)I" } : Jvm.MethodName) ({ cls := "BracketRoom", name := "parts", desc := "(II)I" } : Jvm.MethodName)) ∈ lw_all := lw_g (lw_at lw_m5 114 rfl) rfl
theorem q1261 : (Jvm.Cond.code ({ cls := "BracketRoom", name := "parts", desc := "(II)I" } : Jvm.MethodName) prog_1_method_69_code (3 : Nat) (Option.some Jvm.ClassFile.FieldType.int)) ∈ lw_all := lw_g (lw_at lw_m5 115 rfl) rfl
theorem q1263 : (Jvm.Cond.instanceMethod ({ cls := "BracketRoom", name := "share", desc := "()Z" } : Jvm.MethodName)) ∈ lw_all := lw_g (lw_at lw_m5 117 rfl) rfl
theorem q1264 : (Jvm.Cond.selects "BracketRoom" ({ cls := "BracketRoom", name := "share", desc := "()Z" } : Jvm.MethodName) ({ cls := "BracketRoom", name := "share", desc := "()Z" } : Jvm.MethodName)) ∈ lw_all := lw_g (lw_at lw_m5 118 rfl) rfl
theorem q1265 : (Jvm.Cond.code ({ cls := "BracketRoom", name := "share", desc := "()Z" } : Jvm.MethodName) prog_1_method_70_code (4 : Nat) (Option.some Jvm.ClassFile.FieldType.boolean)) ∈ lw_all := lw_g (lw_at lw_m5 119 rfl) rfl
theorem q1266 : (Jvm.Cond.methodLink "BracketRoom" (419 : Nat) ({ cls := "BracketRoom", name := "tell", desc := "(JJ)Z" } : Jvm.MethodName)) ∈ lw_all := lw_g (lw_at lw_m5 120 rfl) rfl
theorem q1267 : (Jvm.Cond.privateMethod ({ cls := "BracketRoom", name := "tell", desc := "(JJ)Z" } : Jvm.MethodName)) ∈ lw_tbl := lw_at lw_m5 121 rfl
theorem q1268 : (Jvm.Cond.instanceMethod ({ cls := "BracketRoom", name := "tell", desc := "(JJ)Z" } : Jvm.MethodName)) ∈ lw_all := lw_g (lw_at lw_m5 122 rfl) rfl
theorem q1269 : (Jvm.Cond.code ({ cls := "BracketRoom", name := "tell", desc := "(JJ)Z" } : Jvm.MethodName) prog_1_method_10_code (11 : Nat) (Option.some Jvm.ClassFile.FieldType.boolean)) ∈ lw_all := lw_g (lw_at lw_m5 123 rfl) rfl
theorem q1271 : (Jvm.Cond.instanceMethod ({ cls := "BracketRoom", name := "derivations", desc := "(I)I" } : Jvm.MethodName)) ∈ lw_all := lw_g (lw_at lw_m5 125 rfl) rfl
theorem q1272 : (Jvm.Cond.selects "BracketRoom" ({ cls := "BracketRoom", name := "derivations", desc := "(I)I" } : Jvm.MethodName) ({ cls := "BracketRoom", name := "derivations", desc := "(I)I" } : Jvm.MethodName)) ∈ lw_all := lw_g (lw_at lw_m5 126 rfl) rfl
theorem q1273 : (Jvm.Cond.code ({ cls := "BracketRoom", name := "derivations", desc := "(I)I" } : Jvm.MethodName) prog_1_method_72_code (3 : Nat) (Option.some Jvm.ClassFile.FieldType.int)) ∈ lw_all := lw_g (lw_at lw_m5 127 rfl) rfl
theorem q1274 : (Jvm.Cond.methodLink "BracketRoom" (423 : Nat) ({ cls := "BracketRoom", name := "derivationsOf", desc := "(LBracketRoom$World;)I" } : Jvm.MethodName)) ∈ lw_all := lw_g (lw_at lw_m5 128 rfl) rfl
theorem q1275 : (Jvm.Cond.privateMethod ({ cls := "BracketRoom", name := "derivationsOf", desc := "(LBracketRoom$World;)I" } : Jvm.MethodName)) ∈ lw_tbl := lw_at lw_m5 129 rfl
theorem q1276 : (Jvm.Cond.instanceMethod ({ cls := "BracketRoom", name := "derivationsOf", desc := "(LBracketRoom$World;)I" } : Jvm.MethodName)) ∈ lw_all := lw_g (lw_at lw_m5 130 rfl) rfl
theorem q1277 : (Jvm.Cond.code ({ cls := "BracketRoom", name := "derivationsOf", desc := "(LBracketRoom$World;)I" } : Jvm.MethodName) prog_1_method_71_code (9 : Nat) (Option.some Jvm.ClassFile.FieldType.int)) ∈ lw_all := lw_g (lw_at lw_m5 131 rfl) rfl
theorem q1279 : (Jvm.Cond.instanceMethod ({ cls := "BracketRoom", name := "form", desc := "()I" } : Jvm.MethodName)) ∈ lw_all := lw_g (lw_at lw_m5 133 rfl) rfl
theorem q1280 : (Jvm.Cond.selects "BracketRoom" ({ cls := "BracketRoom", name := "form", desc := "()I" } : Jvm.MethodName) ({ cls := "BracketRoom", name := "form", desc := "()I" } : Jvm.MethodName)) ∈ lw_all := lw_g (lw_at lw_m5 134 rfl) rfl
theorem q1281 : (Jvm.Cond.code ({ cls := "BracketRoom", name := "form", desc := "()I" } : Jvm.MethodName) prog_1_method_74_code (1 : Nat) (Option.some Jvm.ClassFile.FieldType.int)) ∈ lw_all := lw_g (lw_at lw_m5 135 rfl) rfl
theorem q1282 : (Jvm.Cond.methodLink "BracketRoom" (426 : Nat) ({ cls := "BracketRoom", name := "formOf", desc := "(LBracketRoom$World;)I" } : Jvm.MethodName)) ∈ lw_all := lw_g (lw_at lw_m5 136 rfl) rfl
theorem q1283 : (Jvm.Cond.privateMethod ({ cls := "BracketRoom", name := "formOf", desc := "(LBracketRoom$World;)I" } : Jvm.MethodName)) ∈ lw_tbl := lw_at lw_m5 137 rfl
theorem q1284 : (Jvm.Cond.instanceMethod ({ cls := "BracketRoom", name := "formOf", desc := "(LBracketRoom$World;)I" } : Jvm.MethodName)) ∈ lw_all := lw_g (lw_at lw_m5 138 rfl) rfl
theorem q1285 : (Jvm.Cond.code ({ cls := "BracketRoom", name := "formOf", desc := "(LBracketRoom$World;)I" } : Jvm.MethodName) prog_1_method_73_code (8 : Nat) (Option.some Jvm.ClassFile.FieldType.int)) ∈ lw_all := lw_g (lw_at lw_m5 139 rfl) rfl
theorem q1287 : (Jvm.Cond.instanceMethod ({ cls := "BracketRoom", name := "classes", desc := "(I)I" } : Jvm.MethodName)) ∈ lw_all := lw_g (lw_at lw_m5 141 rfl) rfl
theorem q1288 : (Jvm.Cond.selects "BracketRoom" ({ cls := "BracketRoom", name := "classes", desc := "(I)I" } : Jvm.MethodName) ({ cls := "BracketRoom", name := "classes", desc := "(I)I" } : Jvm.MethodName)) ∈ lw_all := lw_g (lw_at lw_m5 142 rfl) rfl
theorem q1289 : (Jvm.Cond.code ({ cls := "BracketRoom", name := "classes", desc := "(I)I" } : Jvm.MethodName) prog_1_method_79_code (2 : Nat) (Option.some Jvm.ClassFile.FieldType.int)) ∈ lw_all := lw_g (lw_at lw_m5 143 rfl) rfl
theorem q1290 : (Jvm.Cond.methodLink "BracketRoom" (439 : Nat) ({ cls := "BracketRoom", name := "classesOf", desc := "(LBracketRoom$World;I)I" } : Jvm.MethodName)) ∈ lw_all := lw_g (lw_at lw_m5 144 rfl) rfl
theorem q1291 : (Jvm.Cond.privateMethod ({ cls := "BracketRoom", name := "classesOf", desc := "(LBracketRoom$World;I)I" } : Jvm.MethodName)) ∈ lw_tbl := lw_at lw_m5 145 rfl
theorem q1292 : (Jvm.Cond.instanceMethod ({ cls := "BracketRoom", name := "classesOf", desc := "(LBracketRoom$World;I)I" } : Jvm.MethodName)) ∈ lw_all := lw_g (lw_at lw_m5 146 rfl) rfl
theorem q1293 : (Jvm.Cond.code ({ cls := "BracketRoom", name := "classesOf", desc := "(LBracketRoom$World;I)I" } : Jvm.MethodName) prog_1_method_78_code (5 : Nat) (Option.some Jvm.ClassFile.FieldType.int)) ∈ lw_all := lw_g (lw_at lw_m5 147 rfl) rfl
theorem q1294 : (Jvm.Cond.methodLink "BracketRoom" (436 : Nat) ({ cls := "BracketRoom", name := "rankOfD", desc := "(LBracketRoom$World;I)I" } : Jvm.MethodName)) ∈ lw_all := lw_g (lw_at lw_m5 148 rfl) rfl
theorem q1295 : (Jvm.Cond.privateMethod ({ cls := "BracketRoom", name := "rankOfD", desc := "(LBracketRoom$World;I)I" } : Jvm.MethodName)) ∈ lw_tbl := lw_at lw_m5 149 rfl
theorem q1296 : (Jvm.Cond.instanceMethod ({ cls := "BracketRoom", name := "rankOfD", desc := "(LBracketRoom$World;I)I" } : Jvm.MethodName)) ∈ lw_all := lw_g (lw_at lw_m5 150 rfl) rfl
theorem q1297 : (Jvm.Cond.code ({ cls := "BracketRoom", name := "rankOfD", desc := "(LBracketRoom$World;I)I" } : Jvm.MethodName) prog_1_method_75_code (6 : Nat) (Option.some Jvm.ClassFile.FieldType.int)) ∈ lw_all := lw_g (lw_at lw_m5 151 rfl) rfl
theorem q1298 : (Jvm.Cond.methodLink "BracketRoom" (429 : Nat) ({ cls := "BracketRoom", name := "tellsOf", desc := "(LBracketRoom$World;I[I)V" } : Jvm.MethodName)) ∈ lw_all := lw_g (lw_at lw_m5 152 rfl) rfl
theorem q1299 : (Jvm.Cond.static ({ cls := "BracketRoom", name := "tellsOf", desc := "(LBracketRoom$World;I[I)V" } : Jvm.MethodName)) ∈ lw_all := lw_g (lw_at lw_m5 153 rfl) rfl
theorem q1300 : (Jvm.Cond.code ({ cls := "BracketRoom", name := "tellsOf", desc := "(LBracketRoom$World;I[I)V" } : Jvm.MethodName) prog_1_method_77_code (11 : Nat) (Option.none : Option Jvm.ClassFile.FieldType)) ∈ lw_all := lw_g (lw_at lw_m5 154 rfl) rfl
theorem q1301 : (Jvm.Cond.methodLink "BracketRoom" (433 : Nat) ({ cls := "BracketRoom", name := "numberOf", desc := "(I)I" } : Jvm.MethodName)) ∈ lw_all := lw_g (lw_at lw_m5 155 rfl) rfl
theorem q1302 : (Jvm.Cond.static ({ cls := "BracketRoom", name := "numberOf", desc := "(I)I" } : Jvm.MethodName)) ∈ lw_all := lw_g (lw_at lw_m5 156 rfl) rfl
theorem q1303 : (Jvm.Cond.code ({ cls := "BracketRoom", name := "numberOf", desc := "(I)I" } : Jvm.MethodName) prog_1_method_76_code (3 : Nat) (Option.some Jvm.ClassFile.FieldType.int)) ∈ lw_all := lw_g (lw_at lw_m5 157 rfl) rfl
theorem q1305 : (Jvm.Cond.instanceMethod ({ cls := "BracketRoom", name := "commuting", desc := "()I" } : Jvm.MethodName)) ∈ lw_all := lw_g (lw_at lw_m5 159 rfl) rfl
theorem q1306 : (Jvm.Cond.selects "BracketRoom" ({ cls := "BracketRoom", name := "commuting", desc := "()I" } : Jvm.MethodName) ({ cls := "BracketRoom", name := "commuting", desc := "()I" } : Jvm.MethodName)) ∈ lw_all := lw_g (lw_at lw_m5 160 rfl) rfl
theorem q1307 : (Jvm.Cond.code ({ cls := "BracketRoom", name := "commuting", desc := "()I" } : Jvm.MethodName) prog_1_method_81_code (1 : Nat) (Option.some Jvm.ClassFile.FieldType.int)) ∈ lw_all := lw_g (lw_at lw_m5 161 rfl) rfl
theorem q1308 : (Jvm.Cond.methodLink "BracketRoom" (442 : Nat) ({ cls := "BracketRoom", name := "commutingOf", desc := "(LBracketRoom$World;)I" } : Jvm.MethodName)) ∈ lw_all := lw_g (lw_at lw_m5 162 rfl) rfl
theorem q1309 : (Jvm.Cond.privateMethod ({ cls := "BracketRoom", name := "commutingOf", desc := "(LBracketRoom$World;)I" } : Jvm.MethodName)) ∈ lw_tbl := lw_at lw_m5 163 rfl
theorem q1310 : (Jvm.Cond.instanceMethod ({ cls := "BracketRoom", name := "commutingOf", desc := "(LBracketRoom$World;)I" } : Jvm.MethodName)) ∈ lw_all := lw_g (lw_at lw_m5 164 rfl) rfl
theorem q1311 : (Jvm.Cond.code ({ cls := "BracketRoom", name := "commutingOf", desc := "(LBracketRoom$World;)I" } : Jvm.MethodName) prog_1_method_80_code (6 : Nat) (Option.some Jvm.ClassFile.FieldType.int)) ∈ lw_all := lw_g (lw_at lw_m5 165 rfl) rfl
theorem q1313 : (Jvm.Cond.instanceMethod ({ cls := "BracketRoom", name := "maps", desc := "()I" } : Jvm.MethodName)) ∈ lw_all := lw_g (lw_at lw_m5 167 rfl) rfl
theorem q1314 : (Jvm.Cond.selects "BracketRoom" ({ cls := "BracketRoom", name := "maps", desc := "()I" } : Jvm.MethodName) ({ cls := "BracketRoom", name := "maps", desc := "()I" } : Jvm.MethodName)) ∈ lw_all := lw_g (lw_at lw_m5 168 rfl) rfl
theorem q1315 : (Jvm.Cond.code ({ cls := "BracketRoom", name := "maps", desc := "()I" } : Jvm.MethodName) prog_1_method_86_code (2 : Nat) (Option.some Jvm.ClassFile.FieldType.int)) ∈ lw_all := lw_g (lw_at lw_m5 169 rfl) rfl
theorem q1316 : (Jvm.Cond.methodLink "BracketRoom" (467 : Nat) ({ cls := "BracketRoom", name := "maps", desc := "(LBracketRoom$World;LBracketRoom$World;Z)I" } : Jvm.MethodName)) ∈ lw_all := lw_g (lw_at lw_m5 170 rfl) rfl
theorem q1317 : (Jvm.Cond.privateMethod ({ cls := "BracketRoom", name := "maps", desc := "(LBracketRoom$World;LBracketRoom$World;Z)I" } : Jvm.MethodName)) ∈ lw_tbl := lw_at lw_m5 171 rfl
theorem q1318 : (Jvm.Cond.instanceMethod ({ cls := "BracketRoom", name := "maps", desc := "(LBracketRoom$World;LBracketRoom$World;Z)I" } : Jvm.MethodName)) ∈ lw_all := lw_g (lw_at lw_m5 172 rfl) rfl
theorem q1319 : (Jvm.Cond.code ({ cls := "BracketRoom", name := "maps", desc := "(LBracketRoom$World;LBracketRoom$World;Z)I" } : Jvm.MethodName) prog_1_method_84_code (4 : Nat) (Option.some Jvm.ClassFile.FieldType.int)) ∈ lw_all := lw_g (lw_at lw_m5 173 rfl) rfl
theorem q1320 : (Jvm.Cond.methodLink "BracketRoom" (464 : Nat) ({ cls := "BracketRoom$World", name := "isLike", desc := "(LBracketRoom$World;)Z" } : Jvm.MethodName)) ∈ lw_all := lw_g (lw_at lw_m5 174 rfl) rfl
theorem q1324 : (Jvm.Cond.methodLink "BracketRoom" (460 : Nat) ({ cls := "BracketRoom", name := "seeks", desc := "(LBracketRoom$World;LBracketRoom$World;IZ)V" } : Jvm.MethodName)) ∈ lw_all := lw_g (lw_at lw_m5 178 rfl) rfl
theorem q1325 : (Jvm.Cond.privateMethod ({ cls := "BracketRoom", name := "seeks", desc := "(LBracketRoom$World;LBracketRoom$World;IZ)V" } : Jvm.MethodName)) ∈ lw_tbl := lw_at lw_m5 179 rfl
theorem q1326 : (Jvm.Cond.instanceMethod ({ cls := "BracketRoom", name := "seeks", desc := "(LBracketRoom$World;LBracketRoom$World;IZ)V" } : Jvm.MethodName)) ∈ lw_all := lw_g (lw_at lw_m5 180 rfl) rfl
theorem q1327 : (Jvm.Cond.code ({ cls := "BracketRoom", name := "seeks", desc := "(LBracketRoom$World;LBracketRoom$World;IZ)V" } : Jvm.MethodName) prog_1_method_83_code (6 : Nat) (Option.none : Option Jvm.ClassFile.FieldType)) ∈ lw_all := lw_g (lw_at lw_m5 181 rfl) rfl
theorem q1328 : (Jvm.Cond.constant "BracketRoom" (455 : Nat) (200000 : Int32)) ∈ lw_all := lw_g (lw_at lw_m5 182 rfl) rfl
theorem q1329 : (Jvm.Cond.methodLink "BracketRoom" (456 : Nat) ({ cls := "BracketRoom", name := "fits", desc := "(LBracketRoom$World;LBracketRoom$World;I)Z" } : Jvm.MethodName)) ∈ lw_all := lw_g (lw_at lw_m5 183 rfl) rfl
theorem q1330 : (Jvm.Cond.privateMethod ({ cls := "BracketRoom", name := "fits", desc := "(LBracketRoom$World;LBracketRoom$World;I)Z" } : Jvm.MethodName)) ∈ lw_tbl := lw_at lw_m5 184 rfl
theorem q1331 : (Jvm.Cond.instanceMethod ({ cls := "BracketRoom", name := "fits", desc := "(LBracketRoom$World;LBracketRoom$World;I)Z" } : Jvm.MethodName)) ∈ lw_all := lw_g (lw_at lw_m5 185 rfl) rfl
theorem q1332 : (Jvm.Cond.code ({ cls := "BracketRoom", name := "fits", desc := "(LBracketRoom$World;LBracketRoom$World;I)Z" } : Jvm.MethodName) prog_1_method_82_code (10 : Nat) (Option.some Jvm.ClassFile.FieldType.boolean)) ∈ lw_all := lw_g (lw_at lw_m5 186 rfl) rfl
theorem q1334 : (Jvm.Cond.instanceMethod ({ cls := "BracketRoom", name := "sameAs", desc := "(I)I" } : Jvm.MethodName)) ∈ lw_all := lw_g (lw_at lw_m5 188 rfl) rfl
theorem q1335 : (Jvm.Cond.selects "BracketRoom" ({ cls := "BracketRoom", name := "sameAs", desc := "(I)I" } : Jvm.MethodName) ({ cls := "BracketRoom", name := "sameAs", desc := "(I)I" } : Jvm.MethodName)) ∈ lw_all := lw_g (lw_at lw_m5 189 rfl) rfl
theorem q1336 : (Jvm.Cond.code ({ cls := "BracketRoom", name := "sameAs", desc := "(I)I" } : Jvm.MethodName) prog_1_method_87_code (3 : Nat) (Option.some Jvm.ClassFile.FieldType.int)) ∈ lw_all := lw_g (lw_at lw_m5 190 rfl) rfl
theorem q1337 : (Jvm.Cond.methodLink "BracketRoom" (471 : Nat) ({ cls := "BracketRoom", name := "orSpent", desc := "(I)I" } : Jvm.MethodName)) ∈ lw_all := lw_g (lw_at lw_m5 191 rfl) rfl
theorem q1338 : (Jvm.Cond.privateMethod ({ cls := "BracketRoom", name := "orSpent", desc := "(I)I" } : Jvm.MethodName)) ∈ lw_tbl := lw_at lw_m5 192 rfl
theorem q1339 : (Jvm.Cond.instanceMethod ({ cls := "BracketRoom", name := "orSpent", desc := "(I)I" } : Jvm.MethodName)) ∈ lw_all := lw_g (lw_at lw_m5 193 rfl) rfl
theorem q1340 : (Jvm.Cond.code ({ cls := "BracketRoom", name := "orSpent", desc := "(I)I" } : Jvm.MethodName) prog_1_method_85_code (2 : Nat) (Option.some Jvm.ClassFile.FieldType.int)) ∈ lw_all := lw_g (lw_at lw_m5 194 rfl) rfl
theorem q1342 : (Jvm.Cond.instanceMethod ({ cls := "BracketRoom", name := "tries", desc := "()I" } : Jvm.MethodName)) ∈ lw_all := lw_g (lw_at lw_m5 196 rfl) rfl
theorem q1343 : (Jvm.Cond.selects "BracketRoom" ({ cls := "BracketRoom", name := "tries", desc := "()I" } : Jvm.MethodName) ({ cls := "BracketRoom", name := "tries", desc := "()I" } : Jvm.MethodName)) ∈ lw_all := lw_g (lw_at lw_m5 197 rfl) rfl
theorem q1344 : (Jvm.Cond.code ({ cls := "BracketRoom", name := "tries", desc := "()I" } : Jvm.MethodName) prog_1_method_88_code (1 : Nat) (Option.some Jvm.ClassFile.FieldType.int)) ∈ lw_all := lw_g (lw_at lw_m5 198 rfl) rfl
theorem q1346 : (Jvm.Cond.instanceMethod ({ cls := "BracketRoom", name := "parted", desc := "(I)I" } : Jvm.MethodName)) ∈ lw_all := lw_g (lw_at lw_m5 200 rfl) rfl
theorem q1347 : (Jvm.Cond.selects "BracketRoom" ({ cls := "BracketRoom", name := "parted", desc := "(I)I" } : Jvm.MethodName) ({ cls := "BracketRoom", name := "parted", desc := "(I)I" } : Jvm.MethodName)) ∈ lw_all := lw_g (lw_at lw_m5 201 rfl) rfl
theorem q1348 : (Jvm.Cond.code ({ cls := "BracketRoom", name := "parted", desc := "(I)I" } : Jvm.MethodName) prog_1_method_90_code (4 : Nat) (Option.some Jvm.ClassFile.FieldType.int)) ∈ lw_all := lw_g (lw_at lw_m5 202 rfl) rfl
theorem q1349 : (Jvm.Cond.methodLink "BracketRoom" (474 : Nat) ({ cls := "BracketRoom", name := "invariant", desc := "(LBracketRoom$World;I)I" } : Jvm.MethodName)) ∈ lw_all := lw_g (lw_at lw_m5 203 rfl) rfl
theorem q1350 : (Jvm.Cond.privateMethod ({ cls := "BracketRoom", name := "invariant", desc := "(LBracketRoom$World;I)I" } : Jvm.MethodName)) ∈ lw_tbl := lw_at lw_m5 204 rfl
theorem q1351 : (Jvm.Cond.instanceMethod ({ cls := "BracketRoom", name := "invariant", desc := "(LBracketRoom$World;I)I" } : Jvm.MethodName)) ∈ lw_all := lw_g (lw_at lw_m5 205 rfl) rfl
theorem q1352 : (Jvm.Cond.code ({ cls := "BracketRoom", name := "invariant", desc := "(LBracketRoom$World;I)I" } : Jvm.MethodName) prog_1_method_89_code (3 : Nat) (Option.some Jvm.ClassFile.FieldType.int)) ∈ lw_all := lw_g (lw_at lw_m5 206 rfl) rfl
theorem q1354 : (Jvm.Cond.instanceMethod ({ cls := "BracketRoom", name := "change", desc := "(I)Z" } : Jvm.MethodName)) ∈ lw_all := lw_g (lw_at lw_m5 208 rfl) rfl
theorem q1355 : (Jvm.Cond.selects "BracketRoom" ({ cls := "BracketRoom", name := "change", desc := "(I)Z" } : Jvm.MethodName) ({ cls := "BracketRoom", name := "change", desc := "(I)Z" } : Jvm.MethodName)) ∈ lw_all := lw_g (lw_at lw_m5 209 rfl) rfl
theorem q1356 : (Jvm.Cond.code ({ cls := "BracketRoom", name := "change", desc := "(I)Z" } : Jvm.MethodName) prog_1_method_95_code (6 : Nat) (Option.some Jvm.ClassFile.FieldType.boolean)) ∈ lw_all := lw_g (lw_at lw_m5 210 rfl) rfl
theorem q1357 : (Jvm.Cond.methodLink "BracketRoom" (483 : Nat) ({ cls := "BracketRoom", name := "wrongNumbers", desc := "(IIII)I" } : Jvm.MethodName)) ∈ lw_all := lw_g (lw_at lw_m5 211 rfl) rfl
theorem q1358 : (Jvm.Cond.privateMethod ({ cls := "BracketRoom", name := "wrongNumbers", desc := "(IIII)I" } : Jvm.MethodName)) ∈ lw_tbl := lw_at lw_m5 212 rfl
theorem q1359 : (Jvm.Cond.instanceMethod ({ cls := "BracketRoom", name := "wrongNumbers", desc := "(IIII)I" } : Jvm.MethodName)) ∈ lw_all := lw_g (lw_at lw_m5 213 rfl) rfl
theorem q1360 : (Jvm.Cond.code ({ cls := "BracketRoom", name := "wrongNumbers", desc := "(IIII)I" } : Jvm.MethodName) prog_1_method_93_code (7 : Nat) (Option.some Jvm.ClassFile.FieldType.int)) ∈ lw_all := lw_g (lw_at lw_m5 214 rfl) rfl
theorem q1361 : (Jvm.Cond.methodLink "BracketRoom" (487 : Nat) ({ cls := "BracketRoom", name := "same", desc := "()V" } : Jvm.MethodName)) ∈ lw_all := lw_g (lw_at lw_m5 215 rfl) rfl
theorem q1362 : (Jvm.Cond.privateMethod ({ cls := "BracketRoom", name := "same", desc := "()V" } : Jvm.MethodName)) ∈ lw_tbl := lw_at lw_m5 216 rfl
theorem q1363 : (Jvm.Cond.instanceMethod ({ cls := "BracketRoom", name := "same", desc := "()V" } : Jvm.MethodName)) ∈ lw_all := lw_g (lw_at lw_m5 217 rfl) rfl
theorem q1364 : (Jvm.Cond.code ({ cls := "BracketRoom", name := "same", desc := "()V" } : Jvm.MethodName) prog_1_method_94_code (3 : Nat) (Option.none : Option Jvm.ClassFile.FieldType)) ∈ lw_all := lw_g (lw_at lw_m5 218 rfl) rfl
theorem q1365 : (Jvm.Cond.methodLink "BracketRoom" (490 : Nat) ({ cls := "BracketRoom", name := "changes", desc := "(LBracketRoom$World;)Z" } : Jvm.MethodName)) ∈ lw_all := lw_g (lw_at lw_m5 219 rfl) rfl
theorem q1366 : (Jvm.Cond.privateMethod ({ cls := "BracketRoom", name := "changes", desc := "(LBracketRoom$World;)Z" } : Jvm.MethodName)) ∈ lw_tbl := lw_at lw_m5 220 rfl
theorem q1367 : (Jvm.Cond.instanceMethod ({ cls := "BracketRoom", name := "changes", desc := "(LBracketRoom$World;)Z" } : Jvm.MethodName)) ∈ lw_all := lw_g (lw_at lw_m5 221 rfl) rfl
theorem q1368 : (Jvm.Cond.code ({ cls := "BracketRoom", name := "changes", desc := "(LBracketRoom$World;)Z" } : Jvm.MethodName) prog_1_method_92_code (8 : Nat) (Option.some Jvm.ClassFile.FieldType.boolean)) ∈ lw_all := lw_g (lw_at lw_m5 222 rfl) rfl
theorem q1369 : (Jvm.Cond.methodLink "BracketRoom" (480 : Nat) ({ cls := "BracketRoom", name := "turnsBack", desc := "(LBracketRoom$World;)Z" } : Jvm.MethodName)) ∈ lw_all := lw_g (lw_at lw_m5 223 rfl) rfl
theorem q1370 : (Jvm.Cond.privateMethod ({ cls := "BracketRoom", name := "turnsBack", desc := "(LBracketRoom$World;)Z" } : Jvm.MethodName)) ∈ lw_tbl := lw_at lw_m5 224 rfl
theorem q1371 : (Jvm.Cond.instanceMethod ({ cls := "BracketRoom", name := "turnsBack", desc := "(LBracketRoom$World;)Z" } : Jvm.MethodName)) ∈ lw_all := lw_g (lw_at lw_m5 225 rfl) rfl
theorem q1372 : (Jvm.Cond.code ({ cls := "BracketRoom", name := "turnsBack", desc := "(LBracketRoom$World;)Z" } : Jvm.MethodName) prog_1_method_91_code (10 : Nat) (Option.some Jvm.ClassFile.FieldType.boolean)) ∈ lw_all := lw_g (lw_at lw_m5 226 rfl) rfl
theorem q1373 : (Jvm.Cond.methodLink "BracketRoom" (477 : Nat) ({ cls := "BracketRoom$World", name := "inverse", desc := "(I)I" } : Jvm.MethodName)) ∈ lw_all := lw_g (lw_at lw_m5 227 rfl) rfl
theorem q1375 : (Jvm.Cond.instanceMethod ({ cls := "BracketRoom", name := "squeeze", desc := "(I)Z" } : Jvm.MethodName)) ∈ lw_all := lw_g (lw_at lw_m5 229 rfl) rfl
theorem q1376 : (Jvm.Cond.selects "BracketRoom" ({ cls := "BracketRoom", name := "squeeze", desc := "(I)Z" } : Jvm.MethodName) ({ cls := "BracketRoom", name := "squeeze", desc := "(I)Z" } : Jvm.MethodName)) ∈ lw_all := lw_g (lw_at lw_m5 230 rfl) rfl
theorem q1377 : (Jvm.Cond.code ({ cls := "BracketRoom", name := "squeeze", desc := "(I)Z" } : Jvm.MethodName) prog_1_method_96_code (8 : Nat) (Option.some Jvm.ClassFile.FieldType.boolean)) ∈ lw_all := lw_g (lw_at lw_m5 231 rfl) rfl
theorem q1379 : (Jvm.Cond.instanceMethod ({ cls := "BracketRoom", name := "barred", desc := "(I)I" } : Jvm.MethodName)) ∈ lw_all := lw_g (lw_at lw_m5 233 rfl) rfl
theorem q1380 : (Jvm.Cond.selects "BracketRoom" ({ cls := "BracketRoom", name := "barred", desc := "(I)I" } : Jvm.MethodName) ({ cls := "BracketRoom", name := "barred", desc := "(I)I" } : Jvm.MethodName)) ∈ lw_all := lw_g (lw_at lw_m5 234 rfl) rfl
theorem q1381 : (Jvm.Cond.code ({ cls := "BracketRoom", name := "barred", desc := "(I)I" } : Jvm.MethodName) prog_1_method_97_code (4 : Nat) (Option.some Jvm.ClassFile.FieldType.int)) ∈ lw_all := lw_g (lw_at lw_m5 235 rfl) rfl
theorem q1383 : (Jvm.Cond.instanceMethod ({ cls := "BracketRoom", name := "cocycle", desc := "(I)I" } : Jvm.MethodName)) ∈ lw_all := lw_g (lw_at lw_m5 237 rfl) rfl
theorem q1384 : (Jvm.Cond.selects "BracketRoom" ({ cls := "BracketRoom", name := "cocycle", desc := "(I)I" } : Jvm.MethodName) ({ cls := "BracketRoom", name := "cocycle", desc := "(I)I" } : Jvm.MethodName)) ∈ lw_all := lw_g (lw_at lw_m5 238 rfl) rfl
theorem q1385 : (Jvm.Cond.code ({ cls := "BracketRoom", name := "cocycle", desc := "(I)I" } : Jvm.MethodName) prog_1_method_101_code (3 : Nat) (Option.some Jvm.ClassFile.FieldType.int)) ∈ lw_all := lw_g (lw_at lw_m5 239 rfl) rfl
theorem q1386 : (Jvm.Cond.methodLink "BracketRoom" (493 : Nat) ({ cls := "BracketRoom", name := "couples", desc := "()I" } : Jvm.MethodName)) ∈ lw_all := lw_g (lw_at lw_m6 0 rfl) rfl
theorem q1387 : (Jvm.Cond.privateMethod ({ cls := "BracketRoom", name := "couples", desc := "()I" } : Jvm.MethodName)) ∈ lw_tbl := lw_at lw_m6 1 rfl
theorem q1388 : (Jvm.Cond.instanceMethod ({ cls := "BracketRoom", name := "couples", desc := "()I" } : Jvm.MethodName)) ∈ lw_all := lw_g (lw_at lw_m6 2 rfl) rfl
theorem q1389 : (Jvm.Cond.code ({ cls := "BracketRoom", name := "couples", desc := "()I" } : Jvm.MethodName) prog_1_method_98_code (1 : Nat) (Option.some Jvm.ClassFile.FieldType.int)) ∈ lw_all := lw_g (lw_at lw_m6 3 rfl) rfl
theorem q1390 : (Jvm.Cond.methodLink "BracketRoom" (496 : Nat) ({ cls := "BracketRoom", name := "reads", desc := "(I)V" } : Jvm.MethodName)) ∈ lw_all := lw_g (lw_at lw_m6 4 rfl) rfl
theorem q1391 : (Jvm.Cond.privateMethod ({ cls := "BracketRoom", name := "reads", desc := "(I)V" } : Jvm.MethodName)) ∈ lw_tbl := lw_at lw_m6 5 rfl
theorem q1392 : (Jvm.Cond.instanceMethod ({ cls := "BracketRoom", name := "reads", desc := "(I)V" } : Jvm.MethodName)) ∈ lw_all := lw_g (lw_at lw_m6 6 rfl) rfl
theorem q1393 : (Jvm.Cond.code ({ cls := "BracketRoom", name := "reads", desc := "(I)V" } : Jvm.MethodName) prog_1_method_99_code (5 : Nat) (Option.none : Option Jvm.ClassFile.FieldType)) ∈ lw_all := lw_g (lw_at lw_m6 7 rfl) rfl
theorem q1394 : (Jvm.Cond.methodLink "BracketRoom" (499 : Nat) ({ cls := "BracketRoom", name := "isClosed", desc := "()Z" } : Jvm.MethodName)) ∈ lw_all := lw_g (lw_at lw_m6 8 rfl) rfl
theorem q1395 : (Jvm.Cond.privateMethod ({ cls := "BracketRoom", name := "isClosed", desc := "()Z" } : Jvm.MethodName)) ∈ lw_tbl := lw_at lw_m6 9 rfl
theorem q1396 : (Jvm.Cond.instanceMethod ({ cls := "BracketRoom", name := "isClosed", desc := "()Z" } : Jvm.MethodName)) ∈ lw_all := lw_g (lw_at lw_m6 10 rfl) rfl
theorem q1397 : (Jvm.Cond.code ({ cls := "BracketRoom", name := "isClosed", desc := "()Z" } : Jvm.MethodName) prog_1_method_100_code (7 : Nat) (Option.some Jvm.ClassFile.FieldType.boolean)) ∈ lw_all := lw_g (lw_at lw_m6 11 rfl) rfl
theorem q1399 : (Jvm.Cond.instanceMethod ({ cls := "BracketRoom", name := "grow", desc := "(I)I" } : Jvm.MethodName)) ∈ lw_all := lw_g (lw_at lw_m6 13 rfl) rfl
theorem q1400 : (Jvm.Cond.selects "BracketRoom" ({ cls := "BracketRoom", name := "grow", desc := "(I)I" } : Jvm.MethodName) ({ cls := "BracketRoom", name := "grow", desc := "(I)I" } : Jvm.MethodName)) ∈ lw_all := lw_g (lw_at lw_m6 14 rfl) rfl
theorem q1401 : (Jvm.Cond.code ({ cls := "BracketRoom", name := "grow", desc := "(I)I" } : Jvm.MethodName) prog_1_method_102_code (6 : Nat) (Option.some Jvm.ClassFile.FieldType.int)) ∈ lw_all := lw_g (lw_at lw_m6 15 rfl) rfl
theorem q1402 : (Jvm.Cond.methodLink "BracketRoom" (503 : Nat) ({ cls := "BracketRoom", name := "widest", desc := "(I)I" } : Jvm.MethodName)) ∈ lw_all := lw_g (lw_at lw_m6 16 rfl) rfl
theorem q1404 : (Jvm.Cond.instanceMethod ({ cls := "BracketRoom", name := "sum", desc := "(I)I" } : Jvm.MethodName)) ∈ lw_all := lw_g (lw_at lw_m6 18 rfl) rfl
theorem q1405 : (Jvm.Cond.selects "BracketRoom" ({ cls := "BracketRoom", name := "sum", desc := "(I)I" } : Jvm.MethodName) ({ cls := "BracketRoom", name := "sum", desc := "(I)I" } : Jvm.MethodName)) ∈ lw_all := lw_g (lw_at lw_m6 19 rfl) rfl
theorem q1406 : (Jvm.Cond.code ({ cls := "BracketRoom", name := "sum", desc := "(I)I" } : Jvm.MethodName) prog_1_method_105_code (3 : Nat) (Option.some Jvm.ClassFile.FieldType.int)) ∈ lw_all := lw_g (lw_at lw_m6 20 rfl) rfl
theorem q1407 : (Jvm.Cond.methodLink "BracketRoom" (506 : Nat) ({ cls := "BracketRoom", name := "wrongSum", desc := "(I)I" } : Jvm.MethodName)) ∈ lw_all := lw_g (lw_at lw_m6 21 rfl) rfl
theorem q1408 : (Jvm.Cond.privateMethod ({ cls := "BracketRoom", name := "wrongSum", desc := "(I)I" } : Jvm.MethodName)) ∈ lw_tbl := lw_at lw_m6 22 rfl
theorem q1409 : (Jvm.Cond.instanceMethod ({ cls := "BracketRoom", name := "wrongSum", desc := "(I)I" } : Jvm.MethodName)) ∈ lw_all := lw_g (lw_at lw_m6 23 rfl) rfl
theorem q1410 : (Jvm.Cond.code ({ cls := "BracketRoom", name := "wrongSum", desc := "(I)I" } : Jvm.MethodName) prog_1_method_103_code (3 : Nat) (Option.some Jvm.ClassFile.FieldType.int)) ∈ lw_all := lw_g (lw_at lw_m6 24 rfl) rfl
theorem q1411 : (Jvm.Cond.methodLink "BracketRoom" (509 : Nat) ({ cls := "BracketRoom", name := "sums", desc := "(LBracketRoom$World;)V" } : Jvm.MethodName)) ∈ lw_all := lw_g (lw_at lw_m6 25 rfl) rfl
theorem q1412 : (Jvm.Cond.privateMethod ({ cls := "BracketRoom", name := "sums", desc := "(LBracketRoom$World;)V" } : Jvm.MethodName)) ∈ lw_tbl := lw_at lw_m6 26 rfl
theorem q1413 : (Jvm.Cond.instanceMethod ({ cls := "BracketRoom", name := "sums", desc := "(LBracketRoom$World;)V" } : Jvm.MethodName)) ∈ lw_all := lw_g (lw_at lw_m6 27 rfl) rfl
theorem q1414 : (Jvm.Cond.code ({ cls := "BracketRoom", name := "sums", desc := "(LBracketRoom$World;)V" } : Jvm.MethodName) prog_1_method_104_code (6 : Nat) (Option.none : Option Jvm.ClassFile.FieldType)) ∈ lw_all := lw_g (lw_at lw_m6 28 rfl) rfl
theorem q1416 : (Jvm.Cond.instanceMethod ({ cls := "BracketRoom", name := "rest", desc := "(II)I" } : Jvm.MethodName)) ∈ lw_all := lw_g (lw_at lw_m6 30 rfl) rfl
theorem q1417 : (Jvm.Cond.selects "BracketRoom" ({ cls := "BracketRoom", name := "rest", desc := "(II)I" } : Jvm.MethodName) ({ cls := "BracketRoom", name := "rest", desc := "(II)I" } : Jvm.MethodName)) ∈ lw_all := lw_g (lw_at lw_m6 31 rfl) rfl
theorem q1418 : (Jvm.Cond.code ({ cls := "BracketRoom", name := "rest", desc := "(II)I" } : Jvm.MethodName) prog_1_method_106_code (8 : Nat) (Option.some Jvm.ClassFile.FieldType.int)) ∈ lw_all := lw_g (lw_at lw_m6 32 rfl) rfl
theorem q1419 : (Jvm.Cond.methodLink "BracketRoom" (512 : Nat) ({ cls := "BracketRoom", name := "leads", desc := "(I)Z" } : Jvm.MethodName)) ∈ lw_all := lw_g (lw_at lw_m6 33 rfl) rfl
theorem q1420 : (Jvm.Cond.privateMethod ({ cls := "BracketRoom", name := "leads", desc := "(I)Z" } : Jvm.MethodName)) ∈ lw_tbl := lw_at lw_m6 34 rfl
theorem q1421 : (Jvm.Cond.instanceMethod ({ cls := "BracketRoom", name := "leads", desc := "(I)Z" } : Jvm.MethodName)) ∈ lw_all := lw_g (lw_at lw_m6 35 rfl) rfl
theorem q1422 : (Jvm.Cond.code ({ cls := "BracketRoom", name := "leads", desc := "(I)Z" } : Jvm.MethodName) prog_1_method_107_code (3 : Nat) (Option.some Jvm.ClassFile.FieldType.boolean)) ∈ lw_all := lw_g (lw_at lw_m6 36 rfl) rfl
theorem q1423 : (Jvm.Cond.methodLink "BracketRoom" (514 : Nat) ({ cls := "BracketRoom$World", name := "clear", desc := "()V" } : Jvm.MethodName)) ∈ lw_all := lw_g (lw_at lw_m6 37 rfl) rfl
theorem q1425 : (Jvm.Cond.instanceMethod ({ cls := "BracketRoom", name := "takeOut", desc := "(II)I" } : Jvm.MethodName)) ∈ lw_all := lw_g (lw_at lw_m6 39 rfl) rfl
theorem q1426 : (Jvm.Cond.selects "BracketRoom" ({ cls := "BracketRoom", name := "takeOut", desc := "(II)I" } : Jvm.MethodName) ({ cls := "BracketRoom", name := "takeOut", desc := "(II)I" } : Jvm.MethodName)) ∈ lw_all := lw_g (lw_at lw_m6 40 rfl) rfl
theorem q1427 : (Jvm.Cond.code ({ cls := "BracketRoom", name := "takeOut", desc := "(II)I" } : Jvm.MethodName) prog_1_method_108_code (8 : Nat) (Option.some Jvm.ClassFile.FieldType.int)) ∈ lw_all := lw_g (lw_at lw_m6 41 rfl) rfl
theorem q1429 : (Jvm.Cond.instanceMethod ({ cls := "BracketRoom", name := "tables", desc := "(III)I" } : Jvm.MethodName)) ∈ lw_all := lw_g (lw_at lw_m6 43 rfl) rfl
theorem q1430 : (Jvm.Cond.selects "BracketRoom" ({ cls := "BracketRoom", name := "tables", desc := "(III)I" } : Jvm.MethodName) ({ cls := "BracketRoom", name := "tables", desc := "(III)I" } : Jvm.MethodName)) ∈ lw_all := lw_g (lw_at lw_m6 44 rfl) rfl
theorem q1431 : (Jvm.Cond.code ({ cls := "BracketRoom", name := "tables", desc := "(III)I" } : Jvm.MethodName) prog_1_method_109_code (13 : Nat) (Option.some Jvm.ClassFile.FieldType.int)) ∈ lw_all := lw_g (lw_at lw_m6 45 rfl) rfl
theorem q1432 : (Jvm.Cond.constantLong "BracketRoom" (517 : Nat) (3 : Int64)) ∈ lw_all := lw_g (lw_at lw_m6 46 rfl) rfl
theorem q1433 : (Jvm.Cond.constantLong "BracketRoom" (519 : Nat) (2 : Int64)) ∈ lw_all := lw_g (lw_at lw_m6 47 rfl) rfl
theorem q1435 : (Jvm.Cond.instanceMethod ({ cls := "BracketRoom", name := "run", desc := "()I" } : Jvm.MethodName)) ∈ lw_all := lw_g (lw_at lw_m6 49 rfl) rfl
theorem q1436 : (Jvm.Cond.selects "BracketRoom" ({ cls := "BracketRoom", name := "run", desc := "()I" } : Jvm.MethodName) ({ cls := "BracketRoom", name := "run", desc := "()I" } : Jvm.MethodName)) ∈ lw_all := lw_g (lw_at lw_m6 50 rfl) rfl
theorem q1437 : (Jvm.Cond.code ({ cls := "BracketRoom", name := "run", desc := "()I" } : Jvm.MethodName) prog_1_method_114_code (3 : Nat) (Option.some Jvm.ClassFile.FieldType.int)) ∈ lw_all := lw_g (lw_at lw_m6 51 rfl) rfl
theorem q1438 : (Jvm.Cond.methodLink "BracketRoom" (555 : Nat) ({ cls := "BracketRoom", name := "does", desc := "(LBracketRoom$Step;)Z" } : Jvm.MethodName)) ∈ lw_all := lw_g (lw_at lw_m6 52 rfl) rfl
theorem q1439 : (Jvm.Cond.privateMethod ({ cls := "BracketRoom", name := "does", desc := "(LBracketRoom$Step;)Z" } : Jvm.MethodName)) ∈ lw_tbl := lw_at lw_m6 53 rfl
theorem q1440 : (Jvm.Cond.instanceMethod ({ cls := "BracketRoom", name := "does", desc := "(LBracketRoom$Step;)Z" } : Jvm.MethodName)) ∈ lw_all := lw_g (lw_at lw_m6 54 rfl) rfl
theorem q1441 : (Jvm.Cond.code ({ cls := "BracketRoom", name := "does", desc := "(LBracketRoom$Step;)Z" } : Jvm.MethodName) prog_1_method_112_code (2 : Nat) (Option.some Jvm.ClassFile.FieldType.boolean)) ∈ lw_all := lw_g (lw_at lw_m6 55 rfl) rfl
theorem q1442 : (Jvm.Cond.methodLink "BracketRoom" (559 : Nat) ({ cls := "BracketRoom", name := "holds", desc := "(LBracketRoom$Step;)Z" } : Jvm.MethodName)) ∈ lw_all := lw_g (lw_at lw_m6 56 rfl) rfl
theorem q1443 : (Jvm.Cond.privateMethod ({ cls := "BracketRoom", name := "holds", desc := "(LBracketRoom$Step;)Z" } : Jvm.MethodName)) ∈ lw_tbl := lw_at lw_m6 57 rfl
theorem q1444 : (Jvm.Cond.instanceMethod ({ cls := "BracketRoom", name := "holds", desc := "(LBracketRoom$Step;)Z" } : Jvm.MethodName)) ∈ lw_all := lw_g (lw_at lw_m6 58 rfl) rfl
theorem q1445 : (Jvm.Cond.code ({ cls := "BracketRoom", name := "holds", desc := "(LBracketRoom$Step;)Z" } : Jvm.MethodName) prog_1_method_111_code (2 : Nat) (Option.some Jvm.ClassFile.FieldType.boolean)) ∈ lw_all := lw_g (lw_at lw_m6 59 rfl) rfl
theorem q1446 : (Jvm.Cond.methodLink "BracketRoom" (534 : Nat) ({ cls := "BracketRoom", name := "compares", desc := "(LBracketRoom$Step;I)Z" } : Jvm.MethodName)) ∈ lw_all := lw_g (lw_at lw_m6 60 rfl) rfl
theorem q1447 : (Jvm.Cond.privateMethod ({ cls := "BracketRoom", name := "compares", desc := "(LBracketRoom$Step;I)Z" } : Jvm.MethodName)) ∈ lw_tbl := lw_at lw_m6 61 rfl
theorem q1448 : (Jvm.Cond.instanceMethod ({ cls := "BracketRoom", name := "compares", desc := "(LBracketRoom$Step;I)Z" } : Jvm.MethodName)) ∈ lw_all := lw_g (lw_at lw_m6 62 rfl) rfl
theorem q1449 : (Jvm.Cond.code ({ cls := "BracketRoom", name := "compares", desc := "(LBracketRoom$Step;I)Z" } : Jvm.MethodName) prog_1_method_110_code (3 : Nat) (Option.some Jvm.ClassFile.FieldType.boolean)) ∈ lw_all := lw_g (lw_at lw_m6 63 rfl) rfl
theorem q1450 : (Jvm.Cond.methodLink "BracketRoom" (561 : Nat) ({ cls := "BracketRoom", name := "behindEnds", desc := "(I)I" } : Jvm.MethodName)) ∈ lw_all := lw_g (lw_at lw_m6 64 rfl) rfl
theorem q1451 : (Jvm.Cond.privateMethod ({ cls := "BracketRoom", name := "behindEnds", desc := "(I)I" } : Jvm.MethodName)) ∈ lw_tbl := lw_at lw_m6 65 rfl
theorem q1452 : (Jvm.Cond.instanceMethod ({ cls := "BracketRoom", name := "behindEnds", desc := "(I)I" } : Jvm.MethodName)) ∈ lw_all := lw_g (lw_at lw_m6 66 rfl) rfl
theorem q1453 : (Jvm.Cond.code ({ cls := "BracketRoom", name := "behindEnds", desc := "(I)I" } : Jvm.MethodName) prog_1_method_113_code (5 : Nat) (Option.some Jvm.ClassFile.FieldType.int)) ∈ lw_all := lw_g (lw_at lw_m6 67 rfl) rfl
theorem q1455 : (Jvm.Cond.instanceMethod ({ cls := "BracketRoom", name := "ran", desc := "(I)I" } : Jvm.MethodName)) ∈ lw_all := lw_g (lw_at lw_m6 69 rfl) rfl
theorem q1456 : (Jvm.Cond.selects "BracketRoom" ({ cls := "BracketRoom", name := "ran", desc := "(I)I" } : Jvm.MethodName) ({ cls := "BracketRoom", name := "ran", desc := "(I)I" } : Jvm.MethodName)) ∈ lw_all := lw_g (lw_at lw_m6 70 rfl) rfl
theorem q1457 : (Jvm.Cond.code ({ cls := "BracketRoom", name := "ran", desc := "(I)I" } : Jvm.MethodName) prog_1_method_115_code (2 : Nat) (Option.some Jvm.ClassFile.FieldType.int)) ∈ lw_all := lw_g (lw_at lw_m6 71 rfl) rfl
theorem q1459 : (Jvm.Cond.instanceMethod ({ cls := "BracketRoom", name := "mark", desc := "()I" } : Jvm.MethodName)) ∈ lw_all := lw_g (lw_at lw_m6 73 rfl) rfl
theorem q1460 : (Jvm.Cond.selects "BracketRoom" ({ cls := "BracketRoom", name := "mark", desc := "()I" } : Jvm.MethodName) ({ cls := "BracketRoom", name := "mark", desc := "()I" } : Jvm.MethodName)) ∈ lw_all := lw_g (lw_at lw_m6 74 rfl) rfl
theorem q1461 : (Jvm.Cond.code ({ cls := "BracketRoom", name := "mark", desc := "()I" } : Jvm.MethodName) prog_1_method_116_code (3 : Nat) (Option.some Jvm.ClassFile.FieldType.int)) ∈ lw_all := lw_g (lw_at lw_m6 75 rfl) rfl
theorem q1463 : (Jvm.Cond.instanceMethod ({ cls := "BracketRoom", name := "back", desc := "()I" } : Jvm.MethodName)) ∈ lw_all := lw_g (lw_at lw_m6 77 rfl) rfl
theorem q1464 : (Jvm.Cond.selects "BracketRoom" ({ cls := "BracketRoom", name := "back", desc := "()I" } : Jvm.MethodName) ({ cls := "BracketRoom", name := "back", desc := "()I" } : Jvm.MethodName)) ∈ lw_all := lw_g (lw_at lw_m6 78 rfl) rfl
theorem q1465 : (Jvm.Cond.code ({ cls := "BracketRoom", name := "back", desc := "()I" } : Jvm.MethodName) prog_1_method_117_code (3 : Nat) (Option.some Jvm.ClassFile.FieldType.int)) ∈ lw_all := lw_g (lw_at lw_m6 79 rfl) rfl
theorem in_X0 : ∀ w ∈ wsX00, w ∈ lw_all := lw_in wsX00 [516, 518, 520, 522, 524, 526, 528, 530, 532, 534, 536, 538, 540, 542, 544, 546, 548, 550, 552, 554, 556, 558, 560, 562, 564, 566, 568, 570, 572, 574, 576, 578, 580, 582, 584, 586, 588, 590, 592, 594, 596, 598, 600, 602, 604, 606, 608, 610] (by decide +kernel) (by decide +kernel)
theorem q188 : (Jvm.Cond.initialized "BracketRoom$Scan") ∈ lw_all := lw_g (lw_at lw_m1 2 rfl) rfl
theorem q317 : (Jvm.Cond.instanceMethod ({ cls := "BracketRoom$Scan", name := "<init>", desc := "([BLjava/lang/String;Ljava/lang/String;LBracketRoom$Wrong;)V" } : Jvm.MethodName)) ∈ lw_all := lw_g (lw_at lw_m1 131 rfl) rfl
theorem q318 : (Jvm.Cond.code ({ cls := "BracketRoom$Scan", name := "<init>", desc := "([BLjava/lang/String;Ljava/lang/String;LBracketRoom$Wrong;)V" } : Jvm.MethodName) prog_4_method_1_code (5 : Nat) (Option.none : Option Jvm.ClassFile.FieldType)) ∈ lw_all := lw_g (lw_at lw_m1 132 rfl) rfl
theorem q319 : (Jvm.Cond.methodLink "BracketRoom$Scan" (3 : Nat) ({ cls := "java/lang/Object", name := "<init>", desc := "()V" } : Jvm.MethodName)) ∈ lw_all := lw_g (lw_at lw_m1 133 rfl) rfl
theorem q328 : (Jvm.Cond.fieldLink "BracketRoom$Scan" (9 : Nat) "BracketRoom$Scan" "tape" "[B") ∈ lw_all := lw_g (lw_at lw_m1 142 rfl) rfl
theorem q331 : (Jvm.Cond.fieldLink "BracketRoom$Scan" (26 : Nat) "BracketRoom$Scan" "size" "I") ∈ lw_all := lw_g (lw_at lw_m1 145 rfl) rfl
theorem q334 : (Jvm.Cond.fieldLink "BracketRoom$Scan" (56 : Nat) "BracketRoom$Scan" "sort" "I") ∈ lw_all := lw_g (lw_at lw_m1 148 rfl) rfl
theorem q335 : (Jvm.Cond.fieldLink "BracketRoom$Scan" (50 : Nat) "BracketRoom$Scan" "from" "I") ∈ lw_all := lw_g (lw_at lw_m1 149 rfl) rfl
theorem q336 : (Jvm.Cond.fieldLink "BracketRoom$Scan" (30 : Nat) "BracketRoom$Scan" "end" "I") ∈ lw_all := lw_g (lw_at lw_m1 150 rfl) rfl
theorem q339 : (Jvm.Cond.fieldLink "BracketRoom$Scan" (53 : Nat) "BracketRoom$Scan" "value" "I") ∈ lw_all := lw_g (lw_at lw_m1 153 rfl) rfl
theorem q340 : (Jvm.Cond.fieldLink "BracketRoom$Scan" (15 : Nat) "BracketRoom$Scan" "keys" "Ljava/lang/String;") ∈ lw_all := lw_g (lw_at lw_m1 154 rfl) rfl
theorem q341 : (Jvm.Cond.fieldLink "BracketRoom$Scan" (19 : Nat) "BracketRoom$Scan" "signs" "Ljava/lang/String;") ∈ lw_all := lw_g (lw_at lw_m1 155 rfl) rfl
theorem q342 : (Jvm.Cond.fieldLink "BracketRoom$Scan" (22 : Nat) "BracketRoom$Scan" "wrong" "LBracketRoom$Wrong;") ∈ lw_all := lw_g (lw_at lw_m1 156 rfl) rfl
theorem q356 : (Jvm.Cond.soleField "BracketRoom$Scan" "tape") ∈ lw_all := lw_g (lw_at lw_m1 170 rfl) rfl
theorem q358 : (Jvm.Cond.soleField "BracketRoom$Scan" "size") ∈ lw_all := lw_g (lw_at lw_m1 172 rfl) rfl
theorem q360 : (Jvm.Cond.soleField "BracketRoom$Scan" "sort") ∈ lw_all := lw_g (lw_at lw_m1 174 rfl) rfl
theorem q362 : (Jvm.Cond.soleField "BracketRoom$Scan" "from") ∈ lw_all := lw_g (lw_at lw_m1 176 rfl) rfl
theorem q364 : (Jvm.Cond.soleField "BracketRoom$Scan" "end") ∈ lw_all := lw_g (lw_at lw_m1 178 rfl) rfl
theorem q366 : (Jvm.Cond.soleField "BracketRoom$Scan" "value") ∈ lw_all := lw_g (lw_at lw_m1 180 rfl) rfl
theorem q368 : (Jvm.Cond.soleField "BracketRoom$Scan" "keys") ∈ lw_all := lw_g (lw_at lw_m1 182 rfl) rfl
theorem q370 : (Jvm.Cond.soleField "BracketRoom$Scan" "signs") ∈ lw_all := lw_g (lw_at lw_m1 184 rfl) rfl
theorem q372 : (Jvm.Cond.soleField "BracketRoom$Scan" "wrong") ∈ lw_all := lw_g (lw_at lw_m1 186 rfl) rfl
theorem q768 : (Jvm.Cond.declares ({ cls := "BracketRoom$Scan", name := "begin", desc := "(I)V" } : Jvm.MethodName)) ∈ lw_tbl := lw_at lw_m3 102 rfl
theorem q770 : (Jvm.Cond.instanceMethod ({ cls := "BracketRoom$Scan", name := "begin", desc := "(I)V" } : Jvm.MethodName)) ∈ lw_all := lw_g (lw_at lw_m3 104 rfl) rfl
theorem q771 : (Jvm.Cond.code ({ cls := "BracketRoom$Scan", name := "begin", desc := "(I)V" } : Jvm.MethodName) prog_4_method_2_code (2 : Nat) (Option.none : Option Jvm.ClassFile.FieldType)) ∈ lw_all := lw_g (lw_at lw_m3 105 rfl) rfl
theorem q772 : (Jvm.Cond.methodLink "BracketRoom$Scan" (33 : Nat) ({ cls := "BracketRoom$Scan", name := "next", desc := "()V" } : Jvm.MethodName)) ∈ lw_all := lw_g (lw_at lw_m3 106 rfl) rfl
theorem q773 : (Jvm.Cond.instanceMethod ({ cls := "BracketRoom$Scan", name := "next", desc := "()V" } : Jvm.MethodName)) ∈ lw_all := lw_g (lw_at lw_m3 107 rfl) rfl
theorem q774 : (Jvm.Cond.sameMethod "BracketRoom$Scan" "BracketRoom$Scan" "next" "()V") ∈ lw_all := lw_g (lw_at lw_m3 108 rfl) rfl
theorem q776 : (Jvm.Cond.code ({ cls := "BracketRoom$Scan", name := "next", desc := "()V" } : Jvm.MethodName) prog_4_method_7_code (2 : Nat) (Option.none : Option Jvm.ClassFile.FieldType)) ∈ lw_all := lw_g (lw_at lw_m3 110 rfl) rfl
theorem q777 : (Jvm.Cond.methodLink "BracketRoom$Scan" (46 : Nat) ({ cls := "BracketRoom$Scan", name := "at", desc := "(I)I" } : Jvm.MethodName)) ∈ lw_all := lw_g (lw_at lw_m3 111 rfl) rfl
theorem q778 : (Jvm.Cond.privateMethod ({ cls := "BracketRoom$Scan", name := "at", desc := "(I)I" } : Jvm.MethodName)) ∈ lw_tbl := lw_at lw_m3 112 rfl
theorem q779 : (Jvm.Cond.instanceMethod ({ cls := "BracketRoom$Scan", name := "at", desc := "(I)I" } : Jvm.MethodName)) ∈ lw_all := lw_g (lw_at lw_m3 113 rfl) rfl
theorem q780 : (Jvm.Cond.code ({ cls := "BracketRoom$Scan", name := "at", desc := "(I)I" } : Jvm.MethodName) prog_4_method_3_code (2 : Nat) (Option.some Jvm.ClassFile.FieldType.int)) ∈ lw_all := lw_g (lw_at lw_m3 114 rfl) rfl
theorem q781 : (Jvm.Cond.methodLink "BracketRoom$Scan" (59 : Nat) ({ cls := "BracketRoom$Scan", name := "isSmall", desc := "(I)Z" } : Jvm.MethodName)) ∈ lw_all := lw_g (lw_at lw_m3 115 rfl) rfl
theorem q782 : (Jvm.Cond.static ({ cls := "BracketRoom$Scan", name := "isSmall", desc := "(I)Z" } : Jvm.MethodName)) ∈ lw_all := lw_g (lw_at lw_m3 116 rfl) rfl
theorem q783 : (Jvm.Cond.code ({ cls := "BracketRoom$Scan", name := "isSmall", desc := "(I)Z" } : Jvm.MethodName) prog_4_method_5_code (1 : Nat) (Option.some Jvm.ClassFile.FieldType.boolean)) ∈ lw_all := lw_g (lw_at lw_m3 117 rfl) rfl
theorem q784 : (Jvm.Cond.methodLink "BracketRoom$Scan" (63 : Nat) ({ cls := "BracketRoom$Scan", name := "isDigit", desc := "(I)Z" } : Jvm.MethodName)) ∈ lw_all := lw_g (lw_at lw_m3 118 rfl) rfl
theorem q785 : (Jvm.Cond.static ({ cls := "BracketRoom$Scan", name := "isDigit", desc := "(I)Z" } : Jvm.MethodName)) ∈ lw_all := lw_g (lw_at lw_m3 119 rfl) rfl
theorem q786 : (Jvm.Cond.code ({ cls := "BracketRoom$Scan", name := "isDigit", desc := "(I)Z" } : Jvm.MethodName) prog_4_method_4_code (1 : Nat) (Option.some Jvm.ClassFile.FieldType.boolean)) ∈ lw_all := lw_g (lw_at lw_m3 120 rfl) rfl
theorem q787 : (Jvm.Cond.constant "BracketRoom$Scan" (66 : Nat) (100000 : Int32)) ∈ lw_all := lw_g (lw_at lw_m3 121 rfl) rfl
theorem q788 : (Jvm.Cond.methodLink "BracketRoom$Scan" (67 : Nat) ({ cls := "java/lang/Math", name := "min", desc := "(II)I" } : Jvm.MethodName)) ∈ lw_all := lw_g (lw_at lw_m3 122 rfl) rfl
theorem q791 : (Jvm.Cond.methodLink "BracketRoom$Scan" (73 : Nat) ({ cls := "BracketRoom$Scan", name := "isSign", desc := "(I)Z" } : Jvm.MethodName)) ∈ lw_all := lw_g (lw_at lw_m3 125 rfl) rfl
theorem q792 : (Jvm.Cond.privateMethod ({ cls := "BracketRoom$Scan", name := "isSign", desc := "(I)Z" } : Jvm.MethodName)) ∈ lw_tbl := lw_at lw_m3 126 rfl
theorem q793 : (Jvm.Cond.instanceMethod ({ cls := "BracketRoom$Scan", name := "isSign", desc := "(I)Z" } : Jvm.MethodName)) ∈ lw_all := lw_g (lw_at lw_m3 127 rfl) rfl
theorem q794 : (Jvm.Cond.code ({ cls := "BracketRoom$Scan", name := "isSign", desc := "(I)Z" } : Jvm.MethodName) prog_4_method_6_code (3 : Nat) (Option.some Jvm.ClassFile.FieldType.boolean)) ∈ lw_all := lw_g (lw_at lw_m3 128 rfl) rfl
theorem q795 : (Jvm.Cond.methodLink "BracketRoom$Scan" (36 : Nat) ({ cls := "java/lang/String", name := "length", desc := "()I" } : Jvm.MethodName)) ∈ lw_all := lw_g (lw_at lw_m3 129 rfl) rfl
theorem q805 : (Jvm.Cond.methodLink "BracketRoom$Scan" (42 : Nat) ({ cls := "java/lang/String", name := "charAt", desc := "(I)C" } : Jvm.MethodName)) ∈ lw_all := lw_g (lw_at lw_m3 139 rfl) rfl
theorem q853 : (Jvm.Cond.declares ({ cls := "BracketRoom$Scan", name := "key", desc := "()I" } : Jvm.MethodName)) ∈ lw_tbl := lw_at lw_m3 187 rfl
theorem q855 : (Jvm.Cond.instanceMethod ({ cls := "BracketRoom$Scan", name := "key", desc := "()I" } : Jvm.MethodName)) ∈ lw_all := lw_g (lw_at lw_m3 189 rfl) rfl
theorem q856 : (Jvm.Cond.code ({ cls := "BracketRoom$Scan", name := "key", desc := "()I" } : Jvm.MethodName) prog_4_method_10_code (1 : Nat) (Option.some Jvm.ClassFile.FieldType.int)) ∈ lw_all := lw_g (lw_at lw_m3 190 rfl) rfl
theorem q857 : (Jvm.Cond.methodLink "BracketRoom$Scan" (86 : Nat) ({ cls := "BracketRoom$Scan", name := "in", desc := "(Ljava/lang/String;)I" } : Jvm.MethodName)) ∈ lw_all := lw_g (lw_at lw_m3 191 rfl) rfl
theorem q858 : (Jvm.Cond.instanceMethod ({ cls := "BracketRoom$Scan", name := "in", desc := "(Ljava/lang/String;)I" } : Jvm.MethodName)) ∈ lw_all := lw_g (lw_at lw_m3 192 rfl) rfl
theorem q859 : (Jvm.Cond.sameMethod "BracketRoom$Scan" "BracketRoom$Scan" "in" "(Ljava/lang/String;)I") ∈ lw_all := lw_g (lw_at lw_m3 193 rfl) rfl
theorem q861 : (Jvm.Cond.code ({ cls := "BracketRoom$Scan", name := "in", desc := "(Ljava/lang/String;)I" } : Jvm.MethodName) prog_4_method_11_code (5 : Nat) (Option.some Jvm.ClassFile.FieldType.int)) ∈ lw_all := lw_g (lw_at lw_m3 195 rfl) rfl
theorem q862 : (Jvm.Cond.methodLink "BracketRoom$Scan" (90 : Nat) ({ cls := "BracketRoom$Scan", name := "isWord", desc := "(Ljava/lang/String;II)Z" } : Jvm.MethodName)) ∈ lw_all := lw_g (lw_at lw_m3 196 rfl) rfl
theorem q863 : (Jvm.Cond.privateMethod ({ cls := "BracketRoom$Scan", name := "isWord", desc := "(Ljava/lang/String;II)Z" } : Jvm.MethodName)) ∈ lw_tbl := lw_at lw_m3 197 rfl
theorem q864 : (Jvm.Cond.instanceMethod ({ cls := "BracketRoom$Scan", name := "isWord", desc := "(Ljava/lang/String;II)Z" } : Jvm.MethodName)) ∈ lw_all := lw_g (lw_at lw_m3 198 rfl) rfl
theorem q865 : (Jvm.Cond.code ({ cls := "BracketRoom$Scan", name := "isWord", desc := "(Ljava/lang/String;II)Z" } : Jvm.MethodName) prog_4_method_12_code (5 : Nat) (Option.some Jvm.ClassFile.FieldType.boolean)) ∈ lw_all := lw_g (lw_at lw_m3 199 rfl) rfl
theorem q868 : (Jvm.Cond.declares ({ cls := "BracketRoom$Scan", name := "need", desc := "(Z)V" } : Jvm.MethodName)) ∈ lw_tbl := lw_at lw_m3 202 rfl
theorem q870 : (Jvm.Cond.instanceMethod ({ cls := "BracketRoom$Scan", name := "need", desc := "(Z)V" } : Jvm.MethodName)) ∈ lw_all := lw_g (lw_at lw_m3 204 rfl) rfl
theorem q871 : (Jvm.Cond.code ({ cls := "BracketRoom$Scan", name := "need", desc := "(Z)V" } : Jvm.MethodName) prog_4_method_9_code (2 : Nat) (Option.none : Option Jvm.ClassFile.FieldType)) ∈ lw_all := lw_g (lw_at lw_m3 205 rfl) rfl
theorem q872 : (Jvm.Cond.methodLink "BracketRoom$Scan" (82 : Nat) ({ cls := "BracketRoom$Scan", name := "fail", desc := "(I)LBracketRoom$Wrong;" } : Jvm.MethodName)) ∈ lw_all := lw_g (lw_at lw_m3 206 rfl) rfl
theorem q873 : (Jvm.Cond.instanceMethod ({ cls := "BracketRoom$Scan", name := "fail", desc := "(I)LBracketRoom$Wrong;" } : Jvm.MethodName)) ∈ lw_all := lw_g (lw_at lw_m3 207 rfl) rfl
theorem q874 : (Jvm.Cond.sameMethod "BracketRoom$Scan" "BracketRoom$Scan" "fail" "(I)LBracketRoom$Wrong;") ∈ lw_all := lw_g (lw_at lw_m3 208 rfl) rfl
theorem q876 : (Jvm.Cond.code ({ cls := "BracketRoom$Scan", name := "fail", desc := "(I)LBracketRoom$Wrong;" } : Jvm.MethodName) prog_4_method_8_code (2 : Nat) (Option.some (Jvm.ClassFile.FieldType.object "BracketRoom$Wrong"))) ∈ lw_all := lw_g (lw_at lw_m3 210 rfl) rfl
theorem q877 : (Jvm.Cond.methodLink "BracketRoom$Scan" (76 : Nat) ({ cls := "BracketRoom$Wrong", name := "of", desc := "(II)LBracketRoom$Wrong;" } : Jvm.MethodName)) ∈ lw_all := lw_g (lw_at lw_m3 211 rfl) rfl
theorem q883 : (Jvm.Cond.declares ({ cls := "BracketRoom$Scan", name := "next", desc := "()V" } : Jvm.MethodName)) ∈ lw_tbl := lw_at lw_m3 217 rfl
theorem q887 : (Jvm.Cond.declares ({ cls := "BracketRoom$Scan", name := "number", desc := "(II)I" } : Jvm.MethodName)) ∈ lw_tbl := lw_at lw_m3 221 rfl
theorem q889 : (Jvm.Cond.instanceMethod ({ cls := "BracketRoom$Scan", name := "number", desc := "(II)I" } : Jvm.MethodName)) ∈ lw_all := lw_g (lw_at lw_m3 223 rfl) rfl
theorem q890 : (Jvm.Cond.code ({ cls := "BracketRoom$Scan", name := "number", desc := "(II)I" } : Jvm.MethodName) prog_4_method_14_code (3 : Nat) (Option.some Jvm.ClassFile.FieldType.int)) ∈ lw_all := lw_g (lw_at lw_m3 224 rfl) rfl
theorem q891 : (Jvm.Cond.methodLink "BracketRoom$Scan" (94 : Nat) ({ cls := "BracketRoom$Scan", name := "need", desc := "(Z)V" } : Jvm.MethodName)) ∈ lw_all := lw_g (lw_at lw_m3 225 rfl) rfl
theorem q897 : (Jvm.Cond.declares ({ cls := "BracketRoom$Scan", name := "fail", desc := "(I)LBracketRoom$Wrong;" } : Jvm.MethodName)) ∈ lw_tbl := lw_at lw_m3 231 rfl
theorem q901 : (Jvm.Cond.declares ({ cls := "BracketRoom$Scan", name := "closes", desc := "()V" } : Jvm.MethodName)) ∈ lw_tbl := lw_at lw_m3 235 rfl
theorem q903 : (Jvm.Cond.instanceMethod ({ cls := "BracketRoom$Scan", name := "closes", desc := "()V" } : Jvm.MethodName)) ∈ lw_all := lw_g (lw_at lw_m3 237 rfl) rfl
theorem q904 : (Jvm.Cond.code ({ cls := "BracketRoom$Scan", name := "closes", desc := "()V" } : Jvm.MethodName) prog_4_method_16_code (1 : Nat) (Option.none : Option Jvm.ClassFile.FieldType)) ∈ lw_all := lw_g (lw_at lw_m3 238 rfl) rfl
theorem q905 : (Jvm.Cond.methodLink "BracketRoom$Scan" (101 : Nat) ({ cls := "BracketRoom$Scan", name := "is", desc := "(I)Z" } : Jvm.MethodName)) ∈ lw_all := lw_g (lw_at lw_m3 239 rfl) rfl
theorem q906 : (Jvm.Cond.instanceMethod ({ cls := "BracketRoom$Scan", name := "is", desc := "(I)Z" } : Jvm.MethodName)) ∈ lw_all := lw_g (lw_at lw_m4 0 rfl) rfl
theorem q907 : (Jvm.Cond.sameMethod "BracketRoom$Scan" "BracketRoom$Scan" "is" "(I)Z") ∈ lw_all := lw_g (lw_at lw_m4 1 rfl) rfl
theorem q909 : (Jvm.Cond.code ({ cls := "BracketRoom$Scan", name := "is", desc := "(I)Z" } : Jvm.MethodName) prog_4_method_13_code (2 : Nat) (Option.some Jvm.ClassFile.FieldType.boolean)) ∈ lw_all := lw_g (lw_at lw_m4 3 rfl) rfl
theorem q915 : (Jvm.Cond.declares ({ cls := "BracketRoom$Scan", name := "passed", desc := "(II)I" } : Jvm.MethodName)) ∈ lw_tbl := lw_at lw_m4 9 rfl
theorem q917 : (Jvm.Cond.instanceMethod ({ cls := "BracketRoom$Scan", name := "passed", desc := "(II)I" } : Jvm.MethodName)) ∈ lw_all := lw_g (lw_at lw_m4 11 rfl) rfl
theorem q918 : (Jvm.Cond.code ({ cls := "BracketRoom$Scan", name := "passed", desc := "(II)I" } : Jvm.MethodName) prog_4_method_15_code (4 : Nat) (Option.some Jvm.ClassFile.FieldType.int)) ∈ lw_all := lw_g (lw_at lw_m4 12 rfl) rfl
theorem q919 : (Jvm.Cond.methodLink "BracketRoom$Scan" (98 : Nat) ({ cls := "BracketRoom$Scan", name := "number", desc := "(II)I" } : Jvm.MethodName)) ∈ lw_all := lw_g (lw_at lw_m4 13 rfl) rfl
theorem q1009 : (Jvm.Cond.declares ({ cls := "BracketRoom$Scan", name := "is", desc := "(I)Z" } : Jvm.MethodName)) ∈ lw_tbl := lw_at lw_m4 103 rfl
theorem q2432 : (Jvm.Cond.sameMethod "BracketRoom$Scan" "BracketRoom$Scan" "at" "(I)I") ∈ lw_all := lw_g (lw_at lw_m10 86 rfl) rfl
theorem q2433 : (Jvm.Cond.sameMethod "BracketRoom$Scan" "BracketRoom$Scan" "isSign" "(I)Z") ∈ lw_all := lw_g (lw_at lw_m10 87 rfl) rfl
theorem q2434 : (Jvm.Cond.sameMethod "BracketRoom$Scan" "BracketRoom$Scan" "isWord" "(Ljava/lang/String;II)Z") ∈ lw_all := lw_g (lw_at lw_m10 88 rfl) rfl
theorem q2435 : (Jvm.Cond.sameMethod "BracketRoom$Scan" "BracketRoom$Scan" "need" "(Z)V") ∈ lw_all := lw_g (lw_at lw_m10 89 rfl) rfl
theorem q2437 : (Jvm.Cond.sameMethod "BracketRoom$Scan" "BracketRoom$Scan" "number" "(II)I") ∈ lw_all := lw_g (lw_at lw_m10 91 rfl) rfl
theorem q189 : (Jvm.Cond.initialized "BracketRoom$Reader") ∈ lw_all := lw_g (lw_at lw_m1 3 rfl) rfl
theorem q222 : (Jvm.Cond.instantiable "BracketRoom$Reader" (15 : Nat)) ∈ lw_all := lw_g (lw_at lw_m1 36 rfl) rfl
theorem q312 : (Jvm.Cond.instanceMethod ({ cls := "BracketRoom$Reader", name := "<init>", desc := "(LBracketRoom$Wrong;)V" } : Jvm.MethodName)) ∈ lw_all := lw_g (lw_at lw_m1 126 rfl) rfl
theorem q313 : (Jvm.Cond.code ({ cls := "BracketRoom$Reader", name := "<init>", desc := "(LBracketRoom$Wrong;)V" } : Jvm.MethodName) prog_3_method_1_code (2 : Nat) (Option.none : Option Jvm.ClassFile.FieldType)) ∈ lw_all := lw_g (lw_at lw_m1 127 rfl) rfl
theorem q314 : (Jvm.Cond.stringRef "BracketRoom$Reader" (3 : Nat) " prime size bracket gives less of swap scale add keep take sum when loop stop end by to lawful abelian nilpotent solvable derived same ") ∈ lw_tbl := lw_at lw_m1 128 rfl
theorem q315 : (Jvm.Cond.stringRef "BracketRoom$Reader" (5 : Nat) ";<>=") ∈ lw_tbl := lw_at lw_m1 129 rfl
theorem q316 : (Jvm.Cond.methodLink "BracketRoom$Reader" (7 : Nat) ({ cls := "BracketRoom$Scan", name := "<init>", desc := "([BLjava/lang/String;Ljava/lang/String;LBracketRoom$Wrong;)V" } : Jvm.MethodName)) ∈ lw_all := lw_g (lw_at lw_m1 130 rfl) rfl
theorem q321 : (Jvm.Cond.fieldLink "BracketRoom$Reader" (89 : Nat) "BracketRoom$Reader" "stepMany" "I") ∈ lw_all := lw_g (lw_at lw_m1 135 rfl) rfl
theorem q323 : (Jvm.Cond.fieldLink "BracketRoom$Reader" (92 : Nat) "BracketRoom$Reader" "counted" "I") ∈ lw_all := lw_g (lw_at lw_m1 137 rfl) rfl
theorem q325 : (Jvm.Cond.fieldLink "BracketRoom$Reader" (95 : Nat) "BracketRoom$Reader" "open" "I") ∈ lw_all := lw_g (lw_at lw_m1 139 rfl) rfl
theorem q326 : (Jvm.Cond.fieldLink "BracketRoom$Reader" (85 : Nat) "BracketRoom$Reader" "steps" "[LBracketRoom$Step;") ∈ lw_all := lw_g (lw_at lw_m1 140 rfl) rfl
theorem q327 : (Jvm.Cond.fieldLink "BracketRoom$Reader" (13 : Nat) "BracketRoom$Reader" "opened" "[I") ∈ lw_all := lw_g (lw_at lw_m1 141 rfl) rfl
theorem q330 : (Jvm.Cond.sameField "BracketRoom$Reader" "BracketRoom$Scan" "tape" "[B") ∈ lw_all := lw_g (lw_at lw_m1 144 rfl) rfl
theorem q332 : (Jvm.Cond.fieldLink "BracketRoom$Reader" (72 : Nat) "BracketRoom$Reader" "sort" "I") ∈ lw_all := lw_g (lw_at lw_m1 146 rfl) rfl
theorem q333 : (Jvm.Cond.sameField "BracketRoom$Reader" "BracketRoom$Scan" "sort" "I") ∈ lw_all := lw_g (lw_at lw_m1 147 rfl) rfl
theorem q337 : (Jvm.Cond.fieldLink "BracketRoom$Reader" (104 : Nat) "BracketRoom$Reader" "value" "I") ∈ lw_all := lw_g (lw_at lw_m1 151 rfl) rfl
theorem q338 : (Jvm.Cond.sameField "BracketRoom$Reader" "BracketRoom$Scan" "value" "I") ∈ lw_all := lw_g (lw_at lw_m1 152 rfl) rfl
theorem q343 : (Jvm.Cond.lays "BracketRoom$Reader" "BracketRoom$Reader" "taped" "I") ∈ lw_all := lw_g (lw_at lw_m1 157 rfl) rfl
theorem q344 : (Jvm.Cond.soleField "BracketRoom$Reader" "taped") ∈ lw_all := lw_g (lw_at lw_m1 158 rfl) rfl
theorem q345 : (Jvm.Cond.lays "BracketRoom$Reader" "BracketRoom$Reader" "stepMany" "I") ∈ lw_all := lw_g (lw_at lw_m1 159 rfl) rfl
theorem q346 : (Jvm.Cond.soleField "BracketRoom$Reader" "stepMany") ∈ lw_all := lw_g (lw_at lw_m1 160 rfl) rfl
theorem q347 : (Jvm.Cond.lays "BracketRoom$Reader" "BracketRoom$Reader" "counted" "I") ∈ lw_all := lw_g (lw_at lw_m1 161 rfl) rfl
theorem q348 : (Jvm.Cond.soleField "BracketRoom$Reader" "counted") ∈ lw_all := lw_g (lw_at lw_m1 162 rfl) rfl
theorem q349 : (Jvm.Cond.lays "BracketRoom$Reader" "BracketRoom$Reader" "open" "I") ∈ lw_all := lw_g (lw_at lw_m1 163 rfl) rfl
theorem q350 : (Jvm.Cond.soleField "BracketRoom$Reader" "open") ∈ lw_all := lw_g (lw_at lw_m1 164 rfl) rfl
theorem q351 : (Jvm.Cond.lays "BracketRoom$Reader" "BracketRoom$Reader" "steps" "[LBracketRoom$Step;") ∈ lw_all := lw_g (lw_at lw_m1 165 rfl) rfl
theorem q352 : (Jvm.Cond.soleField "BracketRoom$Reader" "steps") ∈ lw_all := lw_g (lw_at lw_m1 166 rfl) rfl
theorem q353 : (Jvm.Cond.laysFinal "BracketRoom$Reader" "BracketRoom$Reader" "opened" "[I") ∈ lw_all := lw_g (lw_at lw_m1 167 rfl) rfl
theorem q354 : (Jvm.Cond.soleField "BracketRoom$Reader" "opened") ∈ lw_all := lw_g (lw_at lw_m1 168 rfl) rfl
theorem q355 : (Jvm.Cond.laysFinal "BracketRoom$Reader" "BracketRoom$Scan" "tape" "[B") ∈ lw_all := lw_g (lw_at lw_m1 169 rfl) rfl
theorem q357 : (Jvm.Cond.lays "BracketRoom$Reader" "BracketRoom$Scan" "size" "I") ∈ lw_all := lw_g (lw_at lw_m1 171 rfl) rfl
theorem q359 : (Jvm.Cond.lays "BracketRoom$Reader" "BracketRoom$Scan" "sort" "I") ∈ lw_all := lw_g (lw_at lw_m1 173 rfl) rfl
theorem q361 : (Jvm.Cond.lays "BracketRoom$Reader" "BracketRoom$Scan" "from" "I") ∈ lw_all := lw_g (lw_at lw_m1 175 rfl) rfl
theorem q363 : (Jvm.Cond.lays "BracketRoom$Reader" "BracketRoom$Scan" "end" "I") ∈ lw_all := lw_g (lw_at lw_m1 177 rfl) rfl
theorem q365 : (Jvm.Cond.lays "BracketRoom$Reader" "BracketRoom$Scan" "value" "I") ∈ lw_all := lw_g (lw_at lw_m1 179 rfl) rfl
theorem q367 : (Jvm.Cond.laysFinal "BracketRoom$Reader" "BracketRoom$Scan" "keys" "Ljava/lang/String;") ∈ lw_all := lw_g (lw_at lw_m1 181 rfl) rfl
theorem q369 : (Jvm.Cond.laysFinal "BracketRoom$Reader" "BracketRoom$Scan" "signs" "Ljava/lang/String;") ∈ lw_all := lw_g (lw_at lw_m1 183 rfl) rfl
theorem q371 : (Jvm.Cond.laysFinal "BracketRoom$Reader" "BracketRoom$Scan" "wrong" "LBracketRoom$Wrong;") ∈ lw_all := lw_g (lw_at lw_m1 185 rfl) rfl
theorem q373 : (Jvm.Cond.superclass "BracketRoom$Reader" "BracketRoom$Scan") ∈ lw_all := lw_g (lw_at lw_m1 187 rfl) rfl
theorem q388 : (Jvm.Cond.fieldLinkNest "BracketRoom$Reader" (47 : Nat) "BracketRoom$World" "prime" "I" "BracketRoom") ∈ lw_tbl := lw_at lw_m1 202 rfl
theorem q393 : (Jvm.Cond.fieldLinkNest "BracketRoom$Reader" (69 : Nat) "BracketRoom$World" "size" "I" "BracketRoom") ∈ lw_tbl := lw_at lw_m1 207 rfl
theorem q763 : (Jvm.Cond.instanceMethod ({ cls := "BracketRoom$Reader", name := "world", desc := "(ILBracketRoom$World;)V" } : Jvm.MethodName)) ∈ lw_all := lw_g (lw_at lw_m3 97 rfl) rfl
theorem q764 : (Jvm.Cond.selects "BracketRoom$Reader" ({ cls := "BracketRoom$Reader", name := "world", desc := "(ILBracketRoom$World;)V" } : Jvm.MethodName) ({ cls := "BracketRoom$Reader", name := "world", desc := "(ILBracketRoom$World;)V" } : Jvm.MethodName)) ∈ lw_all := lw_g (lw_at lw_m3 98 rfl) rfl
theorem q765 : (Jvm.Cond.code ({ cls := "BracketRoom$Reader", name := "world", desc := "(ILBracketRoom$World;)V" } : Jvm.MethodName) prog_3_method_3_code (6 : Nat) (Option.none : Option Jvm.ClassFile.FieldType)) ∈ lw_all := lw_g (lw_at lw_m3 99 rfl) rfl
theorem q766 : (Jvm.Cond.methodLink "BracketRoom$Reader" (31 : Nat) ({ cls := "BracketRoom$Reader", name := "begin", desc := "(I)V" } : Jvm.MethodName)) ∈ lw_all := lw_g (lw_at lw_m3 100 rfl) rfl
theorem q767 : (Jvm.Cond.sameMethod "BracketRoom$Reader" "BracketRoom$Scan" "begin" "(I)V") ∈ lw_all := lw_g (lw_at lw_m3 101 rfl) rfl
theorem q769 : (Jvm.Cond.selects "BracketRoom$Reader" ({ cls := "BracketRoom$Reader", name := "begin", desc := "(I)V" } : Jvm.MethodName) ({ cls := "BracketRoom$Scan", name := "begin", desc := "(I)V" } : Jvm.MethodName)) ∈ lw_all := lw_g (lw_at lw_m3 103 rfl) rfl
theorem q775 : (Jvm.Cond.selects "BracketRoom$Reader" ({ cls := "BracketRoom$Scan", name := "next", desc := "()V" } : Jvm.MethodName) ({ cls := "BracketRoom$Scan", name := "next", desc := "()V" } : Jvm.MethodName)) ∈ lw_all := lw_g (lw_at lw_m3 109 rfl) rfl
theorem q843 : (Jvm.Cond.methodLink "BracketRoom$Reader" (35 : Nat) ({ cls := "BracketRoom$World", name := "clear", desc := "()V" } : Jvm.MethodName)) ∈ lw_all := lw_g (lw_at lw_m3 177 rfl) rfl
theorem q847 : (Jvm.Cond.methodLink "BracketRoom$Reader" (40 : Nat) ({ cls := "BracketRoom$Reader", name := "word", desc := "(I)V" } : Jvm.MethodName)) ∈ lw_all := lw_g (lw_at lw_m3 181 rfl) rfl
theorem q848 : (Jvm.Cond.privateMethod ({ cls := "BracketRoom$Reader", name := "word", desc := "(I)V" } : Jvm.MethodName)) ∈ lw_tbl := lw_at lw_m3 182 rfl
theorem q849 : (Jvm.Cond.instanceMethod ({ cls := "BracketRoom$Reader", name := "word", desc := "(I)V" } : Jvm.MethodName)) ∈ lw_all := lw_g (lw_at lw_m3 183 rfl) rfl
theorem q850 : (Jvm.Cond.code ({ cls := "BracketRoom$Reader", name := "word", desc := "(I)V" } : Jvm.MethodName) prog_3_method_2_code (2 : Nat) (Option.none : Option Jvm.ClassFile.FieldType)) ∈ lw_all := lw_g (lw_at lw_m3 184 rfl) rfl
theorem q851 : (Jvm.Cond.methodLink "BracketRoom$Reader" (19 : Nat) ({ cls := "BracketRoom$Reader", name := "key", desc := "()I" } : Jvm.MethodName)) ∈ lw_all := lw_g (lw_at lw_m3 185 rfl) rfl
theorem q852 : (Jvm.Cond.sameMethod "BracketRoom$Reader" "BracketRoom$Scan" "key" "()I") ∈ lw_all := lw_g (lw_at lw_m3 186 rfl) rfl
theorem q854 : (Jvm.Cond.selects "BracketRoom$Reader" ({ cls := "BracketRoom$Reader", name := "key", desc := "()I" } : Jvm.MethodName) ({ cls := "BracketRoom$Scan", name := "key", desc := "()I" } : Jvm.MethodName)) ∈ lw_all := lw_g (lw_at lw_m3 188 rfl) rfl
theorem q860 : (Jvm.Cond.selects "BracketRoom$Reader" ({ cls := "BracketRoom$Scan", name := "in", desc := "(Ljava/lang/String;)I" } : Jvm.MethodName) ({ cls := "BracketRoom$Scan", name := "in", desc := "(Ljava/lang/String;)I" } : Jvm.MethodName)) ∈ lw_all := lw_g (lw_at lw_m3 194 rfl) rfl
theorem q866 : (Jvm.Cond.methodLink "BracketRoom$Reader" (23 : Nat) ({ cls := "BracketRoom$Reader", name := "need", desc := "(Z)V" } : Jvm.MethodName)) ∈ lw_all := lw_g (lw_at lw_m3 200 rfl) rfl
theorem q867 : (Jvm.Cond.sameMethod "BracketRoom$Reader" "BracketRoom$Scan" "need" "(Z)V") ∈ lw_all := lw_g (lw_at lw_m3 201 rfl) rfl
theorem q869 : (Jvm.Cond.selects "BracketRoom$Reader" ({ cls := "BracketRoom$Reader", name := "need", desc := "(Z)V" } : Jvm.MethodName) ({ cls := "BracketRoom$Scan", name := "need", desc := "(Z)V" } : Jvm.MethodName)) ∈ lw_all := lw_g (lw_at lw_m3 203 rfl) rfl
theorem q875 : (Jvm.Cond.selects "BracketRoom$Reader" ({ cls := "BracketRoom$Scan", name := "fail", desc := "(I)LBracketRoom$Wrong;" } : Jvm.MethodName) ({ cls := "BracketRoom$Scan", name := "fail", desc := "(I)LBracketRoom$Wrong;" } : Jvm.MethodName)) ∈ lw_all := lw_g (lw_at lw_m3 209 rfl) rfl
theorem q881 : (Jvm.Cond.methodLink "BracketRoom$Reader" (27 : Nat) ({ cls := "BracketRoom$Reader", name := "next", desc := "()V" } : Jvm.MethodName)) ∈ lw_all := lw_g (lw_at lw_m3 215 rfl) rfl
theorem q882 : (Jvm.Cond.sameMethod "BracketRoom$Reader" "BracketRoom$Scan" "next" "()V") ∈ lw_all := lw_g (lw_at lw_m3 216 rfl) rfl
theorem q884 : (Jvm.Cond.selects "BracketRoom$Reader" ({ cls := "BracketRoom$Reader", name := "next", desc := "()V" } : Jvm.MethodName) ({ cls := "BracketRoom$Scan", name := "next", desc := "()V" } : Jvm.MethodName)) ∈ lw_all := lw_g (lw_at lw_m3 218 rfl) rfl
theorem q885 : (Jvm.Cond.methodLink "BracketRoom$Reader" (43 : Nat) ({ cls := "BracketRoom$Reader", name := "number", desc := "(II)I" } : Jvm.MethodName)) ∈ lw_all := lw_g (lw_at lw_m3 219 rfl) rfl
theorem q886 : (Jvm.Cond.sameMethod "BracketRoom$Reader" "BracketRoom$Scan" "number" "(II)I") ∈ lw_all := lw_g (lw_at lw_m3 220 rfl) rfl
theorem q888 : (Jvm.Cond.selects "BracketRoom$Reader" ({ cls := "BracketRoom$Reader", name := "number", desc := "(II)I" } : Jvm.MethodName) ({ cls := "BracketRoom$Scan", name := "number", desc := "(II)I" } : Jvm.MethodName)) ∈ lw_all := lw_g (lw_at lw_m3 222 rfl) rfl
theorem q892 : (Jvm.Cond.methodLinkNest "BracketRoom$Reader" (51 : Nat) ({ cls := "BracketRoom", name := "isPrime", desc := "(I)Z" } : Jvm.MethodName) "BracketRoom") ∈ lw_tbl := lw_at lw_m3 226 rfl
theorem q895 : (Jvm.Cond.methodLink "BracketRoom$Reader" (55 : Nat) ({ cls := "BracketRoom$Reader", name := "fail", desc := "(I)LBracketRoom$Wrong;" } : Jvm.MethodName)) ∈ lw_all := lw_g (lw_at lw_m3 229 rfl) rfl
theorem q896 : (Jvm.Cond.sameMethod "BracketRoom$Reader" "BracketRoom$Scan" "fail" "(I)LBracketRoom$Wrong;") ∈ lw_all := lw_g (lw_at lw_m3 230 rfl) rfl
theorem q898 : (Jvm.Cond.selects "BracketRoom$Reader" ({ cls := "BracketRoom$Reader", name := "fail", desc := "(I)LBracketRoom$Wrong;" } : Jvm.MethodName) ({ cls := "BracketRoom$Scan", name := "fail", desc := "(I)LBracketRoom$Wrong;" } : Jvm.MethodName)) ∈ lw_all := lw_g (lw_at lw_m3 232 rfl) rfl
theorem q899 : (Jvm.Cond.methodLink "BracketRoom$Reader" (59 : Nat) ({ cls := "BracketRoom$Reader", name := "closes", desc := "()V" } : Jvm.MethodName)) ∈ lw_all := lw_g (lw_at lw_m3 233 rfl) rfl
theorem q900 : (Jvm.Cond.sameMethod "BracketRoom$Reader" "BracketRoom$Scan" "closes" "()V") ∈ lw_all := lw_g (lw_at lw_m3 234 rfl) rfl
theorem q902 : (Jvm.Cond.selects "BracketRoom$Reader" ({ cls := "BracketRoom$Reader", name := "closes", desc := "()V" } : Jvm.MethodName) ({ cls := "BracketRoom$Scan", name := "closes", desc := "()V" } : Jvm.MethodName)) ∈ lw_all := lw_g (lw_at lw_m3 236 rfl) rfl
theorem q908 : (Jvm.Cond.selects "BracketRoom$Reader" ({ cls := "BracketRoom$Scan", name := "is", desc := "(I)Z" } : Jvm.MethodName) ({ cls := "BracketRoom$Scan", name := "is", desc := "(I)Z" } : Jvm.MethodName)) ∈ lw_all := lw_g (lw_at lw_m4 2 rfl) rfl
theorem q910 : (Jvm.Cond.methodLinkNest "BracketRoom$Reader" (62 : Nat) ({ cls := "BracketRoom", name := "widest", desc := "(I)I" } : Jvm.MethodName) "BracketRoom") ∈ lw_tbl := lw_at lw_m4 4 rfl
theorem q913 : (Jvm.Cond.methodLink "BracketRoom$Reader" (66 : Nat) ({ cls := "BracketRoom$Reader", name := "passed", desc := "(II)I" } : Jvm.MethodName)) ∈ lw_all := lw_g (lw_at lw_m4 7 rfl) rfl
theorem q914 : (Jvm.Cond.sameMethod "BracketRoom$Reader" "BracketRoom$Scan" "passed" "(II)I") ∈ lw_all := lw_g (lw_at lw_m4 8 rfl) rfl
theorem q916 : (Jvm.Cond.selects "BracketRoom$Reader" ({ cls := "BracketRoom$Reader", name := "passed", desc := "(II)I" } : Jvm.MethodName) ({ cls := "BracketRoom$Scan", name := "passed", desc := "(II)I" } : Jvm.MethodName)) ∈ lw_all := lw_g (lw_at lw_m4 10 rfl) rfl
theorem q920 : (Jvm.Cond.methodLink "BracketRoom$Reader" (75 : Nat) ({ cls := "BracketRoom$Reader", name := "terms", desc := "(LBracketRoom$World;II)V" } : Jvm.MethodName)) ∈ lw_all := lw_g (lw_at lw_m4 14 rfl) rfl
theorem q921 : (Jvm.Cond.privateMethod ({ cls := "BracketRoom$Reader", name := "terms", desc := "(LBracketRoom$World;II)V" } : Jvm.MethodName)) ∈ lw_tbl := lw_at lw_m4 15 rfl
theorem q922 : (Jvm.Cond.instanceMethod ({ cls := "BracketRoom$Reader", name := "terms", desc := "(LBracketRoom$World;II)V" } : Jvm.MethodName)) ∈ lw_all := lw_g (lw_at lw_m4 16 rfl) rfl
theorem q923 : (Jvm.Cond.code ({ cls := "BracketRoom$Reader", name := "terms", desc := "(LBracketRoom$World;II)V" } : Jvm.MethodName) prog_3_method_4_code (8 : Nat) (Option.none : Option Jvm.ClassFile.FieldType)) ∈ lw_all := lw_g (lw_at lw_m4 17 rfl) rfl
theorem q924 : (Jvm.Cond.methodLink "BracketRoom$Reader" (79 : Nat) ({ cls := "BracketRoom$World", name := "set", desc := "(IIII)V" } : Jvm.MethodName)) ∈ lw_all := lw_g (lw_at lw_m4 18 rfl) rfl
theorem q953 : (Jvm.Cond.instanceMethod ({ cls := "BracketRoom$Reader", name := "script", desc := "(I)[LBracketRoom$Step;" } : Jvm.MethodName)) ∈ lw_all := lw_g (lw_at lw_m4 47 rfl) rfl
theorem q954 : (Jvm.Cond.selects "BracketRoom$Reader" ({ cls := "BracketRoom$Reader", name := "script", desc := "(I)[LBracketRoom$Step;" } : Jvm.MethodName) ({ cls := "BracketRoom$Reader", name := "script", desc := "(I)[LBracketRoom$Step;" } : Jvm.MethodName)) ∈ lw_all := lw_g (lw_at lw_m4 48 rfl) rfl
theorem q955 : (Jvm.Cond.code ({ cls := "BracketRoom$Reader", name := "script", desc := "(I)[LBracketRoom$Step;" } : Jvm.MethodName) prog_3_method_5_code (2 : Nat) (Option.some (Jvm.ClassFile.FieldType.array (Jvm.ClassFile.FieldType.object "BracketRoom$Step")))) ∈ lw_all := lw_g (lw_at lw_m4 49 rfl) rfl
theorem q956 : (Jvm.Cond.classLink "BracketRoom$Reader" (83 : Nat) "BracketRoom$Step") ∈ lw_all := lw_g (lw_at lw_m4 50 rfl) rfl
theorem q958 : (Jvm.Cond.methodLink "BracketRoom$Reader" (98 : Nat) ({ cls := "BracketRoom$Reader", name := "step", desc := "()V" } : Jvm.MethodName)) ∈ lw_all := lw_g (lw_at lw_m4 52 rfl) rfl
theorem q959 : (Jvm.Cond.privateMethod ({ cls := "BracketRoom$Reader", name := "step", desc := "()V" } : Jvm.MethodName)) ∈ lw_tbl := lw_at lw_m4 53 rfl
theorem q960 : (Jvm.Cond.instanceMethod ({ cls := "BracketRoom$Reader", name := "step", desc := "()V" } : Jvm.MethodName)) ∈ lw_all := lw_g (lw_at lw_m4 54 rfl) rfl
theorem q961 : (Jvm.Cond.code ({ cls := "BracketRoom$Reader", name := "step", desc := "()V" } : Jvm.MethodName) prog_3_method_8_code (4 : Nat) (Option.none : Option Jvm.ClassFile.FieldType)) ∈ lw_all := lw_g (lw_at lw_m4 55 rfl) rfl
theorem q963 : (Jvm.Cond.methodLink "BracketRoom$Reader" (121 : Nat) ({ cls := "BracketRoom$Step", name := "<init>", desc := "(I)V" } : Jvm.MethodName)) ∈ lw_all := lw_g (lw_at lw_m4 57 rfl) rfl
theorem q969 : (Jvm.Cond.fieldLinkNest "BracketRoom$Reader" (115 : Nat) "BracketRoom$Step" "one" "I" "BracketRoom") ∈ lw_tbl := lw_at lw_m4 63 rfl
theorem q971 : (Jvm.Cond.fieldLinkNest "BracketRoom$Reader" (123 : Nat) "BracketRoom$Step" "two" "I" "BracketRoom") ∈ lw_tbl := lw_at lw_m4 65 rfl
theorem q973 : (Jvm.Cond.fieldLinkNest "BracketRoom$Reader" (110 : Nat) "BracketRoom$Step" "number" "I" "BracketRoom") ∈ lw_tbl := lw_at lw_m4 67 rfl
theorem q975 : (Jvm.Cond.fieldLinkNest "BracketRoom$Reader" (107 : Nat) "BracketRoom$Step" "compares" "I" "BracketRoom") ∈ lw_tbl := lw_at lw_m4 69 rfl
theorem q977 : (Jvm.Cond.fieldLinkNest "BracketRoom$Reader" (112 : Nat) "BracketRoom$Step" "test" "I" "BracketRoom") ∈ lw_tbl := lw_at lw_m4 71 rfl
theorem q979 : (Jvm.Cond.fieldLinkNest "BracketRoom$Reader" (128 : Nat) "BracketRoom$Step" "to" "I" "BracketRoom") ∈ lw_tbl := lw_at lw_m4 73 rfl
theorem q999 : (Jvm.Cond.methodLink "BracketRoom$Reader" (126 : Nat) ({ cls := "BracketRoom$Reader", name := "test", desc := "(LBracketRoom$Step;)V" } : Jvm.MethodName)) ∈ lw_all := lw_g (lw_at lw_m4 93 rfl) rfl
theorem q1000 : (Jvm.Cond.privateMethod ({ cls := "BracketRoom$Reader", name := "test", desc := "(LBracketRoom$Step;)V" } : Jvm.MethodName)) ∈ lw_tbl := lw_at lw_m4 94 rfl
theorem q1001 : (Jvm.Cond.instanceMethod ({ cls := "BracketRoom$Reader", name := "test", desc := "(LBracketRoom$Step;)V" } : Jvm.MethodName)) ∈ lw_all := lw_g (lw_at lw_m4 95 rfl) rfl
theorem q1002 : (Jvm.Cond.code ({ cls := "BracketRoom$Reader", name := "test", desc := "(LBracketRoom$Step;)V" } : Jvm.MethodName) prog_3_method_7_code (2 : Nat) (Option.none : Option Jvm.ClassFile.FieldType)) ∈ lw_all := lw_g (lw_at lw_m4 96 rfl) rfl
theorem q1003 : (Jvm.Cond.methodLink "BracketRoom$Reader" (118 : Nat) ({ cls := "BracketRoom$Reader", name := "compares", desc := "(LBracketRoom$Step;)V" } : Jvm.MethodName)) ∈ lw_all := lw_g (lw_at lw_m4 97 rfl) rfl
theorem q1004 : (Jvm.Cond.privateMethod ({ cls := "BracketRoom$Reader", name := "compares", desc := "(LBracketRoom$Step;)V" } : Jvm.MethodName)) ∈ lw_tbl := lw_at lw_m4 98 rfl
theorem q1005 : (Jvm.Cond.instanceMethod ({ cls := "BracketRoom$Reader", name := "compares", desc := "(LBracketRoom$Step;)V" } : Jvm.MethodName)) ∈ lw_all := lw_g (lw_at lw_m4 99 rfl) rfl
theorem q1006 : (Jvm.Cond.code ({ cls := "BracketRoom$Reader", name := "compares", desc := "(LBracketRoom$Step;)V" } : Jvm.MethodName) prog_3_method_6_code (2 : Nat) (Option.none : Option Jvm.ClassFile.FieldType)) ∈ lw_all := lw_g (lw_at lw_m4 100 rfl) rfl
theorem q1007 : (Jvm.Cond.methodLink "BracketRoom$Reader" (101 : Nat) ({ cls := "BracketRoom$Reader", name := "is", desc := "(I)Z" } : Jvm.MethodName)) ∈ lw_all := lw_g (lw_at lw_m4 101 rfl) rfl
theorem q1008 : (Jvm.Cond.sameMethod "BracketRoom$Reader" "BracketRoom$Scan" "is" "(I)Z") ∈ lw_all := lw_g (lw_at lw_m4 102 rfl) rfl
theorem q1010 : (Jvm.Cond.selects "BracketRoom$Reader" ({ cls := "BracketRoom$Reader", name := "is", desc := "(I)Z" } : Jvm.MethodName) ({ cls := "BracketRoom$Scan", name := "is", desc := "(I)Z" } : Jvm.MethodName)) ∈ lw_all := lw_g (lw_at lw_m4 104 rfl) rfl
theorem q2436 : (Jvm.Cond.selects "BracketRoom$Reader" ({ cls := "BracketRoom$Scan", name := "need", desc := "(Z)V" } : Jvm.MethodName) ({ cls := "BracketRoom$Scan", name := "need", desc := "(Z)V" } : Jvm.MethodName)) ∈ lw_all := lw_g (lw_at lw_m10 90 rfl) rfl
theorem q2438 : (Jvm.Cond.selects "BracketRoom$Reader" ({ cls := "BracketRoom$Scan", name := "number", desc := "(II)I" } : Jvm.MethodName) ({ cls := "BracketRoom$Scan", name := "number", desc := "(II)I" } : Jvm.MethodName)) ∈ lw_all := lw_g (lw_at lw_m10 92 rfl) rfl
theorem in_X2 : ∀ w ∈ wsX20, w ∈ lw_all := lw_in wsX20 [355, 357, 359, 361, 363, 365, 367, 369, 371, 343, 345, 347, 349, 351, 353] (by decide +kernel) (by decide +kernel)
theorem q193 : (Jvm.Cond.initialized "BracketRoom$Wrong") ∈ lw_all := lw_g (lw_at lw_m1 7 rfl) rfl
theorem q224 : (Jvm.Cond.instantiable "BracketRoom$Wrong" (8 : Nat)) ∈ lw_all := lw_g (lw_at lw_m1 38 rfl) rfl
theorem q225 : (Jvm.Cond.castable "BracketRoom$Wrong" "BracketRoom$Wrong") ∈ lw_tbl := lw_at lw_m1 39 rfl
theorem q232 : (Jvm.Cond.selects "BracketRoom$Wrong" ({ cls := "java/lang/Throwable", name := "fillInStackTrace", desc := "(I)Ljava/lang/Throwable;" } : Jvm.MethodName) ({ cls := "java/lang/Throwable", name := "fillInStackTrace", desc := "(I)Ljava/lang/Throwable;" } : Jvm.MethodName)) ∈ lw_all := lw_g (lw_at lw_m1 46 rfl) rfl
theorem q233 : (Jvm.Cond.selects "BracketRoom$Wrong" ({ cls := "java/lang/Throwable", name := "fillInStackTrace", desc := "()Ljava/lang/Throwable;" } : Jvm.MethodName) ({ cls := "java/lang/Throwable", name := "fillInStackTrace", desc := "()Ljava/lang/Throwable;" } : Jvm.MethodName)) ∈ lw_all := lw_g (lw_at lw_m1 47 rfl) rfl
theorem q234 : (Jvm.Cond.lays "BracketRoom$Wrong" "java/lang/Throwable" "cause" "Ljava/lang/Throwable;") ∈ lw_all := lw_g (lw_at lw_m1 48 rfl) rfl
theorem q236 : (Jvm.Cond.lays "BracketRoom$Wrong" "java/lang/Throwable" "stackTrace" "[Ljava/lang/StackTraceElement;") ∈ lw_all := lw_g (lw_at lw_m1 50 rfl) rfl
theorem q238 : (Jvm.Cond.lays "BracketRoom$Wrong" "java/lang/Throwable" "suppressedExceptions" "Ljava/util/List;") ∈ lw_all := lw_g (lw_at lw_m1 52 rfl) rfl
theorem q240 : (Jvm.Cond.lays "BracketRoom$Wrong" "java/lang/Throwable" "detailMessage" "Ljava/lang/String;") ∈ lw_all := lw_g (lw_at lw_m1 54 rfl) rfl
theorem q242 : (Jvm.Cond.lays "BracketRoom$Wrong" "java/lang/Throwable" "backtrace" "Ljava/lang/Object;") ∈ lw_all := lw_g (lw_at lw_m1 56 rfl) rfl
theorem q279 : (Jvm.Cond.instanceMethod ({ cls := "BracketRoom$Wrong", name := "<init>", desc := "()V" } : Jvm.MethodName)) ∈ lw_all := lw_g (lw_at lw_m1 93 rfl) rfl
theorem q280 : (Jvm.Cond.code ({ cls := "BracketRoom$Wrong", name := "<init>", desc := "()V" } : Jvm.MethodName) prog_9_method_1_code (1 : Nat) (Option.none : Option Jvm.ClassFile.FieldType)) ∈ lw_all := lw_g (lw_at lw_m1 94 rfl) rfl
theorem q281 : (Jvm.Cond.methodLink "BracketRoom$Wrong" (1 : Nat) ({ cls := "java/lang/RuntimeException", name := "<init>", desc := "(Ljava/lang/String;Ljava/lang/Throwable;ZZ)V" } : Jvm.MethodName)) ∈ lw_all := lw_g (lw_at lw_m1 95 rfl) rfl
theorem q290 : (Jvm.Cond.fieldLink "BracketRoom$Wrong" (7 : Nat) "BracketRoom$Wrong" "kind" "I") ∈ lw_all := lw_g (lw_at lw_m1 104 rfl) rfl
theorem q292 : (Jvm.Cond.fieldLink "BracketRoom$Wrong" (13 : Nat) "BracketRoom$Wrong" "place" "I") ∈ lw_all := lw_g (lw_at lw_m1 106 rfl) rfl
theorem q299 : (Jvm.Cond.lays "BracketRoom$Wrong" "BracketRoom$Wrong" "kind" "I") ∈ lw_all := lw_g (lw_at lw_m1 113 rfl) rfl
theorem q300 : (Jvm.Cond.soleField "BracketRoom$Wrong" "kind") ∈ lw_all := lw_g (lw_at lw_m1 114 rfl) rfl
theorem q301 : (Jvm.Cond.lays "BracketRoom$Wrong" "BracketRoom$Wrong" "place" "I") ∈ lw_all := lw_g (lw_at lw_m1 115 rfl) rfl
theorem q302 : (Jvm.Cond.soleField "BracketRoom$Wrong" "place") ∈ lw_all := lw_g (lw_at lw_m1 116 rfl) rfl
theorem q307 : (Jvm.Cond.lays "BracketRoom$Wrong" "java/lang/Throwable" "depth" "I") ∈ lw_all := lw_g (lw_at lw_m1 121 rfl) rfl
theorem q310 : (Jvm.Cond.superclass "BracketRoom$Wrong" "java/lang/RuntimeException") ∈ lw_all := lw_g (lw_at lw_m1 124 rfl) rfl
theorem q878 : (Jvm.Cond.instanceMethod ({ cls := "BracketRoom$Wrong", name := "of", desc := "(II)LBracketRoom$Wrong;" } : Jvm.MethodName)) ∈ lw_all := lw_g (lw_at lw_m3 212 rfl) rfl
theorem q879 : (Jvm.Cond.selects "BracketRoom$Wrong" ({ cls := "BracketRoom$Wrong", name := "of", desc := "(II)LBracketRoom$Wrong;" } : Jvm.MethodName) ({ cls := "BracketRoom$Wrong", name := "of", desc := "(II)LBracketRoom$Wrong;" } : Jvm.MethodName)) ∈ lw_all := lw_g (lw_at lw_m3 213 rfl) rfl
theorem q880 : (Jvm.Cond.code ({ cls := "BracketRoom$Wrong", name := "of", desc := "(II)LBracketRoom$Wrong;" } : Jvm.MethodName) prog_9_method_2_code (3 : Nat) (Option.some (Jvm.ClassFile.FieldType.object "BracketRoom$Wrong"))) ∈ lw_all := lw_g (lw_at lw_m3 214 rfl) rfl
theorem in_X3 : ∀ w ∈ wsX30, w ∈ lw_all := lw_in wsX30 [234, 236, 238, 240, 242, 307, 299, 301] (by decide +kernel) (by decide +kernel)
theorem q194 : (Jvm.Cond.initialized "BracketRoom$World") ∈ lw_all := lw_g (lw_at lw_m1 8 rfl) rfl
theorem q377 : (Jvm.Cond.instantiable "BracketRoom$World" (3 : Nat)) ∈ lw_all := lw_g (lw_at lw_m1 191 rfl) rfl
theorem q379 : (Jvm.Cond.instanceMethod ({ cls := "BracketRoom$World", name := "<init>", desc := "()V" } : Jvm.MethodName)) ∈ lw_all := lw_g (lw_at lw_m1 193 rfl) rfl
theorem q380 : (Jvm.Cond.code ({ cls := "BracketRoom$World", name := "<init>", desc := "()V" } : Jvm.MethodName) prog_8_method_1_code (1 : Nat) (Option.none : Option Jvm.ClassFile.FieldType)) ∈ lw_all := lw_g (lw_at lw_m1 194 rfl) rfl
theorem q381 : (Jvm.Cond.methodLink "BracketRoom$World" (3 : Nat) ({ cls := "java/lang/Object", name := "<init>", desc := "()V" } : Jvm.MethodName)) ∈ lw_all := lw_g (lw_at lw_m1 195 rfl) rfl
theorem q382 : (Jvm.Cond.classLink "BracketRoom$World" (9 : Nat) "[[[I") ∈ lw_all := lw_g (lw_at lw_m1 196 rfl) rfl
theorem q385 : (Jvm.Cond.fieldLink "BracketRoom$World" (11 : Nat) "BracketRoom$World" "table" "[[[I") ∈ lw_all := lw_g (lw_at lw_m1 199 rfl) rfl
theorem q387 : (Jvm.Cond.fieldLink "BracketRoom$World" (16 : Nat) "BracketRoom$World" "prime" "I") ∈ lw_all := lw_g (lw_at lw_m1 201 rfl) rfl
theorem q391 : (Jvm.Cond.fieldLink "BracketRoom$World" (20 : Nat) "BracketRoom$World" "size" "I") ∈ lw_all := lw_g (lw_at lw_m1 205 rfl) rfl
theorem q395 : (Jvm.Cond.laysFinal "BracketRoom$World" "BracketRoom$World" "table" "[[[I") ∈ lw_all := lw_g (lw_at lw_m1 209 rfl) rfl
theorem q396 : (Jvm.Cond.soleField "BracketRoom$World" "table") ∈ lw_all := lw_g (lw_at lw_m1 210 rfl) rfl
theorem q397 : (Jvm.Cond.lays "BracketRoom$World" "BracketRoom$World" "prime" "I") ∈ lw_all := lw_g (lw_at lw_m1 211 rfl) rfl
theorem q398 : (Jvm.Cond.soleField "BracketRoom$World" "prime") ∈ lw_all := lw_g (lw_at lw_m1 212 rfl) rfl
theorem q399 : (Jvm.Cond.lays "BracketRoom$World" "BracketRoom$World" "size" "I") ∈ lw_all := lw_g (lw_at lw_m1 213 rfl) rfl
theorem q400 : (Jvm.Cond.soleField "BracketRoom$World" "size") ∈ lw_all := lw_g (lw_at lw_m1 214 rfl) rfl
theorem q401 : (Jvm.Cond.superclass "BracketRoom$World" "java/lang/Object") ∈ lw_all := lw_g (lw_at lw_m1 215 rfl) rfl
theorem q844 : (Jvm.Cond.instanceMethod ({ cls := "BracketRoom$World", name := "clear", desc := "()V" } : Jvm.MethodName)) ∈ lw_all := lw_g (lw_at lw_m3 178 rfl) rfl
theorem q845 : (Jvm.Cond.selects "BracketRoom$World" ({ cls := "BracketRoom$World", name := "clear", desc := "()V" } : Jvm.MethodName) ({ cls := "BracketRoom$World", name := "clear", desc := "()V" } : Jvm.MethodName)) ∈ lw_all := lw_g (lw_at lw_m3 179 rfl) rfl
theorem q846 : (Jvm.Cond.code ({ cls := "BracketRoom$World", name := "clear", desc := "()V" } : Jvm.MethodName) prog_8_method_3_code (4 : Nat) (Option.none : Option Jvm.ClassFile.FieldType)) ∈ lw_all := lw_g (lw_at lw_m3 180 rfl) rfl
theorem q925 : (Jvm.Cond.instanceMethod ({ cls := "BracketRoom$World", name := "set", desc := "(IIII)V" } : Jvm.MethodName)) ∈ lw_all := lw_g (lw_at lw_m4 19 rfl) rfl
theorem q926 : (Jvm.Cond.selects "BracketRoom$World" ({ cls := "BracketRoom$World", name := "set", desc := "(IIII)V" } : Jvm.MethodName) ({ cls := "BracketRoom$World", name := "set", desc := "(IIII)V" } : Jvm.MethodName)) ∈ lw_all := lw_g (lw_at lw_m4 20 rfl) rfl
theorem q927 : (Jvm.Cond.code ({ cls := "BracketRoom$World", name := "set", desc := "(IIII)V" } : Jvm.MethodName) prog_8_method_4_code (5 : Nat) (Option.none : Option Jvm.ClassFile.FieldType)) ∈ lw_all := lw_g (lw_at lw_m4 21 rfl) rfl
theorem q928 : (Jvm.Cond.methodLink "BracketRoom$World" (29 : Nat) ({ cls := "BracketRoom$World", name := "by", desc := "(I)I" } : Jvm.MethodName)) ∈ lw_all := lw_g (lw_at lw_m4 22 rfl) rfl
theorem q929 : (Jvm.Cond.instanceMethod ({ cls := "BracketRoom$World", name := "by", desc := "(I)I" } : Jvm.MethodName)) ∈ lw_all := lw_g (lw_at lw_m4 23 rfl) rfl
theorem q930 : (Jvm.Cond.selects "BracketRoom$World" ({ cls := "BracketRoom$World", name := "by", desc := "(I)I" } : Jvm.MethodName) ({ cls := "BracketRoom$World", name := "by", desc := "(I)I" } : Jvm.MethodName)) ∈ lw_all := lw_g (lw_at lw_m4 24 rfl) rfl
theorem q931 : (Jvm.Cond.code ({ cls := "BracketRoom$World", name := "by", desc := "(I)I" } : Jvm.MethodName) prog_8_method_5_code (2 : Nat) (Option.some Jvm.ClassFile.FieldType.int)) ∈ lw_all := lw_g (lw_at lw_m4 25 rfl) rfl
theorem q932 : (Jvm.Cond.methodLink "BracketRoom$World" (33 : Nat) ({ cls := "java/lang/Math", name := "floorMod", desc := "(II)I" } : Jvm.MethodName)) ∈ lw_all := lw_g (lw_at lw_m4 26 rfl) rfl
theorem q940 : (Jvm.Cond.instanceMethod ({ cls := "BracketRoom$World", name := "copy", desc := "(LBracketRoom$World;)V" } : Jvm.MethodName)) ∈ lw_all := lw_g (lw_at lw_m4 34 rfl) rfl
theorem q941 : (Jvm.Cond.selects "BracketRoom$World" ({ cls := "BracketRoom$World", name := "copy", desc := "(LBracketRoom$World;)V" } : Jvm.MethodName) ({ cls := "BracketRoom$World", name := "copy", desc := "(LBracketRoom$World;)V" } : Jvm.MethodName)) ∈ lw_all := lw_g (lw_at lw_m4 35 rfl) rfl
theorem q942 : (Jvm.Cond.code ({ cls := "BracketRoom$World", name := "copy", desc := "(LBracketRoom$World;)V" } : Jvm.MethodName) prog_8_method_2_code (4 : Nat) (Option.none : Option Jvm.ClassFile.FieldType)) ∈ lw_all := lw_g (lw_at lw_m4 36 rfl) rfl
theorem q943 : (Jvm.Cond.methodLink "BracketRoom$World" (23 : Nat) ({ cls := "java/lang/System", name := "arraycopy", desc := "(Ljava/lang/Object;ILjava/lang/Object;II)V" } : Jvm.MethodName)) ∈ lw_all := lw_g (lw_at lw_m4 37 rfl) rfl
theorem q1041 : (Jvm.Cond.instanceMethod ({ cls := "BracketRoom$World", name := "vectors", desc := "()I" } : Jvm.MethodName)) ∈ lw_all := lw_g (lw_at lw_m4 135 rfl) rfl
theorem q1042 : (Jvm.Cond.selects "BracketRoom$World" ({ cls := "BracketRoom$World", name := "vectors", desc := "()I" } : Jvm.MethodName) ({ cls := "BracketRoom$World", name := "vectors", desc := "()I" } : Jvm.MethodName)) ∈ lw_all := lw_g (lw_at lw_m4 136 rfl) rfl
theorem q1043 : (Jvm.Cond.code ({ cls := "BracketRoom$World", name := "vectors", desc := "()I" } : Jvm.MethodName) prog_8_method_6_code (3 : Nat) (Option.some Jvm.ClassFile.FieldType.int)) ∈ lw_all := lw_g (lw_at lw_m4 137 rfl) rfl
theorem q1045 : (Jvm.Cond.instanceMethod ({ cls := "BracketRoom$World", name := "parts", desc := "(I[I)V" } : Jvm.MethodName)) ∈ lw_all := lw_g (lw_at lw_m4 139 rfl) rfl
theorem q1046 : (Jvm.Cond.selects "BracketRoom$World" ({ cls := "BracketRoom$World", name := "parts", desc := "(I[I)V" } : Jvm.MethodName) ({ cls := "BracketRoom$World", name := "parts", desc := "(I[I)V" } : Jvm.MethodName)) ∈ lw_all := lw_g (lw_at lw_m4 140 rfl) rfl
theorem q1047 : (Jvm.Cond.code ({ cls := "BracketRoom$World", name := "parts", desc := "(I[I)V" } : Jvm.MethodName) prog_8_method_8_code (5 : Nat) (Option.none : Option Jvm.ClassFile.FieldType)) ∈ lw_all := lw_g (lw_at lw_m4 141 rfl) rfl
theorem q1049 : (Jvm.Cond.instanceMethod ({ cls := "BracketRoom$World", name := "bracket", desc := "([I[I[I)V" } : Jvm.MethodName)) ∈ lw_all := lw_g (lw_at lw_m4 143 rfl) rfl
theorem q1050 : (Jvm.Cond.selects "BracketRoom$World" ({ cls := "BracketRoom$World", name := "bracket", desc := "([I[I[I)V" } : Jvm.MethodName) ({ cls := "BracketRoom$World", name := "bracket", desc := "([I[I[I)V" } : Jvm.MethodName)) ∈ lw_all := lw_g (lw_at lw_m4 144 rfl) rfl
theorem q1051 : (Jvm.Cond.code ({ cls := "BracketRoom$World", name := "bracket", desc := "([I[I[I)V" } : Jvm.MethodName) prog_8_method_10_code (8 : Nat) (Option.none : Option Jvm.ClassFile.FieldType)) ∈ lw_all := lw_g (lw_at lw_m4 145 rfl) rfl
theorem q1053 : (Jvm.Cond.instanceMethod ({ cls := "BracketRoom$World", name := "vector", desc := "([I)I" } : Jvm.MethodName)) ∈ lw_all := lw_g (lw_at lw_m4 147 rfl) rfl
theorem q1054 : (Jvm.Cond.selects "BracketRoom$World" ({ cls := "BracketRoom$World", name := "vector", desc := "([I)I" } : Jvm.MethodName) ({ cls := "BracketRoom$World", name := "vector", desc := "([I)I" } : Jvm.MethodName)) ∈ lw_all := lw_g (lw_at lw_m4 148 rfl) rfl
theorem q1055 : (Jvm.Cond.code ({ cls := "BracketRoom$World", name := "vector", desc := "([I)I" } : Jvm.MethodName) prog_8_method_9_code (4 : Nat) (Option.some Jvm.ClassFile.FieldType.int)) ∈ lw_all := lw_g (lw_at lw_m4 149 rfl) rfl
theorem q1121 : (Jvm.Cond.instanceMethod ({ cls := "BracketRoom$World", name := "inverse", desc := "(I)I" } : Jvm.MethodName)) ∈ lw_all := lw_g (lw_at lw_m4 215 rfl) rfl
theorem q1122 : (Jvm.Cond.selects "BracketRoom$World" ({ cls := "BracketRoom$World", name := "inverse", desc := "(I)I" } : Jvm.MethodName) ({ cls := "BracketRoom$World", name := "inverse", desc := "(I)I" } : Jvm.MethodName)) ∈ lw_all := lw_g (lw_at lw_m4 216 rfl) rfl
theorem q1123 : (Jvm.Cond.code ({ cls := "BracketRoom$World", name := "inverse", desc := "(I)I" } : Jvm.MethodName) prog_8_method_7_code (3 : Nat) (Option.some Jvm.ClassFile.FieldType.int)) ∈ lw_all := lw_g (lw_at lw_m4 217 rfl) rfl
theorem q1175 : (Jvm.Cond.instanceMethod ({ cls := "BracketRoom$World", name := "rank", desc := "([[III)I" } : Jvm.MethodName)) ∈ lw_all := lw_g (lw_at lw_m5 29 rfl) rfl
theorem q1176 : (Jvm.Cond.selects "BracketRoom$World" ({ cls := "BracketRoom$World", name := "rank", desc := "([[III)I" } : Jvm.MethodName) ({ cls := "BracketRoom$World", name := "rank", desc := "([[III)I" } : Jvm.MethodName)) ∈ lw_all := lw_g (lw_at lw_m5 30 rfl) rfl
theorem q1177 : (Jvm.Cond.code ({ cls := "BracketRoom$World", name := "rank", desc := "([[III)I" } : Jvm.MethodName) prog_8_method_12_code (12 : Nat) (Option.some Jvm.ClassFile.FieldType.int)) ∈ lw_all := lw_g (lw_at lw_m5 31 rfl) rfl
theorem q1178 : (Jvm.Cond.methodLink "BracketRoom$World" (39 : Nat) ({ cls := "BracketRoom$World", name := "inverse", desc := "(I)I" } : Jvm.MethodName)) ∈ lw_all := lw_g (lw_at lw_m5 32 rfl) rfl
theorem q1321 : (Jvm.Cond.instanceMethod ({ cls := "BracketRoom$World", name := "isLike", desc := "(LBracketRoom$World;)Z" } : Jvm.MethodName)) ∈ lw_all := lw_g (lw_at lw_m5 175 rfl) rfl
theorem q1322 : (Jvm.Cond.selects "BracketRoom$World" ({ cls := "BracketRoom$World", name := "isLike", desc := "(LBracketRoom$World;)Z" } : Jvm.MethodName) ({ cls := "BracketRoom$World", name := "isLike", desc := "(LBracketRoom$World;)Z" } : Jvm.MethodName)) ∈ lw_all := lw_g (lw_at lw_m5 176 rfl) rfl
theorem q1323 : (Jvm.Cond.code ({ cls := "BracketRoom$World", name := "isLike", desc := "(LBracketRoom$World;)Z" } : Jvm.MethodName) prog_8_method_11_code (2 : Nat) (Option.some Jvm.ClassFile.FieldType.boolean)) ∈ lw_all := lw_g (lw_at lw_m5 177 rfl) rfl
theorem in_X4 : ∀ w ∈ wsX40, w ∈ lw_all := lw_in wsX40 [395, 397, 399] (by decide +kernel) (by decide +kernel)
theorem q195 : (Jvm.Cond.initialized "BracketRoom$Span") ∈ lw_all := lw_g (lw_at lw_m1 9 rfl) rfl
theorem q389 : (Jvm.Cond.fieldLinkNest "BracketRoom$Span" (46 : Nat) "BracketRoom$World" "prime" "I" "BracketRoom") ∈ lw_tbl := lw_at lw_m1 203 rfl
theorem q392 : (Jvm.Cond.fieldLinkNest "BracketRoom$Span" (24 : Nat) "BracketRoom$World" "size" "I" "BracketRoom") ∈ lw_tbl := lw_at lw_m1 206 rfl
theorem q404 : (Jvm.Cond.instantiable "BracketRoom$Span" (3 : Nat)) ∈ lw_all := lw_g (lw_at lw_m1 218 rfl) rfl
theorem q406 : (Jvm.Cond.instanceMethod ({ cls := "BracketRoom$Span", name := "<init>", desc := "()V" } : Jvm.MethodName)) ∈ lw_all := lw_g (lw_at lw_m1 220 rfl) rfl
theorem q407 : (Jvm.Cond.code ({ cls := "BracketRoom$Span", name := "<init>", desc := "()V" } : Jvm.MethodName) prog_5_method_1_code (1 : Nat) (Option.none : Option Jvm.ClassFile.FieldType)) ∈ lw_all := lw_g (lw_at lw_m1 221 rfl) rfl
theorem q408 : (Jvm.Cond.methodLink "BracketRoom$Span" (3 : Nat) ({ cls := "java/lang/Object", name := "<init>", desc := "()V" } : Jvm.MethodName)) ∈ lw_all := lw_g (lw_at lw_m1 222 rfl) rfl
theorem q409 : (Jvm.Cond.classLink "BracketRoom$Span" (9 : Nat) "[[I") ∈ lw_all := lw_g (lw_at lw_m1 223 rfl) rfl
theorem q410 : (Jvm.Cond.fieldLink "BracketRoom$Span" (11 : Nat) "BracketRoom$Span" "rows" "[[I") ∈ lw_all := lw_g (lw_at lw_m1 224 rfl) rfl
theorem q412 : (Jvm.Cond.fieldLink "BracketRoom$Span" (16 : Nat) "BracketRoom$Span" "leads" "[I") ∈ lw_all := lw_g (lw_at lw_m1 226 rfl) rfl
theorem q414 : (Jvm.Cond.fieldLink "BracketRoom$Span" (20 : Nat) "BracketRoom$Span" "many" "I") ∈ lw_all := lw_g (lw_at lw_m1 228 rfl) rfl
theorem q416 : (Jvm.Cond.laysFinal "BracketRoom$Span" "BracketRoom$Span" "rows" "[[I") ∈ lw_all := lw_g (lw_at lw_m1 230 rfl) rfl
theorem q417 : (Jvm.Cond.soleField "BracketRoom$Span" "rows") ∈ lw_all := lw_g (lw_at lw_m1 231 rfl) rfl
theorem q418 : (Jvm.Cond.laysFinal "BracketRoom$Span" "BracketRoom$Span" "leads" "[I") ∈ lw_all := lw_g (lw_at lw_m1 232 rfl) rfl
theorem q419 : (Jvm.Cond.soleField "BracketRoom$Span" "leads") ∈ lw_all := lw_g (lw_at lw_m1 233 rfl) rfl
theorem q420 : (Jvm.Cond.lays "BracketRoom$Span" "BracketRoom$Span" "many" "I") ∈ lw_all := lw_g (lw_at lw_m1 234 rfl) rfl
theorem q421 : (Jvm.Cond.soleField "BracketRoom$Span" "many") ∈ lw_all := lw_g (lw_at lw_m1 235 rfl) rfl
theorem q422 : (Jvm.Cond.superclass "BracketRoom$Span" "java/lang/Object") ∈ lw_all := lw_g (lw_at lw_m1 236 rfl) rfl
theorem q1112 : (Jvm.Cond.instanceMethod ({ cls := "BracketRoom$Span", name := "add", desc := "(LBracketRoom$World;[I)Z" } : Jvm.MethodName)) ∈ lw_all := lw_g (lw_at lw_m4 206 rfl) rfl
theorem q1113 : (Jvm.Cond.selects "BracketRoom$Span" ({ cls := "BracketRoom$Span", name := "add", desc := "(LBracketRoom$World;[I)Z" } : Jvm.MethodName) ({ cls := "BracketRoom$Span", name := "add", desc := "(LBracketRoom$World;[I)Z" } : Jvm.MethodName)) ∈ lw_all := lw_g (lw_at lw_m4 207 rfl) rfl
theorem q1114 : (Jvm.Cond.code ({ cls := "BracketRoom$Span", name := "add", desc := "(LBracketRoom$World;[I)Z" } : Jvm.MethodName) prog_5_method_4_code (8 : Nat) (Option.some Jvm.ClassFile.FieldType.boolean)) ∈ lw_all := lw_g (lw_at lw_m4 208 rfl) rfl
theorem q1115 : (Jvm.Cond.methodLink "BracketRoom$Span" (39 : Nat) ({ cls := "BracketRoom$Span", name := "reduce", desc := "(LBracketRoom$World;[I)V" } : Jvm.MethodName)) ∈ lw_all := lw_g (lw_at lw_m4 209 rfl) rfl
theorem q1116 : (Jvm.Cond.instanceMethod ({ cls := "BracketRoom$Span", name := "reduce", desc := "(LBracketRoom$World;[I)V" } : Jvm.MethodName)) ∈ lw_all := lw_g (lw_at lw_m4 210 rfl) rfl
theorem q1117 : (Jvm.Cond.selects "BracketRoom$Span" ({ cls := "BracketRoom$Span", name := "reduce", desc := "(LBracketRoom$World;[I)V" } : Jvm.MethodName) ({ cls := "BracketRoom$Span", name := "reduce", desc := "(LBracketRoom$World;[I)V" } : Jvm.MethodName)) ∈ lw_all := lw_g (lw_at lw_m4 211 rfl) rfl
theorem q1118 : (Jvm.Cond.code ({ cls := "BracketRoom$Span", name := "reduce", desc := "(LBracketRoom$World;[I)V" } : Jvm.MethodName) prog_5_method_2_code (6 : Nat) (Option.none : Option Jvm.ClassFile.FieldType)) ∈ lw_all := lw_g (lw_at lw_m4 212 rfl) rfl
theorem q1119 : (Jvm.Cond.methodLink "BracketRoom$Span" (29 : Nat) ({ cls := "BracketRoom$World", name := "by", desc := "(I)I" } : Jvm.MethodName)) ∈ lw_all := lw_g (lw_at lw_m4 213 rfl) rfl
theorem q1120 : (Jvm.Cond.methodLink "BracketRoom$Span" (43 : Nat) ({ cls := "BracketRoom$World", name := "inverse", desc := "(I)I" } : Jvm.MethodName)) ∈ lw_all := lw_g (lw_at lw_m4 214 rfl) rfl
theorem q1124 : (Jvm.Cond.methodLink "BracketRoom$Span" (33 : Nat) ({ cls := "java/lang/System", name := "arraycopy", desc := "(Ljava/lang/Object;ILjava/lang/Object;II)V" } : Jvm.MethodName)) ∈ lw_all := lw_g (lw_at lw_m4 218 rfl) rfl
theorem q1130 : (Jvm.Cond.instanceMethod ({ cls := "BracketRoom$Span", name := "all", desc := "(LBracketRoom$World;)V" } : Jvm.MethodName)) ∈ lw_all := lw_g (lw_at lw_m4 224 rfl) rfl
theorem q1131 : (Jvm.Cond.selects "BracketRoom$Span" ({ cls := "BracketRoom$Span", name := "all", desc := "(LBracketRoom$World;)V" } : Jvm.MethodName) ({ cls := "BracketRoom$Span", name := "all", desc := "(LBracketRoom$World;)V" } : Jvm.MethodName)) ∈ lw_all := lw_g (lw_at lw_m4 225 rfl) rfl
theorem q1132 : (Jvm.Cond.code ({ cls := "BracketRoom$Span", name := "all", desc := "(LBracketRoom$World;)V" } : Jvm.MethodName) prog_5_method_6_code (4 : Nat) (Option.none : Option Jvm.ClassFile.FieldType)) ∈ lw_all := lw_g (lw_at lw_m4 226 rfl) rfl
theorem q1151 : (Jvm.Cond.instanceMethod ({ cls := "BracketRoom$Span", name := "copy", desc := "(LBracketRoom$Span;)V" } : Jvm.MethodName)) ∈ lw_all := lw_g (lw_at lw_m5 5 rfl) rfl
theorem q1152 : (Jvm.Cond.selects "BracketRoom$Span" ({ cls := "BracketRoom$Span", name := "copy", desc := "(LBracketRoom$Span;)V" } : Jvm.MethodName) ({ cls := "BracketRoom$Span", name := "copy", desc := "(LBracketRoom$Span;)V" } : Jvm.MethodName)) ∈ lw_all := lw_g (lw_at lw_m5 6 rfl) rfl
theorem q1153 : (Jvm.Cond.code ({ cls := "BracketRoom$Span", name := "copy", desc := "(LBracketRoom$Span;)V" } : Jvm.MethodName) prog_5_method_5_code (3 : Nat) (Option.none : Option Jvm.ClassFile.FieldType)) ∈ lw_all := lw_g (lw_at lw_m5 7 rfl) rfl
theorem q1226 : (Jvm.Cond.instanceMethod ({ cls := "BracketRoom$Span", name := "holds", desc := "(LBracketRoom$World;[I[I)Z" } : Jvm.MethodName)) ∈ lw_all := lw_g (lw_at lw_m5 80 rfl) rfl
theorem q1227 : (Jvm.Cond.selects "BracketRoom$Span" ({ cls := "BracketRoom$Span", name := "holds", desc := "(LBracketRoom$World;[I[I)Z" } : Jvm.MethodName) ({ cls := "BracketRoom$Span", name := "holds", desc := "(LBracketRoom$World;[I[I)Z" } : Jvm.MethodName)) ∈ lw_all := lw_g (lw_at lw_m5 81 rfl) rfl
theorem q1228 : (Jvm.Cond.code ({ cls := "BracketRoom$Span", name := "holds", desc := "(LBracketRoom$World;[I[I)Z" } : Jvm.MethodName) prog_5_method_3_code (5 : Nat) (Option.some Jvm.ClassFile.FieldType.boolean)) ∈ lw_all := lw_g (lw_at lw_m5 82 rfl) rfl
theorem in_X5 : ∀ w ∈ wsX50, w ∈ lw_all := lw_in wsX50 [416, 418, 420] (by decide +kernel) (by decide +kernel)
theorem q196 : (Jvm.Cond.initialized "BracketRoom$Tray") ∈ lw_all := lw_g (lw_at lw_m1 10 rfl) rfl
theorem q428 : (Jvm.Cond.instantiable "BracketRoom$Tray" (2 : Nat)) ∈ lw_all := lw_g (lw_at lw_m2 2 rfl) rfl
theorem q430 : (Jvm.Cond.instanceMethod ({ cls := "BracketRoom$Tray", name := "<init>", desc := "()V" } : Jvm.MethodName)) ∈ lw_all := lw_g (lw_at lw_m2 4 rfl) rfl
theorem q431 : (Jvm.Cond.code ({ cls := "BracketRoom$Tray", name := "<init>", desc := "()V" } : Jvm.MethodName) prog_7_method_1_code (1 : Nat) (Option.none : Option Jvm.ClassFile.FieldType)) ∈ lw_all := lw_g (lw_at lw_m2 5 rfl) rfl
theorem q432 : (Jvm.Cond.methodLink "BracketRoom$Tray" (1 : Nat) ({ cls := "java/lang/Object", name := "<init>", desc := "()V" } : Jvm.MethodName)) ∈ lw_all := lw_g (lw_at lw_m2 6 rfl) rfl
theorem q433 : (Jvm.Cond.fieldLink "BracketRoom$Tray" (7 : Nat) "BracketRoom$Tray" "row" "Ljava/lang/Object;") ∈ lw_all := lw_g (lw_at lw_m2 7 rfl) rfl
theorem q435 : (Jvm.Cond.fieldLink "BracketRoom$Tray" (13 : Nat) "BracketRoom$Tray" "sort" "I") ∈ lw_all := lw_g (lw_at lw_m2 9 rfl) rfl
theorem q437 : (Jvm.Cond.lays "BracketRoom$Tray" "BracketRoom$Tray" "row" "Ljava/lang/Object;") ∈ lw_all := lw_g (lw_at lw_m2 11 rfl) rfl
theorem q438 : (Jvm.Cond.soleField "BracketRoom$Tray" "row") ∈ lw_all := lw_g (lw_at lw_m2 12 rfl) rfl
theorem q439 : (Jvm.Cond.lays "BracketRoom$Tray" "BracketRoom$Tray" "sort" "I") ∈ lw_all := lw_g (lw_at lw_m2 13 rfl) rfl
theorem q440 : (Jvm.Cond.soleField "BracketRoom$Tray" "sort") ∈ lw_all := lw_g (lw_at lw_m2 14 rfl) rfl
theorem q441 : (Jvm.Cond.superclass "BracketRoom$Tray" "java/lang/Object") ∈ lw_all := lw_g (lw_at lw_m2 15 rfl) rfl
theorem q664 : (Jvm.Cond.instanceMethod ({ cls := "BracketRoom$Tray", name := "make", desc := "(II)V" } : Jvm.MethodName)) ∈ lw_all := lw_g (lw_at lw_m2 238 rfl) rfl
theorem q665 : (Jvm.Cond.selects "BracketRoom$Tray" ({ cls := "BracketRoom$Tray", name := "make", desc := "(II)V" } : Jvm.MethodName) ({ cls := "BracketRoom$Tray", name := "make", desc := "(II)V" } : Jvm.MethodName)) ∈ lw_all := lw_g (lw_at lw_m2 239 rfl) rfl
theorem q666 : (Jvm.Cond.code ({ cls := "BracketRoom$Tray", name := "make", desc := "(II)V" } : Jvm.MethodName) prog_7_method_2_code (4 : Nat) (Option.none : Option Jvm.ClassFile.FieldType)) ∈ lw_all := lw_g (lw_at lw_m3 0 rfl) rfl
theorem q718 : (Jvm.Cond.instanceMethod ({ cls := "BracketRoom$Tray", name := "set", desc := "(IJ)V" } : Jvm.MethodName)) ∈ lw_all := lw_g (lw_at lw_m3 52 rfl) rfl
theorem q719 : (Jvm.Cond.selects "BracketRoom$Tray" ({ cls := "BracketRoom$Tray", name := "set", desc := "(IJ)V" } : Jvm.MethodName) ({ cls := "BracketRoom$Tray", name := "set", desc := "(IJ)V" } : Jvm.MethodName)) ∈ lw_all := lw_g (lw_at lw_m3 53 rfl) rfl
theorem q720 : (Jvm.Cond.code ({ cls := "BracketRoom$Tray", name := "set", desc := "(IJ)V" } : Jvm.MethodName) prog_7_method_5_code (4 : Nat) (Option.none : Option Jvm.ClassFile.FieldType)) ∈ lw_all := lw_g (lw_at lw_m3 54 rfl) rfl
theorem q721 : (Jvm.Cond.classLink "BracketRoom$Tray" (17 : Nat) "[B") ∈ lw_all := lw_g (lw_at lw_m3 55 rfl) rfl
theorem q722 : (Jvm.Cond.classLink "BracketRoom$Tray" (19 : Nat) "[S") ∈ lw_all := lw_g (lw_at lw_m3 56 rfl) rfl
theorem q723 : (Jvm.Cond.classLink "BracketRoom$Tray" (21 : Nat) "[I") ∈ lw_all := lw_g (lw_at lw_m3 57 rfl) rfl
theorem q724 : (Jvm.Cond.classLink "BracketRoom$Tray" (23 : Nat) "[J") ∈ lw_all := lw_g (lw_at lw_m3 58 rfl) rfl
theorem q734 : (Jvm.Cond.instanceMethod ({ cls := "BracketRoom$Tray", name := "get", desc := "(I)J" } : Jvm.MethodName)) ∈ lw_all := lw_g (lw_at lw_m3 68 rfl) rfl
theorem q735 : (Jvm.Cond.selects "BracketRoom$Tray" ({ cls := "BracketRoom$Tray", name := "get", desc := "(I)J" } : Jvm.MethodName) ({ cls := "BracketRoom$Tray", name := "get", desc := "(I)J" } : Jvm.MethodName)) ∈ lw_all := lw_g (lw_at lw_m3 69 rfl) rfl
theorem q736 : (Jvm.Cond.code ({ cls := "BracketRoom$Tray", name := "get", desc := "(I)J" } : Jvm.MethodName) prog_7_method_4_code (2 : Nat) (Option.some Jvm.ClassFile.FieldType.long)) ∈ lw_all := lw_g (lw_at lw_m3 70 rfl) rfl
theorem q1104 : (Jvm.Cond.instanceMethod ({ cls := "BracketRoom$Tray", name := "many", desc := "()I" } : Jvm.MethodName)) ∈ lw_all := lw_g (lw_at lw_m4 198 rfl) rfl
theorem q1105 : (Jvm.Cond.selects "BracketRoom$Tray" ({ cls := "BracketRoom$Tray", name := "many", desc := "()I" } : Jvm.MethodName) ({ cls := "BracketRoom$Tray", name := "many", desc := "()I" } : Jvm.MethodName)) ∈ lw_all := lw_g (lw_at lw_m4 199 rfl) rfl
theorem q1106 : (Jvm.Cond.code ({ cls := "BracketRoom$Tray", name := "many", desc := "()I" } : Jvm.MethodName) prog_7_method_3_code (1 : Nat) (Option.some Jvm.ClassFile.FieldType.int)) ∈ lw_all := lw_g (lw_at lw_m4 200 rfl) rfl
theorem in_X6 : ∀ w ∈ wsX60, w ∈ lw_all := lw_in wsX60 [437, 439] (by decide +kernel) (by decide +kernel)
theorem q197 : (Jvm.Cond.initialized "BracketRoom$Kept") ∈ lw_all := lw_g (lw_at lw_m1 11 rfl) rfl
theorem q442 : (Jvm.Cond.instantiable "BracketRoom$Kept" (5 : Nat)) ∈ lw_all := lw_g (lw_at lw_m2 16 rfl) rfl
theorem q444 : (Jvm.Cond.instanceMethod ({ cls := "BracketRoom$Kept", name := "<init>", desc := "()V" } : Jvm.MethodName)) ∈ lw_all := lw_g (lw_at lw_m2 18 rfl) rfl
theorem q445 : (Jvm.Cond.code ({ cls := "BracketRoom$Kept", name := "<init>", desc := "()V" } : Jvm.MethodName) prog_2_method_1_code (2 : Nat) (Option.none : Option Jvm.ClassFile.FieldType)) ∈ lw_all := lw_g (lw_at lw_m2 19 rfl) rfl
theorem q446 : (Jvm.Cond.methodLink "BracketRoom$Kept" (3 : Nat) ({ cls := "java/lang/Object", name := "<init>", desc := "()V" } : Jvm.MethodName)) ∈ lw_all := lw_g (lw_at lw_m2 20 rfl) rfl
theorem q447 : (Jvm.Cond.classLink "BracketRoom$Kept" (9 : Nat) "BracketRoom$World") ∈ lw_all := lw_g (lw_at lw_m2 21 rfl) rfl
theorem q448 : (Jvm.Cond.methodLinkNest "BracketRoom$Kept" (11 : Nat) ({ cls := "BracketRoom$World", name := "<init>", desc := "()V" } : Jvm.MethodName) "BracketRoom") ∈ lw_tbl := lw_at lw_m2 22 rfl
theorem q449 : (Jvm.Cond.fieldLink "BracketRoom$Kept" (12 : Nat) "BracketRoom$Kept" "world" "LBracketRoom$World;") ∈ lw_all := lw_g (lw_at lw_m2 23 rfl) rfl
theorem q451 : (Jvm.Cond.fieldLink "BracketRoom$Kept" (18 : Nat) "BracketRoom$Kept" "shelves" "[LBracketRoom$World;") ∈ lw_all := lw_g (lw_at lw_m2 25 rfl) rfl
theorem q453 : (Jvm.Cond.fieldLink "BracketRoom$Kept" (22 : Nat) "BracketRoom$Kept" "isHeld" "[Z") ∈ lw_all := lw_g (lw_at lw_m2 27 rfl) rfl
theorem q457 : (Jvm.Cond.laysFinal "BracketRoom$Kept" "BracketRoom$Kept" "world" "LBracketRoom$World;") ∈ lw_all := lw_g (lw_at lw_m2 31 rfl) rfl
theorem q458 : (Jvm.Cond.soleField "BracketRoom$Kept" "world") ∈ lw_all := lw_g (lw_at lw_m2 32 rfl) rfl
theorem q459 : (Jvm.Cond.laysFinal "BracketRoom$Kept" "BracketRoom$Kept" "shelves" "[LBracketRoom$World;") ∈ lw_all := lw_g (lw_at lw_m2 33 rfl) rfl
theorem q460 : (Jvm.Cond.soleField "BracketRoom$Kept" "shelves") ∈ lw_all := lw_g (lw_at lw_m2 34 rfl) rfl
theorem q461 : (Jvm.Cond.laysFinal "BracketRoom$Kept" "BracketRoom$Kept" "isHeld" "[Z") ∈ lw_all := lw_g (lw_at lw_m2 35 rfl) rfl
theorem q462 : (Jvm.Cond.soleField "BracketRoom$Kept" "isHeld") ∈ lw_all := lw_g (lw_at lw_m2 36 rfl) rfl
theorem q463 : (Jvm.Cond.lays "BracketRoom$Kept" "BracketRoom$Kept" "steps" "[LBracketRoom$Step;") ∈ lw_all := lw_g (lw_at lw_m2 37 rfl) rfl
theorem q464 : (Jvm.Cond.soleField "BracketRoom$Kept" "steps") ∈ lw_all := lw_g (lw_at lw_m2 38 rfl) rfl
theorem q465 : (Jvm.Cond.lays "BracketRoom$Kept" "BracketRoom$Kept" "stepMany" "I") ∈ lw_all := lw_g (lw_at lw_m2 39 rfl) rfl
theorem q466 : (Jvm.Cond.soleField "BracketRoom$Kept" "stepMany") ∈ lw_all := lw_g (lw_at lw_m2 40 rfl) rfl
theorem q467 : (Jvm.Cond.superclass "BracketRoom$Kept" "java/lang/Object") ∈ lw_all := lw_g (lw_at lw_m2 41 rfl) rfl
theorem in_X7 : ∀ w ∈ wsX70, w ∈ lw_all := lw_in wsX70 [457, 459, 461, 463, 465] (by decide +kernel) (by decide +kernel)
theorem q198 : (Jvm.Cond.initialized "BracketRoomModel") ∈ lw_all := lw_g (lw_at lw_m1 12 rfl) rfl
theorem q1467 : (Jvm.Cond.instantiable "BracketRoomModel" (71 : Nat)) ∈ lw_all := lw_g (lw_at lw_m6 81 rfl) rfl
theorem q1469 : (Jvm.Cond.instanceMethod ({ cls := "BracketRoomModel", name := "<init>", desc := "()V" } : Jvm.MethodName)) ∈ lw_all := lw_g (lw_at lw_m6 83 rfl) rfl
theorem q1470 : (Jvm.Cond.code ({ cls := "BracketRoomModel", name := "<init>", desc := "()V" } : Jvm.MethodName) prog_11_method_1_code (2 : Nat) (Option.none : Option Jvm.ClassFile.FieldType)) ∈ lw_all := lw_g (lw_at lw_m6 84 rfl) rfl
theorem q1471 : (Jvm.Cond.methodLink "BracketRoomModel" (1 : Nat) ({ cls := "java/lang/Object", name := "<init>", desc := "()V" } : Jvm.MethodName)) ∈ lw_all := lw_g (lw_at lw_m6 85 rfl) rfl
theorem q1472 : (Jvm.Cond.fieldLink "BracketRoomModel" (135 : Nat) "BracketRoomModel" "status" "I") ∈ lw_all := lw_g (lw_at lw_m6 86 rfl) rfl
theorem q1473 : (Jvm.Cond.fieldLink "BracketRoomModel" (132 : Nat) "BracketRoomModel" "thrown" "I") ∈ lw_all := lw_g (lw_at lw_m6 87 rfl) rfl
theorem q1474 : (Jvm.Cond.fieldLink "BracketRoomModel" (138 : Nat) "BracketRoomModel" "above" "J") ∈ lw_all := lw_g (lw_at lw_m6 88 rfl) rfl
theorem q1475 : (Jvm.Cond.fieldLink "BracketRoomModel" (7 : Nat) "BracketRoomModel" "under" "J") ∈ lw_all := lw_g (lw_at lw_m6 89 rfl) rfl
theorem q1476 : (Jvm.Cond.fieldLink "BracketRoomModel" (13 : Nat) "BracketRoomModel" "traySort" "[I") ∈ lw_all := lw_g (lw_at lw_m6 90 rfl) rfl
theorem q1477 : (Jvm.Cond.fieldLink "BracketRoomModel" (17 : Nat) "BracketRoomModel" "trayMany" "[I") ∈ lw_all := lw_g (lw_at lw_m6 91 rfl) rfl
theorem q1478 : (Jvm.Cond.fieldLink "BracketRoomModel" (20 : Nat) "BracketRoomModel" "numbers" "[J") ∈ lw_all := lw_g (lw_at lw_m6 92 rfl) rfl
theorem q1479 : (Jvm.Cond.fieldLink "BracketRoomModel" (24 : Nat) "BracketRoomModel" "tape" "[B") ∈ lw_all := lw_g (lw_at lw_m6 93 rfl) rfl
theorem q1480 : (Jvm.Cond.fieldLink "BracketRoomModel" (237 : Nat) "BracketRoomModel" "taped" "I") ∈ lw_all := lw_g (lw_at lw_m6 94 rfl) rfl
theorem q1481 : (Jvm.Cond.fieldLink "BracketRoomModel" (171 : Nat) "BracketRoomModel" "textEnd" "I") ∈ lw_all := lw_g (lw_at lw_m6 95 rfl) rfl
theorem q1482 : (Jvm.Cond.fieldLink "BracketRoomModel" (28 : Nat) "BracketRoomModel" "faultKind" "I") ∈ lw_all := lw_g (lw_at lw_m6 96 rfl) rfl
theorem q1483 : (Jvm.Cond.fieldLink "BracketRoomModel" (32 : Nat) "BracketRoomModel" "faultAt" "I") ∈ lw_all := lw_g (lw_at lw_m6 97 rfl) rfl
theorem q1484 : (Jvm.Cond.fieldLink "BracketRoomModel" (221 : Nat) "BracketRoomModel" "bad" "I") ∈ lw_all := lw_g (lw_at lw_m6 98 rfl) rfl
theorem q1485 : (Jvm.Cond.fieldLink "BracketRoomModel" (224 : Nat) "BracketRoomModel" "badAt" "I") ∈ lw_all := lw_g (lw_at lw_m6 99 rfl) rfl
theorem q1486 : (Jvm.Cond.fieldLink "BracketRoomModel" (183 : Nat) "BracketRoomModel" "token" "I") ∈ lw_all := lw_g (lw_at lw_m6 100 rfl) rfl
theorem q1487 : (Jvm.Cond.fieldLink "BracketRoomModel" (177 : Nat) "BracketRoomModel" "at" "I") ∈ lw_all := lw_g (lw_at lw_m6 101 rfl) rfl
theorem q1488 : (Jvm.Cond.fieldLink "BracketRoomModel" (174 : Nat) "BracketRoomModel" "behind" "I") ∈ lw_all := lw_g (lw_at lw_m6 102 rfl) rfl
theorem q1489 : (Jvm.Cond.fieldLink "BracketRoomModel" (199 : Nat) "BracketRoomModel" "number" "I") ∈ lw_all := lw_g (lw_at lw_m6 103 rfl) rfl
theorem q1490 : (Jvm.Cond.fieldLink "BracketRoomModel" (189 : Nat) "BracketRoomModel" "word" "J") ∈ lw_all := lw_g (lw_at lw_m6 104 rfl) rfl
theorem q1491 : (Jvm.Cond.fieldLink "BracketRoomModel" (35 : Nat) "BracketRoomModel" "c" "[I") ∈ lw_all := lw_g (lw_at lw_m6 105 rfl) rfl
theorem q1492 : (Jvm.Cond.fieldLink "BracketRoomModel" (38 : Nat) "BracketRoomModel" "fresh" "[I") ∈ lw_all := lw_g (lw_at lw_m6 106 rfl) rfl
theorem q1493 : (Jvm.Cond.fieldLink "BracketRoomModel" (41 : Nat) "BracketRoomModel" "other" "[I") ∈ lw_all := lw_g (lw_at lw_m6 107 rfl) rfl
theorem q1494 : (Jvm.Cond.fieldLink "BracketRoomModel" (44 : Nat) "BracketRoomModel" "newScript" "[I") ∈ lw_all := lw_g (lw_at lw_m6 108 rfl) rfl
theorem q1495 : (Jvm.Cond.fieldLink "BracketRoomModel" (694 : Nat) "BracketRoomModel" "markMany" "I") ∈ lw_all := lw_g (lw_at lw_m6 109 rfl) rfl
theorem q1496 : (Jvm.Cond.fieldLink "BracketRoomModel" (244 : Nat) "BracketRoomModel" "w" "[I") ∈ lw_all := lw_g (lw_at lw_m6 110 rfl) rfl
theorem q1497 : (Jvm.Cond.fieldLink "BracketRoomModel" (247 : Nat) "BracketRoomModel" "base" "I") ∈ lw_all := lw_g (lw_at lw_m6 111 rfl) rfl
theorem q1498 : (Jvm.Cond.fieldLink "BracketRoomModel" (250 : Nat) "BracketRoomModel" "p" "I") ∈ lw_all := lw_g (lw_at lw_m6 112 rfl) rfl
theorem q1499 : (Jvm.Cond.fieldLink "BracketRoomModel" (253 : Nat) "BracketRoomModel" "n" "I") ∈ lw_all := lw_g (lw_at lw_m6 113 rfl) rfl
theorem q1500 : (Jvm.Cond.fieldLink "BracketRoomModel" (47 : Nat) "BracketRoomModel" "spanA" "[I") ∈ lw_all := lw_g (lw_at lw_m6 114 rfl) rfl
theorem q1501 : (Jvm.Cond.fieldLink "BracketRoomModel" (50 : Nat) "BracketRoomModel" "spanB" "[I") ∈ lw_all := lw_g (lw_at lw_m6 115 rfl) rfl
theorem q1502 : (Jvm.Cond.fieldLink "BracketRoomModel" (53 : Nat) "BracketRoomModel" "spanC" "[I") ∈ lw_all := lw_g (lw_at lw_m6 116 rfl) rfl
theorem q1503 : (Jvm.Cond.fieldLink "BracketRoomModel" (56 : Nat) "BracketRoomModel" "spanD" "[I") ∈ lw_all := lw_g (lw_at lw_m6 117 rfl) rfl
theorem q1504 : (Jvm.Cond.fieldLink "BracketRoomModel" (59 : Nat) "BracketRoomModel" "spanE" "[I") ∈ lw_all := lw_g (lw_at lw_m6 118 rfl) rfl
theorem q1505 : (Jvm.Cond.fieldLink "BracketRoomModel" (62 : Nat) "BracketRoomModel" "v1" "[I") ∈ lw_all := lw_g (lw_at lw_m6 119 rfl) rfl
theorem q1506 : (Jvm.Cond.fieldLink "BracketRoomModel" (65 : Nat) "BracketRoomModel" "v2" "[I") ∈ lw_all := lw_g (lw_at lw_m6 120 rfl) rfl
theorem q1507 : (Jvm.Cond.fieldLink "BracketRoomModel" (68 : Nat) "BracketRoomModel" "v3" "[I") ∈ lw_all := lw_g (lw_at lw_m6 121 rfl) rfl
theorem q1508 : (Jvm.Cond.fieldLink "BracketRoomModel" (71 : Nat) "BracketRoomModel" "v4" "[I") ∈ lw_all := lw_g (lw_at lw_m6 122 rfl) rfl
theorem q1509 : (Jvm.Cond.fieldLink "BracketRoomModel" (74 : Nat) "BracketRoomModel" "rows" "[I") ∈ lw_all := lw_g (lw_at lw_m6 123 rfl) rfl
theorem q1510 : (Jvm.Cond.fieldLink "BracketRoomModel" (77 : Nat) "BracketRoomModel" "row" "[I") ∈ lw_all := lw_g (lw_at lw_m6 124 rfl) rfl
theorem q1511 : (Jvm.Cond.fieldLink "BracketRoomModel" (423 : Nat) "BracketRoomModel" "rowMany" "I") ∈ lw_all := lw_g (lw_at lw_m6 125 rfl) rfl
theorem q1512 : (Jvm.Cond.fieldLink "BracketRoomModel" (80 : Nat) "BracketRoomModel" "images" "[I") ∈ lw_all := lw_g (lw_at lw_m6 126 rfl) rfl
theorem q1513 : (Jvm.Cond.fieldLink "BracketRoomModel" (83 : Nat) "BracketRoomModel" "imageSpan" "[I") ∈ lw_all := lw_g (lw_at lw_m6 127 rfl) rfl
theorem q1514 : (Jvm.Cond.fieldLink "BracketRoomModel" (86 : Nat) "BracketRoomModel" "imageMany" "[I") ∈ lw_all := lw_g (lw_at lw_m6 128 rfl) rfl
theorem q1515 : (Jvm.Cond.fieldLink "BracketRoomModel" (555 : Nat) "BracketRoomModel" "tries" "I") ∈ lw_all := lw_g (lw_at lw_m6 129 rfl) rfl
theorem q1516 : (Jvm.Cond.fieldLink "BracketRoomModel" (89 : Nat) "BracketRoomModel" "told" "I") ∈ lw_all := lw_g (lw_at lw_m6 130 rfl) rfl
theorem q1517 : (Jvm.Cond.fieldLink "BracketRoomModel" (545 : Nat) "BracketRoomModel" "mapMany" "I") ∈ lw_all := lw_g (lw_at lw_m6 131 rfl) rfl
theorem q1518 : (Jvm.Cond.fieldLink "BracketRoomModel" (548 : Nat) "BracketRoomModel" "spent" "Z") ∈ lw_all := lw_g (lw_at lw_m6 132 rfl) rfl
theorem q1519 : (Jvm.Cond.fieldLink "BracketRoomModel" (552 : Nat) "BracketRoomModel" "stopsAtFirst" "Z") ∈ lw_all := lw_g (lw_at lw_m6 133 rfl) rfl
theorem q1520 : (Jvm.Cond.fieldLink "BracketRoomModel" (92 : Nat) "BracketRoomModel" "lastRan" "[I") ∈ lw_all := lw_g (lw_at lw_m6 134 rfl) rfl
theorem q1521 : (Jvm.Cond.fieldLink "BracketRoomModel" (691 : Nat) "BracketRoomModel" "hasRan" "Z") ∈ lw_all := lw_g (lw_at lw_m6 135 rfl) rfl
theorem q1522 : (Jvm.Cond.fieldLink "BracketRoomModel" (673 : Nat) "BracketRoomModel" "isOver" "Z") ∈ lw_all := lw_g (lw_at lw_m6 136 rfl) rfl
theorem q1523 : (Jvm.Cond.fieldLink "BracketRoomModel" (667 : Nat) "BracketRoomModel" "done" "I") ∈ lw_all := lw_g (lw_at lw_m6 137 rfl) rfl
theorem q1524 : (Jvm.Cond.fieldLink "BracketRoomModel" (685 : Nat) "BracketRoomModel" "missed" "I") ∈ lw_all := lw_g (lw_at lw_m6 138 rfl) rfl
theorem q1525 : (Jvm.Cond.fieldLink "BracketRoomModel" (670 : Nat) "BracketRoomModel" "leftOver" "I") ∈ lw_all := lw_g (lw_at lw_m6 139 rfl) rfl
theorem q1526 : (Jvm.Cond.fieldLink "BracketRoomModel" (95 : Nat) "BracketRoomModel" "reduced" "[I") ∈ lw_all := lw_g (lw_at lw_m6 140 rfl) rfl
theorem q1527 : (Jvm.Cond.fieldLink "BracketRoomModel" (98 : Nat) "BracketRoomModel" "jacobi" "[I") ∈ lw_all := lw_g (lw_at lw_m6 141 rfl) rfl
theorem q1528 : (Jvm.Cond.fieldLink "BracketRoomModel" (101 : Nat) "BracketRoomModel" "leads" "[I") ∈ lw_all := lw_g (lw_at lw_m6 142 rfl) rfl
theorem q1529 : (Jvm.Cond.fieldLink "BracketRoomModel" (104 : Nat) "BracketRoomModel" "freeRow" "[I") ∈ lw_all := lw_g (lw_at lw_m6 143 rfl) rfl
theorem q1530 : (Jvm.Cond.fieldLink "BracketRoomModel" (107 : Nat) "BracketRoomModel" "freePart" "[I") ∈ lw_all := lw_g (lw_at lw_m6 144 rfl) rfl
theorem q1531 : (Jvm.Cond.fieldLink "BracketRoomModel" (442 : Nat) "BracketRoomModel" "leadMany" "I") ∈ lw_all := lw_g (lw_at lw_m6 145 rfl) rfl
theorem q1532 : (Jvm.Cond.fieldLink "BracketRoomModel" (445 : Nat) "BracketRoomModel" "freeMany" "I") ∈ lw_all := lw_g (lw_at lw_m6 146 rfl) rfl
theorem q1533 : (Jvm.Cond.fieldLink "BracketRoomModel" (110 : Nat) "BracketRoomModel" "matrix" "[I") ∈ lw_all := lw_g (lw_at lw_m6 147 rfl) rfl
theorem q1534 : (Jvm.Cond.fieldLink "BracketRoomModel" (113 : Nat) "BracketRoomModel" "powers" "[I") ∈ lw_all := lw_g (lw_at lw_m6 148 rfl) rfl
theorem q1535 : (Jvm.Cond.fieldLink "BracketRoomModel" (116 : Nat) "BracketRoomModel" "product" "[I") ∈ lw_all := lw_g (lw_at lw_m6 149 rfl) rfl
theorem q1536 : (Jvm.Cond.fieldLink "BracketRoomModel" (536 : Nat) "BracketRoomModel" "source" "[I") ∈ lw_all := lw_g (lw_at lw_m6 150 rfl) rfl
theorem q1537 : (Jvm.Cond.fieldLink "BracketRoomModel" (539 : Nat) "BracketRoomModel" "sourceFrom" "I") ∈ lw_all := lw_g (lw_at lw_m6 151 rfl) rfl
theorem q1538 : (Jvm.Cond.fieldLink "BracketRoomModel" (119 : Nat) "BracketRoomModel" "base5" "[I") ∈ lw_all := lw_g (lw_at lw_m6 152 rfl) rfl
theorem q1539 : (Jvm.Cond.fieldLink "BracketRoomModel" (122 : Nat) "BracketRoomModel" "back5" "[I") ∈ lw_all := lw_g (lw_at lw_m6 153 rfl) rfl
theorem q1540 : (Jvm.Cond.fieldLink "BracketRoomModel" (125 : Nat) "BracketRoomModel" "seen" "[Z") ∈ lw_all := lw_g (lw_at lw_m6 154 rfl) rfl
theorem q1541 : (Jvm.Cond.fieldLink "BracketRoomModel" (129 : Nat) "BracketRoomModel" "one" "[I") ∈ lw_all := lw_g (lw_at lw_m6 155 rfl) rfl
theorem q1542 : (Jvm.Cond.fieldLink "BracketRoomModel" (649 : Nat) "BracketRoomModel" "newSteps" "I") ∈ lw_all := lw_g (lw_at lw_m6 156 rfl) rfl
theorem q1543 : (Jvm.Cond.lays "BracketRoomModel" "BracketRoomModel" "status" "I") ∈ lw_all := lw_g (lw_at lw_m6 157 rfl) rfl
theorem q1544 : (Jvm.Cond.soleField "BracketRoomModel" "status") ∈ lw_all := lw_g (lw_at lw_m6 158 rfl) rfl
theorem q1545 : (Jvm.Cond.lays "BracketRoomModel" "BracketRoomModel" "thrown" "I") ∈ lw_all := lw_g (lw_at lw_m6 159 rfl) rfl
theorem q1546 : (Jvm.Cond.soleField "BracketRoomModel" "thrown") ∈ lw_all := lw_g (lw_at lw_m6 160 rfl) rfl
theorem q1547 : (Jvm.Cond.lays "BracketRoomModel" "BracketRoomModel" "above" "J") ∈ lw_all := lw_g (lw_at lw_m6 161 rfl) rfl
theorem q1548 : (Jvm.Cond.soleField "BracketRoomModel" "above") ∈ lw_all := lw_g (lw_at lw_m6 162 rfl) rfl
theorem q1549 : (Jvm.Cond.lays "BracketRoomModel" "BracketRoomModel" "under" "J") ∈ lw_all := lw_g (lw_at lw_m6 163 rfl) rfl
theorem q1550 : (Jvm.Cond.soleField "BracketRoomModel" "under") ∈ lw_all := lw_g (lw_at lw_m6 164 rfl) rfl
theorem q1551 : (Jvm.Cond.laysFinal "BracketRoomModel" "BracketRoomModel" "traySort" "[I") ∈ lw_all := lw_g (lw_at lw_m6 165 rfl) rfl
theorem q1552 : (Jvm.Cond.soleField "BracketRoomModel" "traySort") ∈ lw_all := lw_g (lw_at lw_m6 166 rfl) rfl
theorem q1553 : (Jvm.Cond.laysFinal "BracketRoomModel" "BracketRoomModel" "trayMany" "[I") ∈ lw_all := lw_g (lw_at lw_m6 167 rfl) rfl
theorem q1554 : (Jvm.Cond.soleField "BracketRoomModel" "trayMany") ∈ lw_all := lw_g (lw_at lw_m6 168 rfl) rfl
theorem q1555 : (Jvm.Cond.laysFinal "BracketRoomModel" "BracketRoomModel" "numbers" "[J") ∈ lw_all := lw_g (lw_at lw_m6 169 rfl) rfl
theorem q1556 : (Jvm.Cond.soleField "BracketRoomModel" "numbers") ∈ lw_all := lw_g (lw_at lw_m6 170 rfl) rfl
theorem q1557 : (Jvm.Cond.laysFinal "BracketRoomModel" "BracketRoomModel" "tape" "[B") ∈ lw_all := lw_g (lw_at lw_m6 171 rfl) rfl
theorem q1558 : (Jvm.Cond.soleField "BracketRoomModel" "tape") ∈ lw_all := lw_g (lw_at lw_m6 172 rfl) rfl
theorem q1559 : (Jvm.Cond.lays "BracketRoomModel" "BracketRoomModel" "taped" "I") ∈ lw_all := lw_g (lw_at lw_m6 173 rfl) rfl
theorem q1560 : (Jvm.Cond.soleField "BracketRoomModel" "taped") ∈ lw_all := lw_g (lw_at lw_m6 174 rfl) rfl
theorem q1561 : (Jvm.Cond.lays "BracketRoomModel" "BracketRoomModel" "textEnd" "I") ∈ lw_all := lw_g (lw_at lw_m6 175 rfl) rfl
theorem q1562 : (Jvm.Cond.soleField "BracketRoomModel" "textEnd") ∈ lw_all := lw_g (lw_at lw_m6 176 rfl) rfl
theorem q1563 : (Jvm.Cond.lays "BracketRoomModel" "BracketRoomModel" "faultKind" "I") ∈ lw_all := lw_g (lw_at lw_m6 177 rfl) rfl
theorem q1564 : (Jvm.Cond.soleField "BracketRoomModel" "faultKind") ∈ lw_all := lw_g (lw_at lw_m6 178 rfl) rfl
theorem q1565 : (Jvm.Cond.lays "BracketRoomModel" "BracketRoomModel" "faultAt" "I") ∈ lw_all := lw_g (lw_at lw_m6 179 rfl) rfl
theorem q1566 : (Jvm.Cond.soleField "BracketRoomModel" "faultAt") ∈ lw_all := lw_g (lw_at lw_m6 180 rfl) rfl
theorem q1567 : (Jvm.Cond.lays "BracketRoomModel" "BracketRoomModel" "bad" "I") ∈ lw_all := lw_g (lw_at lw_m6 181 rfl) rfl
theorem q1568 : (Jvm.Cond.soleField "BracketRoomModel" "bad") ∈ lw_all := lw_g (lw_at lw_m6 182 rfl) rfl
theorem q1569 : (Jvm.Cond.lays "BracketRoomModel" "BracketRoomModel" "badAt" "I") ∈ lw_all := lw_g (lw_at lw_m6 183 rfl) rfl
theorem q1570 : (Jvm.Cond.soleField "BracketRoomModel" "badAt") ∈ lw_all := lw_g (lw_at lw_m6 184 rfl) rfl
theorem q1571 : (Jvm.Cond.lays "BracketRoomModel" "BracketRoomModel" "token" "I") ∈ lw_all := lw_g (lw_at lw_m6 185 rfl) rfl
theorem q1572 : (Jvm.Cond.soleField "BracketRoomModel" "token") ∈ lw_all := lw_g (lw_at lw_m6 186 rfl) rfl
theorem q1573 : (Jvm.Cond.lays "BracketRoomModel" "BracketRoomModel" "at" "I") ∈ lw_all := lw_g (lw_at lw_m6 187 rfl) rfl
theorem q1574 : (Jvm.Cond.soleField "BracketRoomModel" "at") ∈ lw_all := lw_g (lw_at lw_m6 188 rfl) rfl
theorem q1575 : (Jvm.Cond.lays "BracketRoomModel" "BracketRoomModel" "behind" "I") ∈ lw_all := lw_g (lw_at lw_m6 189 rfl) rfl
theorem q1576 : (Jvm.Cond.soleField "BracketRoomModel" "behind") ∈ lw_all := lw_g (lw_at lw_m6 190 rfl) rfl
theorem q1577 : (Jvm.Cond.lays "BracketRoomModel" "BracketRoomModel" "number" "I") ∈ lw_all := lw_g (lw_at lw_m6 191 rfl) rfl
theorem q1578 : (Jvm.Cond.soleField "BracketRoomModel" "number") ∈ lw_all := lw_g (lw_at lw_m6 192 rfl) rfl
theorem q1579 : (Jvm.Cond.lays "BracketRoomModel" "BracketRoomModel" "word" "J") ∈ lw_all := lw_g (lw_at lw_m6 193 rfl) rfl
theorem q1580 : (Jvm.Cond.soleField "BracketRoomModel" "word") ∈ lw_all := lw_g (lw_at lw_m6 194 rfl) rfl
theorem q1581 : (Jvm.Cond.laysFinal "BracketRoomModel" "BracketRoomModel" "c" "[I") ∈ lw_all := lw_g (lw_at lw_m6 195 rfl) rfl
theorem q1582 : (Jvm.Cond.soleField "BracketRoomModel" "c") ∈ lw_all := lw_g (lw_at lw_m6 196 rfl) rfl
theorem q1583 : (Jvm.Cond.laysFinal "BracketRoomModel" "BracketRoomModel" "fresh" "[I") ∈ lw_all := lw_g (lw_at lw_m6 197 rfl) rfl
theorem q1584 : (Jvm.Cond.soleField "BracketRoomModel" "fresh") ∈ lw_all := lw_g (lw_at lw_m6 198 rfl) rfl
theorem q1585 : (Jvm.Cond.laysFinal "BracketRoomModel" "BracketRoomModel" "other" "[I") ∈ lw_all := lw_g (lw_at lw_m6 199 rfl) rfl
theorem q1586 : (Jvm.Cond.soleField "BracketRoomModel" "other") ∈ lw_all := lw_g (lw_at lw_m6 200 rfl) rfl
theorem q1587 : (Jvm.Cond.laysFinal "BracketRoomModel" "BracketRoomModel" "newScript" "[I") ∈ lw_all := lw_g (lw_at lw_m6 201 rfl) rfl
theorem q1588 : (Jvm.Cond.soleField "BracketRoomModel" "newScript") ∈ lw_all := lw_g (lw_at lw_m6 202 rfl) rfl
theorem q1589 : (Jvm.Cond.lays "BracketRoomModel" "BracketRoomModel" "markMany" "I") ∈ lw_all := lw_g (lw_at lw_m6 203 rfl) rfl
theorem q1590 : (Jvm.Cond.soleField "BracketRoomModel" "markMany") ∈ lw_all := lw_g (lw_at lw_m6 204 rfl) rfl
theorem q1591 : (Jvm.Cond.lays "BracketRoomModel" "BracketRoomModel" "w" "[I") ∈ lw_all := lw_g (lw_at lw_m6 205 rfl) rfl
theorem q1592 : (Jvm.Cond.soleField "BracketRoomModel" "w") ∈ lw_all := lw_g (lw_at lw_m6 206 rfl) rfl
theorem q1593 : (Jvm.Cond.lays "BracketRoomModel" "BracketRoomModel" "base" "I") ∈ lw_all := lw_g (lw_at lw_m6 207 rfl) rfl
theorem q1594 : (Jvm.Cond.soleField "BracketRoomModel" "base") ∈ lw_all := lw_g (lw_at lw_m6 208 rfl) rfl
theorem q1595 : (Jvm.Cond.lays "BracketRoomModel" "BracketRoomModel" "p" "I") ∈ lw_all := lw_g (lw_at lw_m6 209 rfl) rfl
theorem q1596 : (Jvm.Cond.soleField "BracketRoomModel" "p") ∈ lw_all := lw_g (lw_at lw_m6 210 rfl) rfl
theorem q1597 : (Jvm.Cond.lays "BracketRoomModel" "BracketRoomModel" "n" "I") ∈ lw_all := lw_g (lw_at lw_m6 211 rfl) rfl
theorem q1598 : (Jvm.Cond.soleField "BracketRoomModel" "n") ∈ lw_all := lw_g (lw_at lw_m6 212 rfl) rfl
theorem q1599 : (Jvm.Cond.laysFinal "BracketRoomModel" "BracketRoomModel" "spanA" "[I") ∈ lw_all := lw_g (lw_at lw_m6 213 rfl) rfl
theorem q1600 : (Jvm.Cond.soleField "BracketRoomModel" "spanA") ∈ lw_all := lw_g (lw_at lw_m6 214 rfl) rfl
theorem q1601 : (Jvm.Cond.laysFinal "BracketRoomModel" "BracketRoomModel" "spanB" "[I") ∈ lw_all := lw_g (lw_at lw_m6 215 rfl) rfl
theorem q1602 : (Jvm.Cond.soleField "BracketRoomModel" "spanB") ∈ lw_all := lw_g (lw_at lw_m6 216 rfl) rfl
theorem q1603 : (Jvm.Cond.laysFinal "BracketRoomModel" "BracketRoomModel" "spanC" "[I") ∈ lw_all := lw_g (lw_at lw_m6 217 rfl) rfl
theorem q1604 : (Jvm.Cond.soleField "BracketRoomModel" "spanC") ∈ lw_all := lw_g (lw_at lw_m6 218 rfl) rfl
theorem q1605 : (Jvm.Cond.laysFinal "BracketRoomModel" "BracketRoomModel" "spanD" "[I") ∈ lw_all := lw_g (lw_at lw_m6 219 rfl) rfl
theorem q1606 : (Jvm.Cond.soleField "BracketRoomModel" "spanD") ∈ lw_all := lw_g (lw_at lw_m6 220 rfl) rfl
theorem q1607 : (Jvm.Cond.laysFinal "BracketRoomModel" "BracketRoomModel" "spanE" "[I") ∈ lw_all := lw_g (lw_at lw_m6 221 rfl) rfl
theorem q1608 : (Jvm.Cond.soleField "BracketRoomModel" "spanE") ∈ lw_all := lw_g (lw_at lw_m6 222 rfl) rfl
theorem q1609 : (Jvm.Cond.laysFinal "BracketRoomModel" "BracketRoomModel" "v1" "[I") ∈ lw_all := lw_g (lw_at lw_m6 223 rfl) rfl
theorem q1610 : (Jvm.Cond.soleField "BracketRoomModel" "v1") ∈ lw_all := lw_g (lw_at lw_m6 224 rfl) rfl
theorem q1611 : (Jvm.Cond.laysFinal "BracketRoomModel" "BracketRoomModel" "v2" "[I") ∈ lw_all := lw_g (lw_at lw_m6 225 rfl) rfl
theorem q1612 : (Jvm.Cond.soleField "BracketRoomModel" "v2") ∈ lw_all := lw_g (lw_at lw_m6 226 rfl) rfl
theorem q1613 : (Jvm.Cond.laysFinal "BracketRoomModel" "BracketRoomModel" "v3" "[I") ∈ lw_all := lw_g (lw_at lw_m6 227 rfl) rfl
theorem q1614 : (Jvm.Cond.soleField "BracketRoomModel" "v3") ∈ lw_all := lw_g (lw_at lw_m6 228 rfl) rfl
theorem q1615 : (Jvm.Cond.laysFinal "BracketRoomModel" "BracketRoomModel" "v4" "[I") ∈ lw_all := lw_g (lw_at lw_m6 229 rfl) rfl
theorem q1616 : (Jvm.Cond.soleField "BracketRoomModel" "v4") ∈ lw_all := lw_g (lw_at lw_m6 230 rfl) rfl
theorem q1617 : (Jvm.Cond.laysFinal "BracketRoomModel" "BracketRoomModel" "rows" "[I") ∈ lw_all := lw_g (lw_at lw_m6 231 rfl) rfl
theorem q1618 : (Jvm.Cond.soleField "BracketRoomModel" "rows") ∈ lw_all := lw_g (lw_at lw_m6 232 rfl) rfl
theorem q1619 : (Jvm.Cond.laysFinal "BracketRoomModel" "BracketRoomModel" "row" "[I") ∈ lw_all := lw_g (lw_at lw_m6 233 rfl) rfl
theorem q1620 : (Jvm.Cond.soleField "BracketRoomModel" "row") ∈ lw_all := lw_g (lw_at lw_m6 234 rfl) rfl
theorem q1621 : (Jvm.Cond.lays "BracketRoomModel" "BracketRoomModel" "rowMany" "I") ∈ lw_all := lw_g (lw_at lw_m6 235 rfl) rfl
theorem q1622 : (Jvm.Cond.soleField "BracketRoomModel" "rowMany") ∈ lw_all := lw_g (lw_at lw_m6 236 rfl) rfl
theorem q1623 : (Jvm.Cond.laysFinal "BracketRoomModel" "BracketRoomModel" "images" "[I") ∈ lw_all := lw_g (lw_at lw_m6 237 rfl) rfl
theorem q1624 : (Jvm.Cond.soleField "BracketRoomModel" "images") ∈ lw_all := lw_g (lw_at lw_m6 238 rfl) rfl
theorem q1625 : (Jvm.Cond.laysFinal "BracketRoomModel" "BracketRoomModel" "imageSpan" "[I") ∈ lw_all := lw_g (lw_at lw_m6 239 rfl) rfl
theorem q1626 : (Jvm.Cond.soleField "BracketRoomModel" "imageSpan") ∈ lw_all := lw_g (lw_at lw_m7 0 rfl) rfl
theorem q1627 : (Jvm.Cond.laysFinal "BracketRoomModel" "BracketRoomModel" "imageMany" "[I") ∈ lw_all := lw_g (lw_at lw_m7 1 rfl) rfl
theorem q1628 : (Jvm.Cond.soleField "BracketRoomModel" "imageMany") ∈ lw_all := lw_g (lw_at lw_m7 2 rfl) rfl
theorem q1629 : (Jvm.Cond.lays "BracketRoomModel" "BracketRoomModel" "tries" "I") ∈ lw_all := lw_g (lw_at lw_m7 3 rfl) rfl
theorem q1630 : (Jvm.Cond.soleField "BracketRoomModel" "tries") ∈ lw_all := lw_g (lw_at lw_m7 4 rfl) rfl
theorem q1631 : (Jvm.Cond.lays "BracketRoomModel" "BracketRoomModel" "told" "I") ∈ lw_all := lw_g (lw_at lw_m7 5 rfl) rfl
theorem q1632 : (Jvm.Cond.soleField "BracketRoomModel" "told") ∈ lw_all := lw_g (lw_at lw_m7 6 rfl) rfl
theorem q1633 : (Jvm.Cond.lays "BracketRoomModel" "BracketRoomModel" "mapMany" "I") ∈ lw_all := lw_g (lw_at lw_m7 7 rfl) rfl
theorem q1634 : (Jvm.Cond.soleField "BracketRoomModel" "mapMany") ∈ lw_all := lw_g (lw_at lw_m7 8 rfl) rfl
theorem q1635 : (Jvm.Cond.lays "BracketRoomModel" "BracketRoomModel" "spent" "Z") ∈ lw_all := lw_g (lw_at lw_m7 9 rfl) rfl
theorem q1636 : (Jvm.Cond.soleField "BracketRoomModel" "spent") ∈ lw_all := lw_g (lw_at lw_m7 10 rfl) rfl
theorem q1637 : (Jvm.Cond.lays "BracketRoomModel" "BracketRoomModel" "stopsAtFirst" "Z") ∈ lw_all := lw_g (lw_at lw_m7 11 rfl) rfl
theorem q1638 : (Jvm.Cond.soleField "BracketRoomModel" "stopsAtFirst") ∈ lw_all := lw_g (lw_at lw_m7 12 rfl) rfl
theorem q1639 : (Jvm.Cond.laysFinal "BracketRoomModel" "BracketRoomModel" "lastRan" "[I") ∈ lw_all := lw_g (lw_at lw_m7 13 rfl) rfl
theorem q1640 : (Jvm.Cond.soleField "BracketRoomModel" "lastRan") ∈ lw_all := lw_g (lw_at lw_m7 14 rfl) rfl
theorem q1641 : (Jvm.Cond.lays "BracketRoomModel" "BracketRoomModel" "hasRan" "Z") ∈ lw_all := lw_g (lw_at lw_m7 15 rfl) rfl
theorem q1642 : (Jvm.Cond.soleField "BracketRoomModel" "hasRan") ∈ lw_all := lw_g (lw_at lw_m7 16 rfl) rfl
theorem q1643 : (Jvm.Cond.lays "BracketRoomModel" "BracketRoomModel" "isOver" "Z") ∈ lw_all := lw_g (lw_at lw_m7 17 rfl) rfl
theorem q1644 : (Jvm.Cond.soleField "BracketRoomModel" "isOver") ∈ lw_all := lw_g (lw_at lw_m7 18 rfl) rfl
theorem q1645 : (Jvm.Cond.lays "BracketRoomModel" "BracketRoomModel" "done" "I") ∈ lw_all := lw_g (lw_at lw_m7 19 rfl) rfl
theorem q1646 : (Jvm.Cond.soleField "BracketRoomModel" "done") ∈ lw_all := lw_g (lw_at lw_m7 20 rfl) rfl
theorem q1647 : (Jvm.Cond.lays "BracketRoomModel" "BracketRoomModel" "missed" "I") ∈ lw_all := lw_g (lw_at lw_m7 21 rfl) rfl
theorem q1648 : (Jvm.Cond.soleField "BracketRoomModel" "missed") ∈ lw_all := lw_g (lw_at lw_m7 22 rfl) rfl
theorem q1649 : (Jvm.Cond.lays "BracketRoomModel" "BracketRoomModel" "leftOver" "I") ∈ lw_all := lw_g (lw_at lw_m7 23 rfl) rfl
theorem q1650 : (Jvm.Cond.soleField "BracketRoomModel" "leftOver") ∈ lw_all := lw_g (lw_at lw_m7 24 rfl) rfl
theorem q1651 : (Jvm.Cond.laysFinal "BracketRoomModel" "BracketRoomModel" "reduced" "[I") ∈ lw_all := lw_g (lw_at lw_m7 25 rfl) rfl
theorem q1652 : (Jvm.Cond.soleField "BracketRoomModel" "reduced") ∈ lw_all := lw_g (lw_at lw_m7 26 rfl) rfl
theorem q1653 : (Jvm.Cond.laysFinal "BracketRoomModel" "BracketRoomModel" "jacobi" "[I") ∈ lw_all := lw_g (lw_at lw_m7 27 rfl) rfl
theorem q1654 : (Jvm.Cond.soleField "BracketRoomModel" "jacobi") ∈ lw_all := lw_g (lw_at lw_m7 28 rfl) rfl
theorem q1655 : (Jvm.Cond.laysFinal "BracketRoomModel" "BracketRoomModel" "leads" "[I") ∈ lw_all := lw_g (lw_at lw_m7 29 rfl) rfl
theorem q1656 : (Jvm.Cond.soleField "BracketRoomModel" "leads") ∈ lw_all := lw_g (lw_at lw_m7 30 rfl) rfl
theorem q1657 : (Jvm.Cond.laysFinal "BracketRoomModel" "BracketRoomModel" "freeRow" "[I") ∈ lw_all := lw_g (lw_at lw_m7 31 rfl) rfl
theorem q1658 : (Jvm.Cond.soleField "BracketRoomModel" "freeRow") ∈ lw_all := lw_g (lw_at lw_m7 32 rfl) rfl
theorem q1659 : (Jvm.Cond.laysFinal "BracketRoomModel" "BracketRoomModel" "freePart" "[I") ∈ lw_all := lw_g (lw_at lw_m7 33 rfl) rfl
theorem q1660 : (Jvm.Cond.soleField "BracketRoomModel" "freePart") ∈ lw_all := lw_g (lw_at lw_m7 34 rfl) rfl
theorem q1661 : (Jvm.Cond.lays "BracketRoomModel" "BracketRoomModel" "leadMany" "I") ∈ lw_all := lw_g (lw_at lw_m7 35 rfl) rfl
theorem q1662 : (Jvm.Cond.soleField "BracketRoomModel" "leadMany") ∈ lw_all := lw_g (lw_at lw_m7 36 rfl) rfl
theorem q1663 : (Jvm.Cond.lays "BracketRoomModel" "BracketRoomModel" "freeMany" "I") ∈ lw_all := lw_g (lw_at lw_m7 37 rfl) rfl
theorem q1664 : (Jvm.Cond.soleField "BracketRoomModel" "freeMany") ∈ lw_all := lw_g (lw_at lw_m7 38 rfl) rfl
theorem q1665 : (Jvm.Cond.laysFinal "BracketRoomModel" "BracketRoomModel" "matrix" "[I") ∈ lw_all := lw_g (lw_at lw_m7 39 rfl) rfl
theorem q1666 : (Jvm.Cond.soleField "BracketRoomModel" "matrix") ∈ lw_all := lw_g (lw_at lw_m7 40 rfl) rfl
theorem q1667 : (Jvm.Cond.laysFinal "BracketRoomModel" "BracketRoomModel" "powers" "[I") ∈ lw_all := lw_g (lw_at lw_m7 41 rfl) rfl
theorem q1668 : (Jvm.Cond.soleField "BracketRoomModel" "powers") ∈ lw_all := lw_g (lw_at lw_m7 42 rfl) rfl
theorem q1669 : (Jvm.Cond.laysFinal "BracketRoomModel" "BracketRoomModel" "product" "[I") ∈ lw_all := lw_g (lw_at lw_m7 43 rfl) rfl
theorem q1670 : (Jvm.Cond.soleField "BracketRoomModel" "product") ∈ lw_all := lw_g (lw_at lw_m7 44 rfl) rfl
theorem q1671 : (Jvm.Cond.lays "BracketRoomModel" "BracketRoomModel" "source" "[I") ∈ lw_all := lw_g (lw_at lw_m7 45 rfl) rfl
theorem q1672 : (Jvm.Cond.soleField "BracketRoomModel" "source") ∈ lw_all := lw_g (lw_at lw_m7 46 rfl) rfl
theorem q1673 : (Jvm.Cond.lays "BracketRoomModel" "BracketRoomModel" "sourceFrom" "I") ∈ lw_all := lw_g (lw_at lw_m7 47 rfl) rfl
theorem q1674 : (Jvm.Cond.soleField "BracketRoomModel" "sourceFrom") ∈ lw_all := lw_g (lw_at lw_m7 48 rfl) rfl
theorem q1675 : (Jvm.Cond.laysFinal "BracketRoomModel" "BracketRoomModel" "base5" "[I") ∈ lw_all := lw_g (lw_at lw_m7 49 rfl) rfl
theorem q1676 : (Jvm.Cond.soleField "BracketRoomModel" "base5") ∈ lw_all := lw_g (lw_at lw_m7 50 rfl) rfl
theorem q1677 : (Jvm.Cond.laysFinal "BracketRoomModel" "BracketRoomModel" "back5" "[I") ∈ lw_all := lw_g (lw_at lw_m7 51 rfl) rfl
theorem q1678 : (Jvm.Cond.soleField "BracketRoomModel" "back5") ∈ lw_all := lw_g (lw_at lw_m7 52 rfl) rfl
theorem q1679 : (Jvm.Cond.laysFinal "BracketRoomModel" "BracketRoomModel" "seen" "[Z") ∈ lw_all := lw_g (lw_at lw_m7 53 rfl) rfl
theorem q1680 : (Jvm.Cond.soleField "BracketRoomModel" "seen") ∈ lw_all := lw_g (lw_at lw_m7 54 rfl) rfl
theorem q1681 : (Jvm.Cond.laysFinal "BracketRoomModel" "BracketRoomModel" "one" "[I") ∈ lw_all := lw_g (lw_at lw_m7 55 rfl) rfl
theorem q1682 : (Jvm.Cond.soleField "BracketRoomModel" "one") ∈ lw_all := lw_g (lw_at lw_m7 56 rfl) rfl
theorem q1683 : (Jvm.Cond.lays "BracketRoomModel" "BracketRoomModel" "newSteps" "I") ∈ lw_all := lw_g (lw_at lw_m7 57 rfl) rfl
theorem q1684 : (Jvm.Cond.soleField "BracketRoomModel" "newSteps") ∈ lw_all := lw_g (lw_at lw_m7 58 rfl) rfl
theorem q1685 : (Jvm.Cond.superclass "BracketRoomModel" "java/lang/Object") ∈ lw_all := lw_g (lw_at lw_m7 59 rfl) rfl
theorem q1687 : (Jvm.Cond.instanceMethod ({ cls := "BracketRoomModel", name := "status", desc := "()I" } : Jvm.MethodName)) ∈ lw_all := lw_g (lw_at lw_m7 61 rfl) rfl
theorem q1688 : (Jvm.Cond.selects "BracketRoomModel" ({ cls := "BracketRoomModel", name := "status", desc := "()I" } : Jvm.MethodName) ({ cls := "BracketRoomModel", name := "status", desc := "()I" } : Jvm.MethodName)) ∈ lw_all := lw_g (lw_at lw_m7 62 rfl) rfl
theorem q1689 : (Jvm.Cond.code ({ cls := "BracketRoomModel", name := "status", desc := "()I" } : Jvm.MethodName) prog_11_method_3_code (1 : Nat) (Option.some Jvm.ClassFile.FieldType.int)) ∈ lw_all := lw_g (lw_at lw_m7 63 rfl) rfl
theorem q1691 : (Jvm.Cond.instanceMethod ({ cls := "BracketRoomModel", name := "top", desc := "()J" } : Jvm.MethodName)) ∈ lw_all := lw_g (lw_at lw_m7 65 rfl) rfl
theorem q1692 : (Jvm.Cond.selects "BracketRoomModel" ({ cls := "BracketRoomModel", name := "top", desc := "()J" } : Jvm.MethodName) ({ cls := "BracketRoomModel", name := "top", desc := "()J" } : Jvm.MethodName)) ∈ lw_all := lw_g (lw_at lw_m7 66 rfl) rfl
theorem q1693 : (Jvm.Cond.code ({ cls := "BracketRoomModel", name := "top", desc := "()J" } : Jvm.MethodName) prog_11_method_4_code (1 : Nat) (Option.some Jvm.ClassFile.FieldType.long)) ∈ lw_all := lw_g (lw_at lw_m7 67 rfl) rfl
theorem q1695 : (Jvm.Cond.instanceMethod ({ cls := "BracketRoomModel", name := "bottom", desc := "()J" } : Jvm.MethodName)) ∈ lw_all := lw_g (lw_at lw_m7 69 rfl) rfl
theorem q1696 : (Jvm.Cond.selects "BracketRoomModel" ({ cls := "BracketRoomModel", name := "bottom", desc := "()J" } : Jvm.MethodName) ({ cls := "BracketRoomModel", name := "bottom", desc := "()J" } : Jvm.MethodName)) ∈ lw_all := lw_g (lw_at lw_m7 70 rfl) rfl
theorem q1697 : (Jvm.Cond.code ({ cls := "BracketRoomModel", name := "bottom", desc := "()J" } : Jvm.MethodName) prog_11_method_5_code (1 : Nat) (Option.some Jvm.ClassFile.FieldType.long)) ∈ lw_all := lw_g (lw_at lw_m7 71 rfl) rfl
theorem q1699 : (Jvm.Cond.instanceMethod ({ cls := "BracketRoomModel", name := "tray", desc := "(III)Z" } : Jvm.MethodName)) ∈ lw_all := lw_g (lw_at lw_m7 73 rfl) rfl
theorem q1700 : (Jvm.Cond.selects "BracketRoomModel" ({ cls := "BracketRoomModel", name := "tray", desc := "(III)Z" } : Jvm.MethodName) ({ cls := "BracketRoomModel", name := "tray", desc := "(III)Z" } : Jvm.MethodName)) ∈ lw_all := lw_g (lw_at lw_m7 74 rfl) rfl
theorem q1701 : (Jvm.Cond.code ({ cls := "BracketRoomModel", name := "tray", desc := "(III)Z" } : Jvm.MethodName) prog_11_method_11_code (5 : Nat) (Option.some Jvm.ClassFile.FieldType.boolean)) ∈ lw_all := lw_g (lw_at lw_m7 75 rfl) rfl
theorem q1702 : (Jvm.Cond.methodLink "BracketRoomModel" (147 : Nat) ({ cls := "BracketRoomModel", name := "no", desc := "(I)Z" } : Jvm.MethodName)) ∈ lw_all := lw_g (lw_at lw_m7 76 rfl) rfl
theorem q1703 : (Jvm.Cond.privateMethod ({ cls := "BracketRoomModel", name := "no", desc := "(I)Z" } : Jvm.MethodName)) ∈ lw_tbl := lw_at lw_m7 77 rfl
theorem q1704 : (Jvm.Cond.instanceMethod ({ cls := "BracketRoomModel", name := "no", desc := "(I)Z" } : Jvm.MethodName)) ∈ lw_all := lw_g (lw_at lw_m7 78 rfl) rfl
theorem q1705 : (Jvm.Cond.code ({ cls := "BracketRoomModel", name := "no", desc := "(I)Z" } : Jvm.MethodName) prog_11_method_7_code (2 : Nat) (Option.some Jvm.ClassFile.FieldType.boolean)) ∈ lw_all := lw_g (lw_at lw_m7 79 rfl) rfl
theorem q1707 : (Jvm.Cond.instanceMethod ({ cls := "BracketRoomModel", name := "write", desc := "(IIJ)Z" } : Jvm.MethodName)) ∈ lw_all := lw_g (lw_at lw_m7 81 rfl) rfl
theorem q1708 : (Jvm.Cond.selects "BracketRoomModel" ({ cls := "BracketRoomModel", name := "write", desc := "(IIJ)Z" } : Jvm.MethodName) ({ cls := "BracketRoomModel", name := "write", desc := "(IIJ)Z" } : Jvm.MethodName)) ∈ lw_all := lw_g (lw_at lw_m7 82 rfl) rfl
theorem q1709 : (Jvm.Cond.code ({ cls := "BracketRoomModel", name := "write", desc := "(IIJ)Z" } : Jvm.MethodName) prog_11_method_14_code (5 : Nat) (Option.some Jvm.ClassFile.FieldType.boolean)) ∈ lw_all := lw_g (lw_at lw_m7 83 rfl) rfl
theorem q1710 : (Jvm.Cond.methodLink "BracketRoomModel" (155 : Nat) ({ cls := "BracketRoomModel", name := "placed", desc := "(II)I" } : Jvm.MethodName)) ∈ lw_all := lw_g (lw_at lw_m7 84 rfl) rfl
theorem q1711 : (Jvm.Cond.privateMethod ({ cls := "BracketRoomModel", name := "placed", desc := "(II)I" } : Jvm.MethodName)) ∈ lw_tbl := lw_at lw_m7 85 rfl
theorem q1712 : (Jvm.Cond.instanceMethod ({ cls := "BracketRoomModel", name := "placed", desc := "(II)I" } : Jvm.MethodName)) ∈ lw_all := lw_g (lw_at lw_m7 86 rfl) rfl
theorem q1713 : (Jvm.Cond.code ({ cls := "BracketRoomModel", name := "placed", desc := "(II)I" } : Jvm.MethodName) prog_11_method_13_code (4 : Nat) (Option.some Jvm.ClassFile.FieldType.int)) ∈ lw_all := lw_g (lw_at lw_m7 87 rfl) rfl
theorem q1714 : (Jvm.Cond.methodLink "BracketRoomModel" (151 : Nat) ({ cls := "BracketRoomModel", name := "trayed", desc := "(I)I" } : Jvm.MethodName)) ∈ lw_all := lw_g (lw_at lw_m7 88 rfl) rfl
theorem q1715 : (Jvm.Cond.privateMethod ({ cls := "BracketRoomModel", name := "trayed", desc := "(I)I" } : Jvm.MethodName)) ∈ lw_tbl := lw_at lw_m7 89 rfl
theorem q1716 : (Jvm.Cond.instanceMethod ({ cls := "BracketRoomModel", name := "trayed", desc := "(I)I" } : Jvm.MethodName)) ∈ lw_all := lw_g (lw_at lw_m7 90 rfl) rfl
theorem q1717 : (Jvm.Cond.code ({ cls := "BracketRoomModel", name := "trayed", desc := "(I)I" } : Jvm.MethodName) prog_11_method_12_code (2 : Nat) (Option.some Jvm.ClassFile.FieldType.int)) ∈ lw_all := lw_g (lw_at lw_m7 91 rfl) rfl
theorem q1718 : (Jvm.Cond.methodLink "BracketRoomModel" (159 : Nat) ({ cls := "BracketRoomModel", name := "cut", desc := "(IJ)J" } : Jvm.MethodName)) ∈ lw_all := lw_g (lw_at lw_m7 92 rfl) rfl
theorem q1719 : (Jvm.Cond.static ({ cls := "BracketRoomModel", name := "cut", desc := "(IJ)J" } : Jvm.MethodName)) ∈ lw_all := lw_g (lw_at lw_m7 93 rfl) rfl
theorem q1720 : (Jvm.Cond.code ({ cls := "BracketRoomModel", name := "cut", desc := "(IJ)J" } : Jvm.MethodName) prog_11_method_10_code (3 : Nat) (Option.some Jvm.ClassFile.FieldType.long)) ∈ lw_all := lw_g (lw_at lw_m7 94 rfl) rfl
theorem q1722 : (Jvm.Cond.instanceMethod ({ cls := "BracketRoomModel", name := "read", desc := "(II)J" } : Jvm.MethodName)) ∈ lw_all := lw_g (lw_at lw_m7 96 rfl) rfl
theorem q1723 : (Jvm.Cond.selects "BracketRoomModel" ({ cls := "BracketRoomModel", name := "read", desc := "(II)J" } : Jvm.MethodName) ({ cls := "BracketRoomModel", name := "read", desc := "(II)J" } : Jvm.MethodName)) ∈ lw_all := lw_g (lw_at lw_m7 97 rfl) rfl
theorem q1724 : (Jvm.Cond.code ({ cls := "BracketRoomModel", name := "read", desc := "(II)J" } : Jvm.MethodName) prog_11_method_15_code (3 : Nat) (Option.some Jvm.ClassFile.FieldType.long)) ∈ lw_all := lw_g (lw_at lw_m7 98 rfl) rfl
theorem q1725 : (Jvm.Cond.constantLong "BracketRoomModel" (163 : Nat) (-1 : Int64)) ∈ lw_all := lw_g (lw_at lw_m7 99 rfl) rfl
theorem q1727 : (Jvm.Cond.instanceMethod ({ cls := "BracketRoomModel", name := "pour", desc := "(IIIII)Z" } : Jvm.MethodName)) ∈ lw_all := lw_g (lw_at lw_m7 101 rfl) rfl
theorem q1728 : (Jvm.Cond.selects "BracketRoomModel" ({ cls := "BracketRoomModel", name := "pour", desc := "(IIIII)Z" } : Jvm.MethodName) ({ cls := "BracketRoomModel", name := "pour", desc := "(IIIII)Z" } : Jvm.MethodName)) ∈ lw_all := lw_g (lw_at lw_m7 102 rfl) rfl
theorem q1729 : (Jvm.Cond.code ({ cls := "BracketRoomModel", name := "pour", desc := "(IIIII)Z" } : Jvm.MethodName) prog_11_method_16_code (9 : Nat) (Option.some Jvm.ClassFile.FieldType.boolean)) ∈ lw_all := lw_g (lw_at lw_m7 103 rfl) rfl
theorem q1731 : (Jvm.Cond.instanceMethod ({ cls := "BracketRoomModel", name := "feed", desc := "(IIIII)I" } : Jvm.MethodName)) ∈ lw_all := lw_g (lw_at lw_m7 105 rfl) rfl
theorem q1732 : (Jvm.Cond.selects "BracketRoomModel" ({ cls := "BracketRoomModel", name := "feed", desc := "(IIIII)I" } : Jvm.MethodName) ({ cls := "BracketRoomModel", name := "feed", desc := "(IIIII)I" } : Jvm.MethodName)) ∈ lw_all := lw_g (lw_at lw_m7 106 rfl) rfl
theorem q1733 : (Jvm.Cond.code ({ cls := "BracketRoomModel", name := "feed", desc := "(IIIII)I" } : Jvm.MethodName) prog_11_method_43_code (6 : Nat) (Option.some Jvm.ClassFile.FieldType.int)) ∈ lw_all := lw_g (lw_at lw_m7 107 rfl) rfl
theorem q1734 : (Jvm.Cond.methodLink "BracketRoomModel" (240 : Nat) ({ cls := "BracketRoomModel", name := "lay", desc := "(I)V" } : Jvm.MethodName)) ∈ lw_all := lw_g (lw_at lw_m7 108 rfl) rfl
theorem q1735 : (Jvm.Cond.privateMethod ({ cls := "BracketRoomModel", name := "lay", desc := "(I)V" } : Jvm.MethodName)) ∈ lw_tbl := lw_at lw_m7 109 rfl
theorem q1736 : (Jvm.Cond.instanceMethod ({ cls := "BracketRoomModel", name := "lay", desc := "(I)V" } : Jvm.MethodName)) ∈ lw_all := lw_g (lw_at lw_m7 110 rfl) rfl
theorem q1737 : (Jvm.Cond.code ({ cls := "BracketRoomModel", name := "lay", desc := "(I)V" } : Jvm.MethodName) prog_11_method_44_code (3 : Nat) (Option.none : Option Jvm.ClassFile.FieldType)) ∈ lw_all := lw_g (lw_at lw_m7 111 rfl) rfl
theorem q1739 : (Jvm.Cond.instanceMethod ({ cls := "BracketRoomModel", name := "fault", desc := "(I)I" } : Jvm.MethodName)) ∈ lw_all := lw_g (lw_at lw_m7 113 rfl) rfl
theorem q1740 : (Jvm.Cond.selects "BracketRoomModel" ({ cls := "BracketRoomModel", name := "fault", desc := "(I)I" } : Jvm.MethodName) ({ cls := "BracketRoomModel", name := "fault", desc := "(I)I" } : Jvm.MethodName)) ∈ lw_all := lw_g (lw_at lw_m7 114 rfl) rfl
theorem q1741 : (Jvm.Cond.code ({ cls := "BracketRoomModel", name := "fault", desc := "(I)I" } : Jvm.MethodName) prog_11_method_47_code (2 : Nat) (Option.some Jvm.ClassFile.FieldType.int)) ∈ lw_all := lw_g (lw_at lw_m7 115 rfl) rfl
theorem q1743 : (Jvm.Cond.instanceMethod ({ cls := "BracketRoomModel", name := "world", desc := "(I)I" } : Jvm.MethodName)) ∈ lw_all := lw_g (lw_at lw_m7 117 rfl) rfl
theorem q1744 : (Jvm.Cond.selects "BracketRoomModel" ({ cls := "BracketRoomModel", name := "world", desc := "(I)I" } : Jvm.MethodName) ({ cls := "BracketRoomModel", name := "world", desc := "(I)I" } : Jvm.MethodName)) ∈ lw_all := lw_g (lw_at lw_m7 118 rfl) rfl
theorem q1745 : (Jvm.Cond.code ({ cls := "BracketRoomModel", name := "world", desc := "(I)I" } : Jvm.MethodName) prog_11_method_59_code (6 : Nat) (Option.some Jvm.ClassFile.FieldType.int)) ∈ lw_all := lw_g (lw_at lw_m7 119 rfl) rfl
theorem q1746 : (Jvm.Cond.methodLink "BracketRoomModel" (287 : Nat) ({ cls := "BracketRoomModel", name := "opens", desc := "(II)Z" } : Jvm.MethodName)) ∈ lw_all := lw_g (lw_at lw_m7 120 rfl) rfl
theorem q1747 : (Jvm.Cond.privateMethod ({ cls := "BracketRoomModel", name := "opens", desc := "(II)Z" } : Jvm.MethodName)) ∈ lw_tbl := lw_at lw_m7 121 rfl
theorem q1748 : (Jvm.Cond.instanceMethod ({ cls := "BracketRoomModel", name := "opens", desc := "(II)Z" } : Jvm.MethodName)) ∈ lw_all := lw_g (lw_at lw_m7 122 rfl) rfl
theorem q1749 : (Jvm.Cond.code ({ cls := "BracketRoomModel", name := "opens", desc := "(II)Z" } : Jvm.MethodName) prog_11_method_45_code (3 : Nat) (Option.some Jvm.ClassFile.FieldType.boolean)) ∈ lw_all := lw_g (lw_at lw_m7 123 rfl) rfl
theorem q1750 : (Jvm.Cond.methodLink "BracketRoomModel" (231 : Nat) ({ cls := "BracketRoomModel", name := "next", desc := "()V" } : Jvm.MethodName)) ∈ lw_all := lw_g (lw_at lw_m7 124 rfl) rfl
theorem q1751 : (Jvm.Cond.privateMethod ({ cls := "BracketRoomModel", name := "next", desc := "()V" } : Jvm.MethodName)) ∈ lw_tbl := lw_at lw_m7 125 rfl
theorem q1752 : (Jvm.Cond.instanceMethod ({ cls := "BracketRoomModel", name := "next", desc := "()V" } : Jvm.MethodName)) ∈ lw_all := lw_g (lw_at lw_m7 126 rfl) rfl
theorem q1753 : (Jvm.Cond.code ({ cls := "BracketRoomModel", name := "next", desc := "()V" } : Jvm.MethodName) prog_11_method_23_code (2 : Nat) (Option.none : Option Jvm.ClassFile.FieldType)) ∈ lw_all := lw_g (lw_at lw_m7 127 rfl) rfl
theorem q1754 : (Jvm.Cond.methodLink "BracketRoomModel" (180 : Nat) ({ cls := "BracketRoomModel", name := "look2", desc := "(I)I" } : Jvm.MethodName)) ∈ lw_all := lw_g (lw_at lw_m7 128 rfl) rfl
theorem q1755 : (Jvm.Cond.privateMethod ({ cls := "BracketRoomModel", name := "look2", desc := "(I)I" } : Jvm.MethodName)) ∈ lw_tbl := lw_at lw_m7 129 rfl
theorem q1756 : (Jvm.Cond.instanceMethod ({ cls := "BracketRoomModel", name := "look2", desc := "(I)I" } : Jvm.MethodName)) ∈ lw_all := lw_g (lw_at lw_m7 130 rfl) rfl
theorem q1757 : (Jvm.Cond.code ({ cls := "BracketRoomModel", name := "look2", desc := "(I)I" } : Jvm.MethodName) prog_11_method_19_code (2 : Nat) (Option.some Jvm.ClassFile.FieldType.int)) ∈ lw_all := lw_g (lw_at lw_m7 131 rfl) rfl
theorem q1758 : (Jvm.Cond.methodLink "BracketRoomModel" (186 : Nat) ({ cls := "BracketRoomModel", name := "isLetter", desc := "(I)Z" } : Jvm.MethodName)) ∈ lw_all := lw_g (lw_at lw_m7 132 rfl) rfl
theorem q1759 : (Jvm.Cond.static ({ cls := "BracketRoomModel", name := "isLetter", desc := "(I)Z" } : Jvm.MethodName)) ∈ lw_all := lw_g (lw_at lw_m7 133 rfl) rfl
theorem q1760 : (Jvm.Cond.code ({ cls := "BracketRoomModel", name := "isLetter", desc := "(I)Z" } : Jvm.MethodName) prog_11_method_20_code (1 : Nat) (Option.some Jvm.ClassFile.FieldType.boolean)) ∈ lw_all := lw_g (lw_at lw_m7 134 rfl) rfl
theorem q1761 : (Jvm.Cond.constantLong "BracketRoomModel" (192 : Nat) (32 : Int64)) ∈ lw_all := lw_g (lw_at lw_m7 135 rfl) rfl
theorem q1762 : (Jvm.Cond.constantLong "BracketRoomModel" (194 : Nat) (96 : Int64)) ∈ lw_all := lw_g (lw_at lw_m7 136 rfl) rfl
theorem q1763 : (Jvm.Cond.methodLink "BracketRoomModel" (196 : Nat) ({ cls := "BracketRoomModel", name := "isDigit", desc := "(I)Z" } : Jvm.MethodName)) ∈ lw_all := lw_g (lw_at lw_m7 137 rfl) rfl
theorem q1764 : (Jvm.Cond.static ({ cls := "BracketRoomModel", name := "isDigit", desc := "(I)Z" } : Jvm.MethodName)) ∈ lw_all := lw_g (lw_at lw_m7 138 rfl) rfl
theorem q1765 : (Jvm.Cond.code ({ cls := "BracketRoomModel", name := "isDigit", desc := "(I)Z" } : Jvm.MethodName) prog_11_method_21_code (1 : Nat) (Option.some Jvm.ClassFile.FieldType.boolean)) ∈ lw_all := lw_g (lw_at lw_m7 139 rfl) rfl
theorem q1766 : (Jvm.Cond.methodLink "BracketRoomModel" (202 : Nat) ({ cls := "BracketRoomModel", name := "isSignByte", desc := "(I)Z" } : Jvm.MethodName)) ∈ lw_all := lw_g (lw_at lw_m7 140 rfl) rfl
theorem q1767 : (Jvm.Cond.privateMethod ({ cls := "BracketRoomModel", name := "isSignByte", desc := "(I)Z" } : Jvm.MethodName)) ∈ lw_tbl := lw_at lw_m7 141 rfl
theorem q1768 : (Jvm.Cond.instanceMethod ({ cls := "BracketRoomModel", name := "isSignByte", desc := "(I)Z" } : Jvm.MethodName)) ∈ lw_all := lw_g (lw_at lw_m7 142 rfl) rfl
theorem q1769 : (Jvm.Cond.code ({ cls := "BracketRoomModel", name := "isSignByte", desc := "(I)Z" } : Jvm.MethodName) prog_11_method_22_code (2 : Nat) (Option.some Jvm.ClassFile.FieldType.boolean)) ∈ lw_all := lw_g (lw_at lw_m7 143 rfl) rfl
theorem q1770 : (Jvm.Cond.methodLink "BracketRoomModel" (291 : Nat) ({ cls := "BracketRoomModel", name := "isPrime", desc := "()Z" } : Jvm.MethodName)) ∈ lw_all := lw_g (lw_at lw_m7 144 rfl) rfl
theorem q1771 : (Jvm.Cond.privateMethod ({ cls := "BracketRoomModel", name := "isPrime", desc := "()Z" } : Jvm.MethodName)) ∈ lw_tbl := lw_at lw_m7 145 rfl
theorem q1772 : (Jvm.Cond.instanceMethod ({ cls := "BracketRoomModel", name := "isPrime", desc := "()Z" } : Jvm.MethodName)) ∈ lw_all := lw_g (lw_at lw_m7 146 rfl) rfl
theorem q1773 : (Jvm.Cond.code ({ cls := "BracketRoomModel", name := "isPrime", desc := "()Z" } : Jvm.MethodName) prog_11_method_28_code (1 : Nat) (Option.some Jvm.ClassFile.FieldType.boolean)) ∈ lw_all := lw_g (lw_at lw_m7 147 rfl) rfl
theorem q1774 : (Jvm.Cond.methodLink "BracketRoomModel" (205 : Nat) ({ cls := "BracketRoomModel", name := "spelled", desc := "(IIIIII)J" } : Jvm.MethodName)) ∈ lw_all := lw_g (lw_at lw_m7 148 rfl) rfl
theorem q1775 : (Jvm.Cond.static ({ cls := "BracketRoomModel", name := "spelled", desc := "(IIIIII)J" } : Jvm.MethodName)) ∈ lw_all := lw_g (lw_at lw_m7 149 rfl) rfl
theorem q1776 : (Jvm.Cond.code ({ cls := "BracketRoomModel", name := "spelled", desc := "(IIIIII)J" } : Jvm.MethodName) prog_11_method_25_code (8 : Nat) (Option.some Jvm.ClassFile.FieldType.long)) ∈ lw_all := lw_g (lw_at lw_m7 150 rfl) rfl
theorem q1777 : (Jvm.Cond.methodLink "BracketRoomModel" (209 : Nat) ({ cls := "BracketRoomModel", name := "isWord", desc := "(J)Z" } : Jvm.MethodName)) ∈ lw_all := lw_g (lw_at lw_m7 151 rfl) rfl
theorem q1778 : (Jvm.Cond.privateMethod ({ cls := "BracketRoomModel", name := "isWord", desc := "(J)Z" } : Jvm.MethodName)) ∈ lw_tbl := lw_at lw_m7 152 rfl
theorem q1779 : (Jvm.Cond.instanceMethod ({ cls := "BracketRoomModel", name := "isWord", desc := "(J)Z" } : Jvm.MethodName)) ∈ lw_all := lw_g (lw_at lw_m7 153 rfl) rfl
theorem q1780 : (Jvm.Cond.code ({ cls := "BracketRoomModel", name := "isWord", desc := "(J)Z" } : Jvm.MethodName) prog_11_method_27_code (3 : Nat) (Option.some Jvm.ClassFile.FieldType.boolean)) ∈ lw_all := lw_g (lw_at lw_m7 154 rfl) rfl
theorem q1781 : (Jvm.Cond.methodLink "BracketRoomModel" (273 : Nat) ({ cls := "BracketRoomModel", name := "must", desc := "(Z)V" } : Jvm.MethodName)) ∈ lw_all := lw_g (lw_at lw_m7 155 rfl) rfl
theorem q1782 : (Jvm.Cond.privateMethod ({ cls := "BracketRoomModel", name := "must", desc := "(Z)V" } : Jvm.MethodName)) ∈ lw_tbl := lw_at lw_m7 156 rfl
theorem q1783 : (Jvm.Cond.instanceMethod ({ cls := "BracketRoomModel", name := "must", desc := "(Z)V" } : Jvm.MethodName)) ∈ lw_all := lw_g (lw_at lw_m7 157 rfl) rfl
theorem q1784 : (Jvm.Cond.code ({ cls := "BracketRoomModel", name := "must", desc := "(Z)V" } : Jvm.MethodName) prog_11_method_41_code (2 : Nat) (Option.none : Option Jvm.ClassFile.FieldType)) ∈ lw_all := lw_g (lw_at lw_m7 158 rfl) rfl
theorem q1785 : (Jvm.Cond.methodLink "BracketRoomModel" (234 : Nat) ({ cls := "BracketRoomModel", name := "wrong", desc := "()V" } : Jvm.MethodName)) ∈ lw_all := lw_g (lw_at lw_m7 159 rfl) rfl
theorem q1786 : (Jvm.Cond.privateMethod ({ cls := "BracketRoomModel", name := "wrong", desc := "()V" } : Jvm.MethodName)) ∈ lw_tbl := lw_at lw_m7 160 rfl
theorem q1787 : (Jvm.Cond.instanceMethod ({ cls := "BracketRoomModel", name := "wrong", desc := "()V" } : Jvm.MethodName)) ∈ lw_all := lw_g (lw_at lw_m7 161 rfl) rfl
theorem q1788 : (Jvm.Cond.code ({ cls := "BracketRoomModel", name := "wrong", desc := "()V" } : Jvm.MethodName) prog_11_method_40_code (1 : Nat) (Option.none : Option Jvm.ClassFile.FieldType)) ∈ lw_all := lw_g (lw_at lw_m7 162 rfl) rfl
theorem q1789 : (Jvm.Cond.methodLink "BracketRoomModel" (227 : Nat) ({ cls := "BracketRoomModel", name := "fail", desc := "(II)V" } : Jvm.MethodName)) ∈ lw_all := lw_g (lw_at lw_m7 163 rfl) rfl
theorem q1790 : (Jvm.Cond.privateMethod ({ cls := "BracketRoomModel", name := "fail", desc := "(II)V" } : Jvm.MethodName)) ∈ lw_tbl := lw_at lw_m7 164 rfl
theorem q1791 : (Jvm.Cond.instanceMethod ({ cls := "BracketRoomModel", name := "fail", desc := "(II)V" } : Jvm.MethodName)) ∈ lw_all := lw_g (lw_at lw_m7 165 rfl) rfl
theorem q1792 : (Jvm.Cond.code ({ cls := "BracketRoomModel", name := "fail", desc := "(II)V" } : Jvm.MethodName) prog_11_method_39_code (3 : Nat) (Option.none : Option Jvm.ClassFile.FieldType)) ∈ lw_all := lw_g (lw_at lw_m7 166 rfl) rfl
theorem q1793 : (Jvm.Cond.methodLink "BracketRoomModel" (294 : Nat) ({ cls := "BracketRoomModel", name := "isPrimeNumber", desc := "(I)Z" } : Jvm.MethodName)) ∈ lw_all := lw_g (lw_at lw_m7 167 rfl) rfl
theorem q1794 : (Jvm.Cond.privateMethod ({ cls := "BracketRoomModel", name := "isPrimeNumber", desc := "(I)Z" } : Jvm.MethodName)) ∈ lw_tbl := lw_at lw_m7 168 rfl
theorem q1795 : (Jvm.Cond.instanceMethod ({ cls := "BracketRoomModel", name := "isPrimeNumber", desc := "(I)Z" } : Jvm.MethodName)) ∈ lw_all := lw_g (lw_at lw_m7 169 rfl) rfl
theorem q1796 : (Jvm.Cond.code ({ cls := "BracketRoomModel", name := "isPrimeNumber", desc := "(I)Z" } : Jvm.MethodName) prog_11_method_57_code (2 : Nat) (Option.some Jvm.ClassFile.FieldType.boolean)) ∈ lw_all := lw_g (lw_at lw_m7 170 rfl) rfl
theorem q1797 : (Jvm.Cond.methodLink "BracketRoomModel" (267 : Nat) ({ cls := "BracketRoomModel", name := "count", desc := "(II)I" } : Jvm.MethodName)) ∈ lw_all := lw_g (lw_at lw_m7 171 rfl) rfl
theorem q1798 : (Jvm.Cond.privateMethod ({ cls := "BracketRoomModel", name := "count", desc := "(II)I" } : Jvm.MethodName)) ∈ lw_tbl := lw_at lw_m7 172 rfl
theorem q1799 : (Jvm.Cond.instanceMethod ({ cls := "BracketRoomModel", name := "count", desc := "(II)I" } : Jvm.MethodName)) ∈ lw_all := lw_g (lw_at lw_m7 173 rfl) rfl
theorem q1800 : (Jvm.Cond.code ({ cls := "BracketRoomModel", name := "count", desc := "(II)I" } : Jvm.MethodName) prog_11_method_42_code (4 : Nat) (Option.some Jvm.ClassFile.FieldType.int)) ∈ lw_all := lw_g (lw_at lw_m7 174 rfl) rfl
theorem q1801 : (Jvm.Cond.methodLink "BracketRoomModel" (167 : Nat) ({ cls := "BracketRoomModel", name := "isIn", desc := "(JJJ)Z" } : Jvm.MethodName)) ∈ lw_all := lw_g (lw_at lw_m7 175 rfl) rfl
theorem q1802 : (Jvm.Cond.static ({ cls := "BracketRoomModel", name := "isIn", desc := "(JJJ)Z" } : Jvm.MethodName)) ∈ lw_all := lw_g (lw_at lw_m7 176 rfl) rfl
theorem q1803 : (Jvm.Cond.code ({ cls := "BracketRoomModel", name := "isIn", desc := "(JJJ)Z" } : Jvm.MethodName) prog_11_method_8_code (6 : Nat) (Option.some Jvm.ClassFile.FieldType.boolean)) ∈ lw_all := lw_g (lw_at lw_m7 177 rfl) rfl
theorem q1804 : (Jvm.Cond.methodLink "BracketRoomModel" (297 : Nat) ({ cls := "BracketRoomModel", name := "isSign", desc := "(I)Z" } : Jvm.MethodName)) ∈ lw_all := lw_g (lw_at lw_m7 178 rfl) rfl
theorem q1805 : (Jvm.Cond.privateMethod ({ cls := "BracketRoomModel", name := "isSign", desc := "(I)Z" } : Jvm.MethodName)) ∈ lw_tbl := lw_at lw_m7 179 rfl
theorem q1806 : (Jvm.Cond.instanceMethod ({ cls := "BracketRoomModel", name := "isSign", desc := "(I)Z" } : Jvm.MethodName)) ∈ lw_all := lw_g (lw_at lw_m7 180 rfl) rfl
theorem q1807 : (Jvm.Cond.code ({ cls := "BracketRoomModel", name := "isSign", desc := "(I)Z" } : Jvm.MethodName) prog_11_method_24_code (2 : Nat) (Option.some Jvm.ClassFile.FieldType.boolean)) ∈ lw_all := lw_g (lw_at lw_m7 181 rfl) rfl
theorem q1808 : (Jvm.Cond.methodLink "BracketRoomModel" (217 : Nat) ({ cls := "BracketRoomModel", name := "isSizeWord", desc := "()Z" } : Jvm.MethodName)) ∈ lw_all := lw_g (lw_at lw_m7 182 rfl) rfl
theorem q1809 : (Jvm.Cond.privateMethod ({ cls := "BracketRoomModel", name := "isSizeWord", desc := "()Z" } : Jvm.MethodName)) ∈ lw_tbl := lw_at lw_m7 183 rfl
theorem q1810 : (Jvm.Cond.instanceMethod ({ cls := "BracketRoomModel", name := "isSizeWord", desc := "()Z" } : Jvm.MethodName)) ∈ lw_all := lw_g (lw_at lw_m7 184 rfl) rfl
theorem q1811 : (Jvm.Cond.code ({ cls := "BracketRoomModel", name := "isSizeWord", desc := "()Z" } : Jvm.MethodName) prog_11_method_29_code (1 : Nat) (Option.some Jvm.ClassFile.FieldType.boolean)) ∈ lw_all := lw_g (lw_at lw_m7 185 rfl) rfl
theorem q1812 : (Jvm.Cond.methodLink "BracketRoomModel" (300 : Nat) ({ cls := "BracketRoomModel", name := "greatest", desc := "(I)I" } : Jvm.MethodName)) ∈ lw_all := lw_g (lw_at lw_m7 186 rfl) rfl
theorem q1813 : (Jvm.Cond.static ({ cls := "BracketRoomModel", name := "greatest", desc := "(I)I" } : Jvm.MethodName)) ∈ lw_all := lw_g (lw_at lw_m7 187 rfl) rfl
theorem q1814 : (Jvm.Cond.code ({ cls := "BracketRoomModel", name := "greatest", desc := "(I)I" } : Jvm.MethodName) prog_11_method_48_code (1 : Nat) (Option.some Jvm.ClassFile.FieldType.int)) ∈ lw_all := lw_g (lw_at lw_m7 188 rfl) rfl
theorem q1815 : (Jvm.Cond.methodLink "BracketRoomModel" (303 : Nat) ({ cls := "BracketRoomModel", name := "clear", desc := "([IIII)V" } : Jvm.MethodName)) ∈ lw_all := lw_g (lw_at lw_m7 189 rfl) rfl
theorem q1816 : (Jvm.Cond.static ({ cls := "BracketRoomModel", name := "clear", desc := "([IIII)V" } : Jvm.MethodName)) ∈ lw_all := lw_g (lw_at lw_m7 190 rfl) rfl
theorem q1817 : (Jvm.Cond.code ({ cls := "BracketRoomModel", name := "clear", desc := "([IIII)V" } : Jvm.MethodName) prog_11_method_55_code (5 : Nat) (Option.none : Option Jvm.ClassFile.FieldType)) ∈ lw_all := lw_g (lw_at lw_m7 191 rfl) rfl
theorem q1818 : (Jvm.Cond.methodLink "BracketRoomModel" (307 : Nat) ({ cls := "BracketRoomModel", name := "isBracket", desc := "()Z" } : Jvm.MethodName)) ∈ lw_all := lw_g (lw_at lw_m7 192 rfl) rfl
theorem q1819 : (Jvm.Cond.privateMethod ({ cls := "BracketRoomModel", name := "isBracket", desc := "()Z" } : Jvm.MethodName)) ∈ lw_tbl := lw_at lw_m7 193 rfl
theorem q1820 : (Jvm.Cond.instanceMethod ({ cls := "BracketRoomModel", name := "isBracket", desc := "()Z" } : Jvm.MethodName)) ∈ lw_all := lw_g (lw_at lw_m7 194 rfl) rfl
theorem q1821 : (Jvm.Cond.code ({ cls := "BracketRoomModel", name := "isBracket", desc := "()Z" } : Jvm.MethodName) prog_11_method_30_code (1 : Nat) (Option.some Jvm.ClassFile.FieldType.boolean)) ∈ lw_all := lw_g (lw_at lw_m7 195 rfl) rfl
theorem q1822 : (Jvm.Cond.methodLink "BracketRoomModel" (213 : Nat) ({ cls := "BracketRoomModel", name := "longer", desc := "(JIII)J" } : Jvm.MethodName)) ∈ lw_all := lw_g (lw_at lw_m7 196 rfl) rfl
theorem q1823 : (Jvm.Cond.static ({ cls := "BracketRoomModel", name := "longer", desc := "(JIII)J" } : Jvm.MethodName)) ∈ lw_all := lw_g (lw_at lw_m7 197 rfl) rfl
theorem q1824 : (Jvm.Cond.code ({ cls := "BracketRoomModel", name := "longer", desc := "(JIII)J" } : Jvm.MethodName) prog_11_method_26_code (7 : Nat) (Option.some Jvm.ClassFile.FieldType.long)) ∈ lw_all := lw_g (lw_at lw_m7 198 rfl) rfl
theorem q1825 : (Jvm.Cond.methodLink "BracketRoomModel" (310 : Nat) ({ cls := "BracketRoomModel", name := "readBracket", desc := "()V" } : Jvm.MethodName)) ∈ lw_all := lw_g (lw_at lw_m7 199 rfl) rfl
theorem q1826 : (Jvm.Cond.privateMethod ({ cls := "BracketRoomModel", name := "readBracket", desc := "()V" } : Jvm.MethodName)) ∈ lw_tbl := lw_at lw_m7 200 rfl
theorem q1827 : (Jvm.Cond.instanceMethod ({ cls := "BracketRoomModel", name := "readBracket", desc := "()V" } : Jvm.MethodName)) ∈ lw_all := lw_g (lw_at lw_m7 201 rfl) rfl
theorem q1828 : (Jvm.Cond.code ({ cls := "BracketRoomModel", name := "readBracket", desc := "()V" } : Jvm.MethodName) prog_11_method_58_code (11 : Nat) (Option.none : Option Jvm.ClassFile.FieldType)) ∈ lw_all := lw_g (lw_at lw_m7 202 rfl) rfl
theorem q1829 : (Jvm.Cond.methodLink "BracketRoomModel" (260 : Nat) ({ cls := "BracketRoomModel", name := "cell", desc := "(III)I" } : Jvm.MethodName)) ∈ lw_all := lw_g (lw_at lw_m7 203 rfl) rfl
theorem q1830 : (Jvm.Cond.static ({ cls := "BracketRoomModel", name := "cell", desc := "(III)I" } : Jvm.MethodName)) ∈ lw_all := lw_g (lw_at lw_m7 204 rfl) rfl
theorem q1831 : (Jvm.Cond.code ({ cls := "BracketRoomModel", name := "cell", desc := "(III)I" } : Jvm.MethodName) prog_11_method_51_code (3 : Nat) (Option.some Jvm.ClassFile.FieldType.int)) ∈ lw_all := lw_g (lw_at lw_m7 205 rfl) rfl
theorem q1832 : (Jvm.Cond.methodLink "BracketRoomModel" (270 : Nat) ({ cls := "BracketRoomModel", name := "isGives", desc := "()Z" } : Jvm.MethodName)) ∈ lw_all := lw_g (lw_at lw_m7 206 rfl) rfl
theorem q1833 : (Jvm.Cond.privateMethod ({ cls := "BracketRoomModel", name := "isGives", desc := "()Z" } : Jvm.MethodName)) ∈ lw_tbl := lw_at lw_m7 207 rfl
theorem q1834 : (Jvm.Cond.instanceMethod ({ cls := "BracketRoomModel", name := "isGives", desc := "()Z" } : Jvm.MethodName)) ∈ lw_all := lw_g (lw_at lw_m7 208 rfl) rfl
theorem q1835 : (Jvm.Cond.code ({ cls := "BracketRoomModel", name := "isGives", desc := "()Z" } : Jvm.MethodName) prog_11_method_31_code (1 : Nat) (Option.some Jvm.ClassFile.FieldType.boolean)) ∈ lw_all := lw_g (lw_at lw_m7 209 rfl) rfl
theorem q1836 : (Jvm.Cond.methodLink "BracketRoomModel" (277 : Nat) ({ cls := "BracketRoomModel", name := "isLess", desc := "()Z" } : Jvm.MethodName)) ∈ lw_all := lw_g (lw_at lw_m7 210 rfl) rfl
theorem q1837 : (Jvm.Cond.privateMethod ({ cls := "BracketRoomModel", name := "isLess", desc := "()Z" } : Jvm.MethodName)) ∈ lw_tbl := lw_at lw_m7 211 rfl
theorem q1838 : (Jvm.Cond.instanceMethod ({ cls := "BracketRoomModel", name := "isLess", desc := "()Z" } : Jvm.MethodName)) ∈ lw_all := lw_g (lw_at lw_m7 212 rfl) rfl
theorem q1839 : (Jvm.Cond.code ({ cls := "BracketRoomModel", name := "isLess", desc := "()Z" } : Jvm.MethodName) prog_11_method_32_code (1 : Nat) (Option.some Jvm.ClassFile.FieldType.boolean)) ∈ lw_all := lw_g (lw_at lw_m7 213 rfl) rfl
theorem q1840 : (Jvm.Cond.methodLink "BracketRoomModel" (280 : Nat) ({ cls := "BracketRoomModel", name := "isOf", desc := "()Z" } : Jvm.MethodName)) ∈ lw_all := lw_g (lw_at lw_m7 214 rfl) rfl
theorem q1841 : (Jvm.Cond.privateMethod ({ cls := "BracketRoomModel", name := "isOf", desc := "()Z" } : Jvm.MethodName)) ∈ lw_tbl := lw_at lw_m7 215 rfl
theorem q1842 : (Jvm.Cond.instanceMethod ({ cls := "BracketRoomModel", name := "isOf", desc := "()Z" } : Jvm.MethodName)) ∈ lw_all := lw_g (lw_at lw_m7 216 rfl) rfl
theorem q1843 : (Jvm.Cond.code ({ cls := "BracketRoomModel", name := "isOf", desc := "()Z" } : Jvm.MethodName) prog_11_method_33_code (1 : Nat) (Option.some Jvm.ClassFile.FieldType.boolean)) ∈ lw_all := lw_g (lw_at lw_m7 217 rfl) rfl
theorem q1844 : (Jvm.Cond.methodLink "BracketRoomModel" (283 : Nat) ({ cls := "BracketRoomModel", name := "set", desc := "([IIIIII)V" } : Jvm.MethodName)) ∈ lw_all := lw_g (lw_at lw_m7 218 rfl) rfl
theorem q1845 : (Jvm.Cond.static ({ cls := "BracketRoomModel", name := "set", desc := "([IIIIII)V" } : Jvm.MethodName)) ∈ lw_all := lw_g (lw_at lw_m7 219 rfl) rfl
theorem q1846 : (Jvm.Cond.code ({ cls := "BracketRoomModel", name := "set", desc := "([IIIIII)V" } : Jvm.MethodName) prog_11_method_54_code (7 : Nat) (Option.none : Option Jvm.ClassFile.FieldType)) ∈ lw_all := lw_g (lw_at lw_m7 220 rfl) rfl
theorem q1847 : (Jvm.Cond.methodLink "BracketRoomModel" (264 : Nat) ({ cls := "BracketRoomModel", name := "left", desc := "(II)I" } : Jvm.MethodName)) ∈ lw_all := lw_g (lw_at lw_m7 221 rfl) rfl
theorem q1848 : (Jvm.Cond.static ({ cls := "BracketRoomModel", name := "left", desc := "(II)I" } : Jvm.MethodName)) ∈ lw_all := lw_g (lw_at lw_m7 222 rfl) rfl
theorem q1849 : (Jvm.Cond.code ({ cls := "BracketRoomModel", name := "left", desc := "(II)I" } : Jvm.MethodName) prog_11_method_53_code (2 : Nat) (Option.some Jvm.ClassFile.FieldType.int)) ∈ lw_all := lw_g (lw_at lw_m7 223 rfl) rfl
theorem q1850 : (Jvm.Cond.methodLink "BracketRoomModel" (313 : Nat) ({ cls := "BracketRoomModel", name := "isWell", desc := "()Z" } : Jvm.MethodName)) ∈ lw_all := lw_g (lw_at lw_m7 224 rfl) rfl
theorem q1851 : (Jvm.Cond.privateMethod ({ cls := "BracketRoomModel", name := "isWell", desc := "()Z" } : Jvm.MethodName)) ∈ lw_tbl := lw_at lw_m7 225 rfl
theorem q1852 : (Jvm.Cond.instanceMethod ({ cls := "BracketRoomModel", name := "isWell", desc := "()Z" } : Jvm.MethodName)) ∈ lw_all := lw_g (lw_at lw_m7 226 rfl) rfl
theorem q1853 : (Jvm.Cond.code ({ cls := "BracketRoomModel", name := "isWell", desc := "()Z" } : Jvm.MethodName) prog_11_method_46_code (1 : Nat) (Option.some Jvm.ClassFile.FieldType.boolean)) ∈ lw_all := lw_g (lw_at lw_m7 227 rfl) rfl
theorem q1854 : (Jvm.Cond.methodLink "BracketRoomModel" (316 : Nat) ({ cls := "BracketRoomModel", name := "move", desc := "([II[II)V" } : Jvm.MethodName)) ∈ lw_all := lw_g (lw_at lw_m7 228 rfl) rfl
theorem q1855 : (Jvm.Cond.privateMethod ({ cls := "BracketRoomModel", name := "move", desc := "([II[II)V" } : Jvm.MethodName)) ∈ lw_tbl := lw_at lw_m7 229 rfl
theorem q1856 : (Jvm.Cond.instanceMethod ({ cls := "BracketRoomModel", name := "move", desc := "([II[II)V" } : Jvm.MethodName)) ∈ lw_all := lw_g (lw_at lw_m7 230 rfl) rfl
theorem q1857 : (Jvm.Cond.code ({ cls := "BracketRoomModel", name := "move", desc := "([II[II)V" } : Jvm.MethodName) prog_11_method_56_code (6 : Nat) (Option.none : Option Jvm.ClassFile.FieldType)) ∈ lw_all := lw_g (lw_at lw_m7 231 rfl) rfl
theorem q1859 : (Jvm.Cond.instanceMethod ({ cls := "BracketRoomModel", name := "many", desc := "(I)I" } : Jvm.MethodName)) ∈ lw_all := lw_g (lw_at lw_m7 233 rfl) rfl
theorem q1860 : (Jvm.Cond.selects "BracketRoomModel" ({ cls := "BracketRoomModel", name := "many", desc := "(I)I" } : Jvm.MethodName) ({ cls := "BracketRoomModel", name := "many", desc := "(I)I" } : Jvm.MethodName)) ∈ lw_all := lw_g (lw_at lw_m7 234 rfl) rfl
theorem q1861 : (Jvm.Cond.code ({ cls := "BracketRoomModel", name := "many", desc := "(I)I" } : Jvm.MethodName) prog_11_method_77_code (6 : Nat) (Option.some Jvm.ClassFile.FieldType.int)) ∈ lw_all := lw_g (lw_at lw_m7 235 rfl) rfl
theorem q1862 : (Jvm.Cond.methodLink "BracketRoomModel" (348 : Nat) ({ cls := "BracketRoomModel", name := "askNow", desc := "()V" } : Jvm.MethodName)) ∈ lw_all := lw_g (lw_at lw_m7 236 rfl) rfl
theorem q1863 : (Jvm.Cond.privateMethod ({ cls := "BracketRoomModel", name := "askNow", desc := "()V" } : Jvm.MethodName)) ∈ lw_tbl := lw_at lw_m7 237 rfl
theorem q1864 : (Jvm.Cond.instanceMethod ({ cls := "BracketRoomModel", name := "askNow", desc := "()V" } : Jvm.MethodName)) ∈ lw_all := lw_g (lw_at lw_m7 238 rfl) rfl
theorem q1865 : (Jvm.Cond.code ({ cls := "BracketRoomModel", name := "askNow", desc := "()V" } : Jvm.MethodName) prog_11_method_50_code (1 : Nat) (Option.none : Option Jvm.ClassFile.FieldType)) ∈ lw_all := lw_g (lw_at lw_m7 239 rfl) rfl
theorem q1866 : (Jvm.Cond.methodLink "BracketRoomModel" (256 : Nat) ({ cls := "BracketRoomModel", name := "ask", desc := "([II)V" } : Jvm.MethodName)) ∈ lw_all := lw_g (lw_at lw_m8 0 rfl) rfl
theorem q1867 : (Jvm.Cond.privateMethod ({ cls := "BracketRoomModel", name := "ask", desc := "([II)V" } : Jvm.MethodName)) ∈ lw_tbl := lw_at lw_m8 1 rfl
theorem q1868 : (Jvm.Cond.instanceMethod ({ cls := "BracketRoomModel", name := "ask", desc := "([II)V" } : Jvm.MethodName)) ∈ lw_all := lw_g (lw_at lw_m8 2 rfl) rfl
theorem q1869 : (Jvm.Cond.code ({ cls := "BracketRoomModel", name := "ask", desc := "([II)V" } : Jvm.MethodName) prog_11_method_49_code (3 : Nat) (Option.none : Option Jvm.ClassFile.FieldType)) ∈ lw_all := lw_g (lw_at lw_m8 3 rfl) rfl
theorem q1870 : (Jvm.Cond.constantLong "BracketRoomModel" (165 : Nat) (3 : Int64)) ∈ lw_all := lw_g (lw_at lw_m8 4 rfl) rfl
theorem q1871 : (Jvm.Cond.methodLink "BracketRoomModel" (351 : Nat) ({ cls := "BracketRoomModel", name := "refuse", desc := "(I)I" } : Jvm.MethodName)) ∈ lw_all := lw_g (lw_at lw_m8 5 rfl) rfl
theorem q1872 : (Jvm.Cond.privateMethod ({ cls := "BracketRoomModel", name := "refuse", desc := "(I)I" } : Jvm.MethodName)) ∈ lw_tbl := lw_at lw_m8 6 rfl
theorem q1873 : (Jvm.Cond.instanceMethod ({ cls := "BracketRoomModel", name := "refuse", desc := "(I)I" } : Jvm.MethodName)) ∈ lw_all := lw_g (lw_at lw_m8 7 rfl) rfl
theorem q1874 : (Jvm.Cond.code ({ cls := "BracketRoomModel", name := "refuse", desc := "(I)I" } : Jvm.MethodName) prog_11_method_6_code (2 : Nat) (Option.some Jvm.ClassFile.FieldType.int)) ∈ lw_all := lw_g (lw_at lw_m8 8 rfl) rfl
theorem q1875 : (Jvm.Cond.methodLink "BracketRoomModel" (327 : Nat) ({ cls := "BracketRoomModel", name := "table", desc := "(III)I" } : Jvm.MethodName)) ∈ lw_all := lw_g (lw_at lw_m8 9 rfl) rfl
theorem q1876 : (Jvm.Cond.privateMethod ({ cls := "BracketRoomModel", name := "table", desc := "(III)I" } : Jvm.MethodName)) ∈ lw_tbl := lw_at lw_m8 10 rfl
theorem q1877 : (Jvm.Cond.instanceMethod ({ cls := "BracketRoomModel", name := "table", desc := "(III)I" } : Jvm.MethodName)) ∈ lw_all := lw_g (lw_at lw_m8 11 rfl) rfl
theorem q1878 : (Jvm.Cond.code ({ cls := "BracketRoomModel", name := "table", desc := "(III)I" } : Jvm.MethodName) prog_11_method_52_code (4 : Nat) (Option.some Jvm.ClassFile.FieldType.int)) ∈ lw_all := lw_g (lw_at lw_m8 12 rfl) rfl
theorem q1880 : (Jvm.Cond.instanceMethod ({ cls := "BracketRoomModel", name := "constant", desc := "(III)I" } : Jvm.MethodName)) ∈ lw_all := lw_g (lw_at lw_m8 14 rfl) rfl
theorem q1881 : (Jvm.Cond.selects "BracketRoomModel" ({ cls := "BracketRoomModel", name := "constant", desc := "(III)I" } : Jvm.MethodName) ({ cls := "BracketRoomModel", name := "constant", desc := "(III)I" } : Jvm.MethodName)) ∈ lw_all := lw_g (lw_at lw_m8 15 rfl) rfl
theorem q1882 : (Jvm.Cond.code ({ cls := "BracketRoomModel", name := "constant", desc := "(III)I" } : Jvm.MethodName) prog_11_method_78_code (4 : Nat) (Option.some Jvm.ClassFile.FieldType.int)) ∈ lw_all := lw_g (lw_at lw_m8 16 rfl) rfl
theorem q1883 : (Jvm.Cond.methodLink "BracketRoomModel" (354 : Nat) ({ cls := "BracketRoomModel", name := "isBase", desc := "(I)Z" } : Jvm.MethodName)) ∈ lw_all := lw_g (lw_at lw_m8 17 rfl) rfl
theorem q1884 : (Jvm.Cond.privateMethod ({ cls := "BracketRoomModel", name := "isBase", desc := "(I)Z" } : Jvm.MethodName)) ∈ lw_tbl := lw_at lw_m8 18 rfl
theorem q1885 : (Jvm.Cond.instanceMethod ({ cls := "BracketRoomModel", name := "isBase", desc := "(I)Z" } : Jvm.MethodName)) ∈ lw_all := lw_g (lw_at lw_m8 19 rfl) rfl
theorem q1886 : (Jvm.Cond.code ({ cls := "BracketRoomModel", name := "isBase", desc := "(I)Z" } : Jvm.MethodName) prog_11_method_62_code (2 : Nat) (Option.some Jvm.ClassFile.FieldType.boolean)) ∈ lw_all := lw_g (lw_at lw_m8 20 rfl) rfl
theorem q1888 : (Jvm.Cond.instanceMethod ({ cls := "BracketRoomModel", name := "put", desc := "(IIII)Z" } : Jvm.MethodName)) ∈ lw_all := lw_g (lw_at lw_m8 22 rfl) rfl
theorem q1889 : (Jvm.Cond.selects "BracketRoomModel" ({ cls := "BracketRoomModel", name := "put", desc := "(IIII)Z" } : Jvm.MethodName) ({ cls := "BracketRoomModel", name := "put", desc := "(IIII)Z" } : Jvm.MethodName)) ∈ lw_all := lw_g (lw_at lw_m8 23 rfl) rfl
theorem q1890 : (Jvm.Cond.code ({ cls := "BracketRoomModel", name := "put", desc := "(IIII)Z" } : Jvm.MethodName) prog_11_method_79_code (5 : Nat) (Option.some Jvm.ClassFile.FieldType.boolean)) ∈ lw_all := lw_g (lw_at lw_m8 24 rfl) rfl
theorem q1892 : (Jvm.Cond.instanceMethod ({ cls := "BracketRoomModel", name := "bracket", desc := "(II)I" } : Jvm.MethodName)) ∈ lw_all := lw_g (lw_at lw_m8 26 rfl) rfl
theorem q1893 : (Jvm.Cond.selects "BracketRoomModel" ({ cls := "BracketRoomModel", name := "bracket", desc := "(II)I" } : Jvm.MethodName) ({ cls := "BracketRoomModel", name := "bracket", desc := "(II)I" } : Jvm.MethodName)) ∈ lw_all := lw_g (lw_at lw_m8 27 rfl) rfl
theorem q1894 : (Jvm.Cond.code ({ cls := "BracketRoomModel", name := "bracket", desc := "(II)I" } : Jvm.MethodName) prog_11_method_80_code (3 : Nat) (Option.some Jvm.ClassFile.FieldType.int)) ∈ lw_all := lw_g (lw_at lw_m8 28 rfl) rfl
theorem q1895 : (Jvm.Cond.methodLink "BracketRoomModel" (357 : Nat) ({ cls := "BracketRoomModel", name := "isVector", desc := "(J)Z" } : Jvm.MethodName)) ∈ lw_all := lw_g (lw_at lw_m8 29 rfl) rfl
theorem q1896 : (Jvm.Cond.privateMethod ({ cls := "BracketRoomModel", name := "isVector", desc := "(J)Z" } : Jvm.MethodName)) ∈ lw_tbl := lw_at lw_m8 30 rfl
theorem q1897 : (Jvm.Cond.instanceMethod ({ cls := "BracketRoomModel", name := "isVector", desc := "(J)Z" } : Jvm.MethodName)) ∈ lw_all := lw_g (lw_at lw_m8 31 rfl) rfl
theorem q1898 : (Jvm.Cond.code ({ cls := "BracketRoomModel", name := "isVector", desc := "(J)Z" } : Jvm.MethodName) prog_11_method_63_code (3 : Nat) (Option.some Jvm.ClassFile.FieldType.boolean)) ∈ lw_all := lw_g (lw_at lw_m8 32 rfl) rfl
theorem q1899 : (Jvm.Cond.methodLink "BracketRoomModel" (323 : Nat) ({ cls := "BracketRoomModel", name := "vectors", desc := "()I" } : Jvm.MethodName)) ∈ lw_all := lw_g (lw_at lw_m8 33 rfl) rfl
theorem q1900 : (Jvm.Cond.privateMethod ({ cls := "BracketRoomModel", name := "vectors", desc := "()I" } : Jvm.MethodName)) ∈ lw_tbl := lw_at lw_m8 34 rfl
theorem q1901 : (Jvm.Cond.instanceMethod ({ cls := "BracketRoomModel", name := "vectors", desc := "()I" } : Jvm.MethodName)) ∈ lw_all := lw_g (lw_at lw_m8 35 rfl) rfl
theorem q1902 : (Jvm.Cond.code ({ cls := "BracketRoomModel", name := "vectors", desc := "()I" } : Jvm.MethodName) prog_11_method_61_code (1 : Nat) (Option.some Jvm.ClassFile.FieldType.int)) ∈ lw_all := lw_g (lw_at lw_m8 36 rfl) rfl
theorem q1903 : (Jvm.Cond.methodLink "BracketRoomModel" (320 : Nat) ({ cls := "BracketRoomModel", name := "powerOf", desc := "(I)I" } : Jvm.MethodName)) ∈ lw_all := lw_g (lw_at lw_m8 37 rfl) rfl
theorem q1904 : (Jvm.Cond.privateMethod ({ cls := "BracketRoomModel", name := "powerOf", desc := "(I)I" } : Jvm.MethodName)) ∈ lw_tbl := lw_at lw_m8 38 rfl
theorem q1905 : (Jvm.Cond.instanceMethod ({ cls := "BracketRoomModel", name := "powerOf", desc := "(I)I" } : Jvm.MethodName)) ∈ lw_all := lw_g (lw_at lw_m8 39 rfl) rfl
theorem q1906 : (Jvm.Cond.code ({ cls := "BracketRoomModel", name := "powerOf", desc := "(I)I" } : Jvm.MethodName) prog_11_method_60_code (4 : Nat) (Option.some Jvm.ClassFile.FieldType.int)) ∈ lw_all := lw_g (lw_at lw_m8 40 rfl) rfl
theorem q1907 : (Jvm.Cond.methodLink "BracketRoomModel" (360 : Nat) ({ cls := "BracketRoomModel", name := "parts2", desc := "(I[II)V" } : Jvm.MethodName)) ∈ lw_all := lw_g (lw_at lw_m8 41 rfl) rfl
theorem q1908 : (Jvm.Cond.privateMethod ({ cls := "BracketRoomModel", name := "parts2", desc := "(I[II)V" } : Jvm.MethodName)) ∈ lw_tbl := lw_at lw_m8 42 rfl
theorem q1909 : (Jvm.Cond.instanceMethod ({ cls := "BracketRoomModel", name := "parts2", desc := "(I[II)V" } : Jvm.MethodName)) ∈ lw_all := lw_g (lw_at lw_m8 43 rfl) rfl
theorem q1910 : (Jvm.Cond.code ({ cls := "BracketRoomModel", name := "parts2", desc := "(I[II)V" } : Jvm.MethodName) prog_11_method_65_code (6 : Nat) (Option.none : Option Jvm.ClassFile.FieldType)) ∈ lw_all := lw_g (lw_at lw_m8 44 rfl) rfl
theorem q1911 : (Jvm.Cond.methodLink "BracketRoomModel" (340 : Nat) ({ cls := "BracketRoomModel", name := "bracketOf", desc := "([II[II[I)V" } : Jvm.MethodName)) ∈ lw_all := lw_g (lw_at lw_m8 45 rfl) rfl
theorem q1912 : (Jvm.Cond.privateMethod ({ cls := "BracketRoomModel", name := "bracketOf", desc := "([II[II[I)V" } : Jvm.MethodName)) ∈ lw_tbl := lw_at lw_m8 46 rfl
theorem q1913 : (Jvm.Cond.instanceMethod ({ cls := "BracketRoomModel", name := "bracketOf", desc := "([II[II[I)V" } : Jvm.MethodName)) ∈ lw_all := lw_g (lw_at lw_m8 47 rfl) rfl
theorem q1914 : (Jvm.Cond.code ({ cls := "BracketRoomModel", name := "bracketOf", desc := "([II[II[I)V" } : Jvm.MethodName) prog_11_method_69_code (10 : Nat) (Option.none : Option Jvm.ClassFile.FieldType)) ∈ lw_all := lw_g (lw_at lw_m8 48 rfl) rfl
theorem q1915 : (Jvm.Cond.methodLink "BracketRoomModel" (364 : Nat) ({ cls := "BracketRoomModel", name := "numberOfVector", desc := "([II)I" } : Jvm.MethodName)) ∈ lw_all := lw_g (lw_at lw_m8 49 rfl) rfl
theorem q1916 : (Jvm.Cond.privateMethod ({ cls := "BracketRoomModel", name := "numberOfVector", desc := "([II)I" } : Jvm.MethodName)) ∈ lw_tbl := lw_at lw_m8 50 rfl
theorem q1917 : (Jvm.Cond.instanceMethod ({ cls := "BracketRoomModel", name := "numberOfVector", desc := "([II)I" } : Jvm.MethodName)) ∈ lw_all := lw_g (lw_at lw_m8 51 rfl) rfl
theorem q1918 : (Jvm.Cond.code ({ cls := "BracketRoomModel", name := "numberOfVector", desc := "([II)I" } : Jvm.MethodName) prog_11_method_66_code (5 : Nat) (Option.some Jvm.ClassFile.FieldType.int)) ∈ lw_all := lw_g (lw_at lw_m8 52 rfl) rfl
theorem q1920 : (Jvm.Cond.instanceMethod ({ cls := "BracketRoomModel", name := "lawful", desc := "()I" } : Jvm.MethodName)) ∈ lw_all := lw_g (lw_at lw_m8 54 rfl) rfl
theorem q1921 : (Jvm.Cond.selects "BracketRoomModel" ({ cls := "BracketRoomModel", name := "lawful", desc := "()I" } : Jvm.MethodName) ({ cls := "BracketRoomModel", name := "lawful", desc := "()I" } : Jvm.MethodName)) ∈ lw_all := lw_g (lw_at lw_m8 55 rfl) rfl
theorem q1922 : (Jvm.Cond.code ({ cls := "BracketRoomModel", name := "lawful", desc := "()I" } : Jvm.MethodName) prog_11_method_84_code (1 : Nat) (Option.some Jvm.ClassFile.FieldType.int)) ∈ lw_all := lw_g (lw_at lw_m8 56 rfl) rfl
theorem q1923 : (Jvm.Cond.methodLink "BracketRoomModel" (379 : Nat) ({ cls := "BracketRoomModel", name := "isLawful", desc := "()Z" } : Jvm.MethodName)) ∈ lw_all := lw_g (lw_at lw_m8 57 rfl) rfl
theorem q1924 : (Jvm.Cond.privateMethod ({ cls := "BracketRoomModel", name := "isLawful", desc := "()Z" } : Jvm.MethodName)) ∈ lw_tbl := lw_at lw_m8 58 rfl
theorem q1925 : (Jvm.Cond.instanceMethod ({ cls := "BracketRoomModel", name := "isLawful", desc := "()Z" } : Jvm.MethodName)) ∈ lw_all := lw_g (lw_at lw_m8 59 rfl) rfl
theorem q1926 : (Jvm.Cond.code ({ cls := "BracketRoomModel", name := "isLawful", desc := "()Z" } : Jvm.MethodName) prog_11_method_83_code (4 : Nat) (Option.some Jvm.ClassFile.FieldType.boolean)) ∈ lw_all := lw_g (lw_at lw_m8 60 rfl) rfl
theorem q1927 : (Jvm.Cond.methodLink "BracketRoomModel" (375 : Nat) ({ cls := "BracketRoomModel", name := "breaks", desc := "(III)Z" } : Jvm.MethodName)) ∈ lw_all := lw_g (lw_at lw_m8 61 rfl) rfl
theorem q1928 : (Jvm.Cond.privateMethod ({ cls := "BracketRoomModel", name := "breaks", desc := "(III)Z" } : Jvm.MethodName)) ∈ lw_tbl := lw_at lw_m8 62 rfl
theorem q1929 : (Jvm.Cond.instanceMethod ({ cls := "BracketRoomModel", name := "breaks", desc := "(III)Z" } : Jvm.MethodName)) ∈ lw_all := lw_g (lw_at lw_m8 63 rfl) rfl
theorem q1930 : (Jvm.Cond.code ({ cls := "BracketRoomModel", name := "breaks", desc := "(III)Z" } : Jvm.MethodName) prog_11_method_82_code (5 : Nat) (Option.some Jvm.ClassFile.FieldType.boolean)) ∈ lw_all := lw_g (lw_at lw_m8 64 rfl) rfl
theorem q1931 : (Jvm.Cond.methodLink "BracketRoomModel" (371 : Nat) ({ cls := "BracketRoomModel", name := "addJacobi", desc := "(III[I)V" } : Jvm.MethodName)) ∈ lw_all := lw_g (lw_at lw_m8 65 rfl) rfl
theorem q1932 : (Jvm.Cond.privateMethod ({ cls := "BracketRoomModel", name := "addJacobi", desc := "(III[I)V" } : Jvm.MethodName)) ∈ lw_tbl := lw_at lw_m8 66 rfl
theorem q1933 : (Jvm.Cond.instanceMethod ({ cls := "BracketRoomModel", name := "addJacobi", desc := "(III[I)V" } : Jvm.MethodName)) ∈ lw_all := lw_g (lw_at lw_m8 67 rfl) rfl
theorem q1934 : (Jvm.Cond.code ({ cls := "BracketRoomModel", name := "addJacobi", desc := "(III[I)V" } : Jvm.MethodName) prog_11_method_81_code (6 : Nat) (Option.none : Option Jvm.ClassFile.FieldType)) ∈ lw_all := lw_g (lw_at lw_m8 68 rfl) rfl
theorem q1935 : (Jvm.Cond.methodLink "BracketRoomModel" (367 : Nat) ({ cls := "BracketRoomModel", name := "unit", desc := "(I[I)V" } : Jvm.MethodName)) ∈ lw_all := lw_g (lw_at lw_m8 69 rfl) rfl
theorem q1936 : (Jvm.Cond.privateMethod ({ cls := "BracketRoomModel", name := "unit", desc := "(I[I)V" } : Jvm.MethodName)) ∈ lw_tbl := lw_at lw_m8 70 rfl
theorem q1937 : (Jvm.Cond.instanceMethod ({ cls := "BracketRoomModel", name := "unit", desc := "(I[I)V" } : Jvm.MethodName)) ∈ lw_all := lw_g (lw_at lw_m8 71 rfl) rfl
theorem q1938 : (Jvm.Cond.code ({ cls := "BracketRoomModel", name := "unit", desc := "(I[I)V" } : Jvm.MethodName) prog_11_method_67_code (4 : Nat) (Option.none : Option Jvm.ClassFile.FieldType)) ∈ lw_all := lw_g (lw_at lw_m8 72 rfl) rfl
theorem q1939 : (Jvm.Cond.methodLink "BracketRoomModel" (330 : Nat) ({ cls := "BracketRoomModel", name := "leadOf", desc := "([II)I" } : Jvm.MethodName)) ∈ lw_all := lw_g (lw_at lw_m8 73 rfl) rfl
theorem q1940 : (Jvm.Cond.privateMethod ({ cls := "BracketRoomModel", name := "leadOf", desc := "([II)I" } : Jvm.MethodName)) ∈ lw_tbl := lw_at lw_m8 74 rfl
theorem q1941 : (Jvm.Cond.instanceMethod ({ cls := "BracketRoomModel", name := "leadOf", desc := "([II)I" } : Jvm.MethodName)) ∈ lw_all := lw_g (lw_at lw_m8 75 rfl) rfl
theorem q1942 : (Jvm.Cond.code ({ cls := "BracketRoomModel", name := "leadOf", desc := "([II)I" } : Jvm.MethodName) prog_11_method_70_code (4 : Nat) (Option.some Jvm.ClassFile.FieldType.int)) ∈ lw_all := lw_g (lw_at lw_m8 76 rfl) rfl
theorem q1944 : (Jvm.Cond.instanceMethod ({ cls := "BracketRoomModel", name := "failing", desc := "(I)I" } : Jvm.MethodName)) ∈ lw_all := lw_g (lw_at lw_m8 78 rfl) rfl
theorem q1945 : (Jvm.Cond.selects "BracketRoomModel" ({ cls := "BracketRoomModel", name := "failing", desc := "(I)I" } : Jvm.MethodName) ({ cls := "BracketRoomModel", name := "failing", desc := "(I)I" } : Jvm.MethodName)) ∈ lw_all := lw_g (lw_at lw_m8 79 rfl) rfl
theorem q1946 : (Jvm.Cond.code ({ cls := "BracketRoomModel", name := "failing", desc := "(I)I" } : Jvm.MethodName) prog_11_method_85_code (5 : Nat) (Option.some Jvm.ClassFile.FieldType.int)) ∈ lw_all := lw_g (lw_at lw_m8 80 rfl) rfl
theorem q1947 : (Jvm.Cond.constantLong "BracketRoomModel" (382 : Nat) (2 : Int64)) ∈ lw_all := lw_g (lw_at lw_m8 81 rfl) rfl
theorem q1949 : (Jvm.Cond.instanceMethod ({ cls := "BracketRoomModel", name := "keep", desc := "(I)Z" } : Jvm.MethodName)) ∈ lw_all := lw_g (lw_at lw_m8 83 rfl) rfl
theorem q1950 : (Jvm.Cond.selects "BracketRoomModel" ({ cls := "BracketRoomModel", name := "keep", desc := "(I)Z" } : Jvm.MethodName) ({ cls := "BracketRoomModel", name := "keep", desc := "(I)Z" } : Jvm.MethodName)) ∈ lw_all := lw_g (lw_at lw_m8 84 rfl) rfl
theorem q1951 : (Jvm.Cond.code ({ cls := "BracketRoomModel", name := "keep", desc := "(I)Z" } : Jvm.MethodName) prog_11_method_87_code (2 : Nat) (Option.some Jvm.ClassFile.FieldType.boolean)) ∈ lw_all := lw_g (lw_at lw_m8 85 rfl) rfl
theorem q1952 : (Jvm.Cond.methodLink "BracketRoomModel" (384 : Nat) ({ cls := "BracketRoomModel", name := "isShelf", desc := "(I)Z" } : Jvm.MethodName)) ∈ lw_all := lw_g (lw_at lw_m8 86 rfl) rfl
theorem q1953 : (Jvm.Cond.static ({ cls := "BracketRoomModel", name := "isShelf", desc := "(I)Z" } : Jvm.MethodName)) ∈ lw_all := lw_g (lw_at lw_m8 87 rfl) rfl
theorem q1954 : (Jvm.Cond.code ({ cls := "BracketRoomModel", name := "isShelf", desc := "(I)Z" } : Jvm.MethodName) prog_11_method_64_code (1 : Nat) (Option.some Jvm.ClassFile.FieldType.boolean)) ∈ lw_all := lw_g (lw_at lw_m8 88 rfl) rfl
theorem q1956 : (Jvm.Cond.instanceMethod ({ cls := "BracketRoomModel", name := "take", desc := "(I)Z" } : Jvm.MethodName)) ∈ lw_all := lw_g (lw_at lw_m8 90 rfl) rfl
theorem q1957 : (Jvm.Cond.selects "BracketRoomModel" ({ cls := "BracketRoomModel", name := "take", desc := "(I)Z" } : Jvm.MethodName) ({ cls := "BracketRoomModel", name := "take", desc := "(I)Z" } : Jvm.MethodName)) ∈ lw_all := lw_g (lw_at lw_m8 91 rfl) rfl
theorem q1958 : (Jvm.Cond.code ({ cls := "BracketRoomModel", name := "take", desc := "(I)Z" } : Jvm.MethodName) prog_11_method_88_code (2 : Nat) (Option.some Jvm.ClassFile.FieldType.boolean)) ∈ lw_all := lw_g (lw_at lw_m8 92 rfl) rfl
theorem q1959 : (Jvm.Cond.methodLink "BracketRoomModel" (387 : Nat) ({ cls := "BracketRoomModel", name := "isEmpty", desc := "(I)Z" } : Jvm.MethodName)) ∈ lw_all := lw_g (lw_at lw_m8 93 rfl) rfl
theorem q1960 : (Jvm.Cond.privateMethod ({ cls := "BracketRoomModel", name := "isEmpty", desc := "(I)Z" } : Jvm.MethodName)) ∈ lw_tbl := lw_at lw_m8 94 rfl
theorem q1961 : (Jvm.Cond.instanceMethod ({ cls := "BracketRoomModel", name := "isEmpty", desc := "(I)Z" } : Jvm.MethodName)) ∈ lw_all := lw_g (lw_at lw_m8 95 rfl) rfl
theorem q1962 : (Jvm.Cond.code ({ cls := "BracketRoomModel", name := "isEmpty", desc := "(I)Z" } : Jvm.MethodName) prog_11_method_86_code (2 : Nat) (Option.some Jvm.ClassFile.FieldType.boolean)) ∈ lw_all := lw_g (lw_at lw_m8 96 rfl) rfl
theorem q1964 : (Jvm.Cond.instanceMethod ({ cls := "BracketRoomModel", name := "span", desc := "(III)I" } : Jvm.MethodName)) ∈ lw_all := lw_g (lw_at lw_m8 98 rfl) rfl
theorem q1965 : (Jvm.Cond.selects "BracketRoomModel" ({ cls := "BracketRoomModel", name := "span", desc := "(III)I" } : Jvm.MethodName) ({ cls := "BracketRoomModel", name := "span", desc := "(III)I" } : Jvm.MethodName)) ∈ lw_all := lw_g (lw_at lw_m8 99 rfl) rfl
theorem q1966 : (Jvm.Cond.code ({ cls := "BracketRoomModel", name := "span", desc := "(III)I" } : Jvm.MethodName) prog_11_method_91_code (5 : Nat) (Option.some Jvm.ClassFile.FieldType.int)) ∈ lw_all := lw_g (lw_at lw_m8 100 rfl) rfl
theorem q1967 : (Jvm.Cond.methodLink "BracketRoomModel" (402 : Nat) ({ cls := "BracketRoomModel", name := "isTray", desc := "(I)Z" } : Jvm.MethodName)) ∈ lw_all := lw_g (lw_at lw_m8 101 rfl) rfl
theorem q1968 : (Jvm.Cond.privateMethod ({ cls := "BracketRoomModel", name := "isTray", desc := "(I)Z" } : Jvm.MethodName)) ∈ lw_tbl := lw_at lw_m8 102 rfl
theorem q1969 : (Jvm.Cond.instanceMethod ({ cls := "BracketRoomModel", name := "isTray", desc := "(I)Z" } : Jvm.MethodName)) ∈ lw_all := lw_g (lw_at lw_m8 103 rfl) rfl
theorem q1970 : (Jvm.Cond.code ({ cls := "BracketRoomModel", name := "isTray", desc := "(I)Z" } : Jvm.MethodName) prog_11_method_18_code (2 : Nat) (Option.some Jvm.ClassFile.FieldType.boolean)) ∈ lw_all := lw_g (lw_at lw_m8 104 rfl) rfl
theorem q1971 : (Jvm.Cond.constantLong "BracketRoomModel" (405 : Nat) (20 : Int64)) ∈ lw_all := lw_g (lw_at lw_m8 105 rfl) rfl
theorem q1972 : (Jvm.Cond.methodLink "BracketRoomModel" (407 : Nat) ({ cls := "BracketRoomModel", name := "wrongVectors", desc := "(II)I" } : Jvm.MethodName)) ∈ lw_all := lw_g (lw_at lw_m8 106 rfl) rfl
theorem q1973 : (Jvm.Cond.privateMethod ({ cls := "BracketRoomModel", name := "wrongVectors", desc := "(II)I" } : Jvm.MethodName)) ∈ lw_tbl := lw_at lw_m8 107 rfl
theorem q1974 : (Jvm.Cond.instanceMethod ({ cls := "BracketRoomModel", name := "wrongVectors", desc := "(II)I" } : Jvm.MethodName)) ∈ lw_all := lw_g (lw_at lw_m8 108 rfl) rfl
theorem q1975 : (Jvm.Cond.code ({ cls := "BracketRoomModel", name := "wrongVectors", desc := "(II)I" } : Jvm.MethodName) prog_11_method_90_code (4 : Nat) (Option.some Jvm.ClassFile.FieldType.int)) ∈ lw_all := lw_g (lw_at lw_m8 109 rfl) rfl
theorem q1976 : (Jvm.Cond.methodLink "BracketRoomModel" (390 : Nat) ({ cls := "BracketRoomModel", name := "numberOf", desc := "(II)J" } : Jvm.MethodName)) ∈ lw_all := lw_g (lw_at lw_m8 110 rfl) rfl
theorem q1977 : (Jvm.Cond.privateMethod ({ cls := "BracketRoomModel", name := "numberOf", desc := "(II)J" } : Jvm.MethodName)) ∈ lw_tbl := lw_at lw_m8 111 rfl
theorem q1978 : (Jvm.Cond.instanceMethod ({ cls := "BracketRoomModel", name := "numberOf", desc := "(II)J" } : Jvm.MethodName)) ∈ lw_all := lw_g (lw_at lw_m8 112 rfl) rfl
theorem q1979 : (Jvm.Cond.code ({ cls := "BracketRoomModel", name := "numberOf", desc := "(II)J" } : Jvm.MethodName) prog_11_method_17_code (3 : Nat) (Option.some Jvm.ClassFile.FieldType.long)) ∈ lw_all := lw_g (lw_at lw_m8 113 rfl) rfl
theorem q1980 : (Jvm.Cond.methodLink "BracketRoomModel" (410 : Nat) ({ cls := "BracketRoomModel", name := "made", desc := "(III)I" } : Jvm.MethodName)) ∈ lw_all := lw_g (lw_at lw_m8 114 rfl) rfl
theorem q1981 : (Jvm.Cond.privateMethod ({ cls := "BracketRoomModel", name := "made", desc := "(III)I" } : Jvm.MethodName)) ∈ lw_tbl := lw_at lw_m8 115 rfl
theorem q1982 : (Jvm.Cond.instanceMethod ({ cls := "BracketRoomModel", name := "made", desc := "(III)I" } : Jvm.MethodName)) ∈ lw_all := lw_g (lw_at lw_m8 116 rfl) rfl
theorem q1983 : (Jvm.Cond.code ({ cls := "BracketRoomModel", name := "made", desc := "(III)I" } : Jvm.MethodName) prog_11_method_89_code (9 : Nat) (Option.some Jvm.ClassFile.FieldType.int)) ∈ lw_all := lw_g (lw_at lw_m8 117 rfl) rfl
theorem q1984 : (Jvm.Cond.methodLink "BracketRoomModel" (344 : Nat) ({ cls := "BracketRoomModel", name := "join", desc := "([II[II)I" } : Jvm.MethodName)) ∈ lw_all := lw_g (lw_at lw_m8 118 rfl) rfl
theorem q1985 : (Jvm.Cond.privateMethod ({ cls := "BracketRoomModel", name := "join", desc := "([II[II)I" } : Jvm.MethodName)) ∈ lw_tbl := lw_at lw_m8 119 rfl
theorem q1986 : (Jvm.Cond.instanceMethod ({ cls := "BracketRoomModel", name := "join", desc := "([II[II)I" } : Jvm.MethodName)) ∈ lw_all := lw_g (lw_at lw_m8 120 rfl) rfl
theorem q1987 : (Jvm.Cond.code ({ cls := "BracketRoomModel", name := "join", desc := "([II[II)I" } : Jvm.MethodName) prog_11_method_73_code (11 : Nat) (Option.some Jvm.ClassFile.FieldType.int)) ∈ lw_all := lw_g (lw_at lw_m8 121 rfl) rfl
theorem q1988 : (Jvm.Cond.methodLink "BracketRoomModel" (334 : Nat) ({ cls := "BracketRoomModel", name := "reduce", desc := "([II[II)V" } : Jvm.MethodName)) ∈ lw_all := lw_g (lw_at lw_m8 122 rfl) rfl
theorem q1989 : (Jvm.Cond.privateMethod ({ cls := "BracketRoomModel", name := "reduce", desc := "([II[II)V" } : Jvm.MethodName)) ∈ lw_tbl := lw_at lw_m8 123 rfl
theorem q1990 : (Jvm.Cond.instanceMethod ({ cls := "BracketRoomModel", name := "reduce", desc := "([II[II)V" } : Jvm.MethodName)) ∈ lw_all := lw_g (lw_at lw_m8 124 rfl) rfl
theorem q1991 : (Jvm.Cond.code ({ cls := "BracketRoomModel", name := "reduce", desc := "([II[II)V" } : Jvm.MethodName) prog_11_method_71_code (8 : Nat) (Option.none : Option Jvm.ClassFile.FieldType)) ∈ lw_all := lw_g (lw_at lw_m8 125 rfl) rfl
theorem q1992 : (Jvm.Cond.methodLink "BracketRoomModel" (337 : Nat) ({ cls := "BracketRoomModel", name := "inverse", desc := "(I)I" } : Jvm.MethodName)) ∈ lw_all := lw_g (lw_at lw_m8 126 rfl) rfl
theorem q1993 : (Jvm.Cond.privateMethod ({ cls := "BracketRoomModel", name := "inverse", desc := "(I)I" } : Jvm.MethodName)) ∈ lw_tbl := lw_at lw_m8 127 rfl
theorem q1994 : (Jvm.Cond.instanceMethod ({ cls := "BracketRoomModel", name := "inverse", desc := "(I)I" } : Jvm.MethodName)) ∈ lw_all := lw_g (lw_at lw_m8 128 rfl) rfl
theorem q1995 : (Jvm.Cond.code ({ cls := "BracketRoomModel", name := "inverse", desc := "(I)I" } : Jvm.MethodName) prog_11_method_68_code (3 : Nat) (Option.some Jvm.ClassFile.FieldType.int)) ∈ lw_all := lw_g (lw_at lw_m8 129 rfl) rfl
theorem q1996 : (Jvm.Cond.methodLink "BracketRoomModel" (394 : Nat) ({ cls := "BracketRoomModel", name := "copySpan", desc := "([I[I)V" } : Jvm.MethodName)) ∈ lw_all := lw_g (lw_at lw_m8 130 rfl) rfl
theorem q1997 : (Jvm.Cond.privateMethod ({ cls := "BracketRoomModel", name := "copySpan", desc := "([I[I)V" } : Jvm.MethodName)) ∈ lw_tbl := lw_at lw_m8 131 rfl
theorem q1998 : (Jvm.Cond.instanceMethod ({ cls := "BracketRoomModel", name := "copySpan", desc := "([I[I)V" } : Jvm.MethodName)) ∈ lw_all := lw_g (lw_at lw_m8 132 rfl) rfl
theorem q1999 : (Jvm.Cond.code ({ cls := "BracketRoomModel", name := "copySpan", desc := "([I[I)V" } : Jvm.MethodName) prog_11_method_74_code (4 : Nat) (Option.none : Option Jvm.ClassFile.FieldType)) ∈ lw_all := lw_g (lw_at lw_m8 133 rfl) rfl
theorem q2000 : (Jvm.Cond.methodLink "BracketRoomModel" (398 : Nat) ({ cls := "BracketRoomModel", name := "wholeSpan", desc := "([I)I" } : Jvm.MethodName)) ∈ lw_all := lw_g (lw_at lw_m8 134 rfl) rfl
theorem q2001 : (Jvm.Cond.privateMethod ({ cls := "BracketRoomModel", name := "wholeSpan", desc := "([I)I" } : Jvm.MethodName)) ∈ lw_tbl := lw_at lw_m8 135 rfl
theorem q2002 : (Jvm.Cond.instanceMethod ({ cls := "BracketRoomModel", name := "wholeSpan", desc := "([I)I" } : Jvm.MethodName)) ∈ lw_all := lw_g (lw_at lw_m8 136 rfl) rfl
theorem q2003 : (Jvm.Cond.code ({ cls := "BracketRoomModel", name := "wholeSpan", desc := "([I)I" } : Jvm.MethodName) prog_11_method_75_code (4 : Nat) (Option.some Jvm.ClassFile.FieldType.int)) ∈ lw_all := lw_g (lw_at lw_m8 137 rfl) rfl
theorem q2005 : (Jvm.Cond.instanceMethod ({ cls := "BracketRoomModel", name := "derived", desc := "(I)I" } : Jvm.MethodName)) ∈ lw_all := lw_g (lw_at lw_m8 139 rfl) rfl
theorem q2006 : (Jvm.Cond.selects "BracketRoomModel" ({ cls := "BracketRoomModel", name := "derived", desc := "(I)I" } : Jvm.MethodName) ({ cls := "BracketRoomModel", name := "derived", desc := "(I)I" } : Jvm.MethodName)) ∈ lw_all := lw_g (lw_at lw_m8 140 rfl) rfl
theorem q2007 : (Jvm.Cond.code ({ cls := "BracketRoomModel", name := "derived", desc := "(I)I" } : Jvm.MethodName) prog_11_method_93_code (2 : Nat) (Option.some Jvm.ClassFile.FieldType.int)) ∈ lw_all := lw_g (lw_at lw_m8 141 rfl) rfl
theorem q2008 : (Jvm.Cond.constantLong "BracketRoomModel" (417 : Nat) (9 : Int64)) ∈ lw_all := lw_g (lw_at lw_m8 142 rfl) rfl
theorem q2009 : (Jvm.Cond.methodLink "BracketRoomModel" (419 : Nat) ({ cls := "BracketRoomModel", name := "seriesOf", desc := "(IZ)I" } : Jvm.MethodName)) ∈ lw_all := lw_g (lw_at lw_m8 143 rfl) rfl
theorem q2010 : (Jvm.Cond.privateMethod ({ cls := "BracketRoomModel", name := "seriesOf", desc := "(IZ)I" } : Jvm.MethodName)) ∈ lw_tbl := lw_at lw_m8 144 rfl
theorem q2011 : (Jvm.Cond.instanceMethod ({ cls := "BracketRoomModel", name := "seriesOf", desc := "(IZ)I" } : Jvm.MethodName)) ∈ lw_all := lw_g (lw_at lw_m8 145 rfl) rfl
theorem q2012 : (Jvm.Cond.code ({ cls := "BracketRoomModel", name := "seriesOf", desc := "(IZ)I" } : Jvm.MethodName) prog_11_method_92_code (6 : Nat) (Option.some Jvm.ClassFile.FieldType.int)) ∈ lw_all := lw_g (lw_at lw_m8 146 rfl) rfl
theorem q2013 : (Jvm.Cond.methodLink "BracketRoomModel" (413 : Nat) ({ cls := "BracketRoomModel", name := "brackets", desc := "([II[II[I)I" } : Jvm.MethodName)) ∈ lw_all := lw_g (lw_at lw_m8 147 rfl) rfl
theorem q2014 : (Jvm.Cond.privateMethod ({ cls := "BracketRoomModel", name := "brackets", desc := "([II[II[I)I" } : Jvm.MethodName)) ∈ lw_tbl := lw_at lw_m8 148 rfl
theorem q2015 : (Jvm.Cond.instanceMethod ({ cls := "BracketRoomModel", name := "brackets", desc := "([II[II[I)I" } : Jvm.MethodName)) ∈ lw_all := lw_g (lw_at lw_m8 149 rfl) rfl
theorem q2016 : (Jvm.Cond.code ({ cls := "BracketRoomModel", name := "brackets", desc := "([II[II[I)I" } : Jvm.MethodName) prog_11_method_76_code (9 : Nat) (Option.some Jvm.ClassFile.FieldType.int)) ∈ lw_all := lw_g (lw_at lw_m8 150 rfl) rfl
theorem q2018 : (Jvm.Cond.instanceMethod ({ cls := "BracketRoomModel", name := "lower", desc := "(I)I" } : Jvm.MethodName)) ∈ lw_all := lw_g (lw_at lw_m8 152 rfl) rfl
theorem q2019 : (Jvm.Cond.selects "BracketRoomModel" ({ cls := "BracketRoomModel", name := "lower", desc := "(I)I" } : Jvm.MethodName) ({ cls := "BracketRoomModel", name := "lower", desc := "(I)I" } : Jvm.MethodName)) ∈ lw_all := lw_g (lw_at lw_m8 153 rfl) rfl
theorem q2020 : (Jvm.Cond.code ({ cls := "BracketRoomModel", name := "lower", desc := "(I)I" } : Jvm.MethodName) prog_11_method_94_code (2 : Nat) (Option.some Jvm.ClassFile.FieldType.int)) ∈ lw_all := lw_g (lw_at lw_m8 154 rfl) rfl
theorem q2022 : (Jvm.Cond.instanceMethod ({ cls := "BracketRoomModel", name := "centre", desc := "()I" } : Jvm.MethodName)) ∈ lw_all := lw_g (lw_at lw_m8 156 rfl) rfl
theorem q2023 : (Jvm.Cond.selects "BracketRoomModel" ({ cls := "BracketRoomModel", name := "centre", desc := "()I" } : Jvm.MethodName) ({ cls := "BracketRoomModel", name := "centre", desc := "()I" } : Jvm.MethodName)) ∈ lw_all := lw_g (lw_at lw_m8 157 rfl) rfl
theorem q2024 : (Jvm.Cond.code ({ cls := "BracketRoomModel", name := "centre", desc := "()I" } : Jvm.MethodName) prog_11_method_99_code (1 : Nat) (Option.some Jvm.ClassFile.FieldType.int)) ∈ lw_all := lw_g (lw_at lw_m8 158 rfl) rfl
theorem q2025 : (Jvm.Cond.methodLink "BracketRoomModel" (436 : Nat) ({ cls := "BracketRoomModel", name := "centreSize", desc := "()I" } : Jvm.MethodName)) ∈ lw_all := lw_g (lw_at lw_m8 159 rfl) rfl
theorem q2026 : (Jvm.Cond.privateMethod ({ cls := "BracketRoomModel", name := "centreSize", desc := "()I" } : Jvm.MethodName)) ∈ lw_tbl := lw_at lw_m8 160 rfl
theorem q2027 : (Jvm.Cond.instanceMethod ({ cls := "BracketRoomModel", name := "centreSize", desc := "()I" } : Jvm.MethodName)) ∈ lw_all := lw_g (lw_at lw_m8 161 rfl) rfl
theorem q2028 : (Jvm.Cond.code ({ cls := "BracketRoomModel", name := "centreSize", desc := "()I" } : Jvm.MethodName) prog_11_method_98_code (4 : Nat) (Option.some Jvm.ClassFile.FieldType.int)) ∈ lw_all := lw_g (lw_at lw_m8 162 rfl) rfl
theorem q2029 : (Jvm.Cond.methodLink "BracketRoomModel" (430 : Nat) ({ cls := "BracketRoomModel", name := "noRows", desc := "()V" } : Jvm.MethodName)) ∈ lw_all := lw_g (lw_at lw_m8 163 rfl) rfl
theorem q2030 : (Jvm.Cond.privateMethod ({ cls := "BracketRoomModel", name := "noRows", desc := "()V" } : Jvm.MethodName)) ∈ lw_tbl := lw_at lw_m8 164 rfl
theorem q2031 : (Jvm.Cond.instanceMethod ({ cls := "BracketRoomModel", name := "noRows", desc := "()V" } : Jvm.MethodName)) ∈ lw_all := lw_g (lw_at lw_m8 165 rfl) rfl
theorem q2032 : (Jvm.Cond.code ({ cls := "BracketRoomModel", name := "noRows", desc := "()V" } : Jvm.MethodName) prog_11_method_95_code (1 : Nat) (Option.none : Option Jvm.ClassFile.FieldType)) ∈ lw_all := lw_g (lw_at lw_m8 166 rfl) rfl
theorem q2033 : (Jvm.Cond.methodLink "BracketRoomModel" (433 : Nat) ({ cls := "BracketRoomModel", name := "addEquation", desc := "(I)V" } : Jvm.MethodName)) ∈ lw_all := lw_g (lw_at lw_m8 167 rfl) rfl
theorem q2034 : (Jvm.Cond.privateMethod ({ cls := "BracketRoomModel", name := "addEquation", desc := "(I)V" } : Jvm.MethodName)) ∈ lw_tbl := lw_at lw_m8 168 rfl
theorem q2035 : (Jvm.Cond.instanceMethod ({ cls := "BracketRoomModel", name := "addEquation", desc := "(I)V" } : Jvm.MethodName)) ∈ lw_all := lw_g (lw_at lw_m8 169 rfl) rfl
theorem q2036 : (Jvm.Cond.code ({ cls := "BracketRoomModel", name := "addEquation", desc := "(I)V" } : Jvm.MethodName) prog_11_method_97_code (7 : Nat) (Option.none : Option Jvm.ClassFile.FieldType)) ∈ lw_all := lw_g (lw_at lw_m8 170 rfl) rfl
theorem q2037 : (Jvm.Cond.methodLink "BracketRoomModel" (426 : Nat) ({ cls := "BracketRoomModel", name := "leadOfRow", desc := "([III)I" } : Jvm.MethodName)) ∈ lw_all := lw_g (lw_at lw_m8 171 rfl) rfl
theorem q2038 : (Jvm.Cond.privateMethod ({ cls := "BracketRoomModel", name := "leadOfRow", desc := "([III)I" } : Jvm.MethodName)) ∈ lw_tbl := lw_at lw_m8 172 rfl
theorem q2039 : (Jvm.Cond.instanceMethod ({ cls := "BracketRoomModel", name := "leadOfRow", desc := "([III)I" } : Jvm.MethodName)) ∈ lw_all := lw_g (lw_at lw_m8 173 rfl) rfl
theorem q2040 : (Jvm.Cond.code ({ cls := "BracketRoomModel", name := "leadOfRow", desc := "([III)I" } : Jvm.MethodName) prog_11_method_96_code (5 : Nat) (Option.some Jvm.ClassFile.FieldType.int)) ∈ lw_all := lw_g (lw_at lw_m8 174 rfl) rfl
theorem q2042 : (Jvm.Cond.instanceMethod ({ cls := "BracketRoomModel", name := "centralizer", desc := "(I)I" } : Jvm.MethodName)) ∈ lw_all := lw_g (lw_at lw_m8 176 rfl) rfl
theorem q2043 : (Jvm.Cond.selects "BracketRoomModel" ({ cls := "BracketRoomModel", name := "centralizer", desc := "(I)I" } : Jvm.MethodName) ({ cls := "BracketRoomModel", name := "centralizer", desc := "(I)I" } : Jvm.MethodName)) ∈ lw_all := lw_g (lw_at lw_m8 177 rfl) rfl
theorem q2044 : (Jvm.Cond.code ({ cls := "BracketRoomModel", name := "centralizer", desc := "(I)I" } : Jvm.MethodName) prog_11_method_101_code (2 : Nat) (Option.some Jvm.ClassFile.FieldType.int)) ∈ lw_all := lw_g (lw_at lw_m8 178 rfl) rfl
theorem q2045 : (Jvm.Cond.methodLink "BracketRoomModel" (439 : Nat) ({ cls := "BracketRoomModel", name := "rankOf", desc := "(I)I" } : Jvm.MethodName)) ∈ lw_all := lw_g (lw_at lw_m8 179 rfl) rfl
theorem q2046 : (Jvm.Cond.privateMethod ({ cls := "BracketRoomModel", name := "rankOf", desc := "(I)I" } : Jvm.MethodName)) ∈ lw_tbl := lw_at lw_m8 180 rfl
theorem q2047 : (Jvm.Cond.instanceMethod ({ cls := "BracketRoomModel", name := "rankOf", desc := "(I)I" } : Jvm.MethodName)) ∈ lw_all := lw_g (lw_at lw_m8 181 rfl) rfl
theorem q2048 : (Jvm.Cond.code ({ cls := "BracketRoomModel", name := "rankOf", desc := "(I)I" } : Jvm.MethodName) prog_11_method_100_code (4 : Nat) (Option.some Jvm.ClassFile.FieldType.int)) ∈ lw_all := lw_g (lw_at lw_m8 182 rfl) rfl
theorem q2050 : (Jvm.Cond.instanceMethod ({ cls := "BracketRoomModel", name := "rank", desc := "(I)I" } : Jvm.MethodName)) ∈ lw_all := lw_g (lw_at lw_m8 184 rfl) rfl
theorem q2051 : (Jvm.Cond.selects "BracketRoomModel" ({ cls := "BracketRoomModel", name := "rank", desc := "(I)I" } : Jvm.MethodName) ({ cls := "BracketRoomModel", name := "rank", desc := "(I)I" } : Jvm.MethodName)) ∈ lw_all := lw_g (lw_at lw_m8 185 rfl) rfl
theorem q2052 : (Jvm.Cond.code ({ cls := "BracketRoomModel", name := "rank", desc := "(I)I" } : Jvm.MethodName) prog_11_method_102_code (2 : Nat) (Option.some Jvm.ClassFile.FieldType.int)) ∈ lw_all := lw_g (lw_at lw_m8 186 rfl) rfl
theorem q2054 : (Jvm.Cond.instanceMethod ({ cls := "BracketRoomModel", name := "parts", desc := "(II)I" } : Jvm.MethodName)) ∈ lw_all := lw_g (lw_at lw_m8 188 rfl) rfl
theorem q2055 : (Jvm.Cond.selects "BracketRoomModel" ({ cls := "BracketRoomModel", name := "parts", desc := "(II)I" } : Jvm.MethodName) ({ cls := "BracketRoomModel", name := "parts", desc := "(II)I" } : Jvm.MethodName)) ∈ lw_all := lw_g (lw_at lw_m8 189 rfl) rfl
theorem q2056 : (Jvm.Cond.code ({ cls := "BracketRoomModel", name := "parts", desc := "(II)I" } : Jvm.MethodName) prog_11_method_112_code (3 : Nat) (Option.some Jvm.ClassFile.FieldType.int)) ∈ lw_all := lw_g (lw_at lw_m8 190 rfl) rfl
theorem q2057 : (Jvm.Cond.methodLink "BracketRoomModel" (477 : Nat) ({ cls := "BracketRoomModel", name := "countSpans", desc := "(II)I" } : Jvm.MethodName)) ∈ lw_all := lw_g (lw_at lw_m8 191 rfl) rfl
theorem q2058 : (Jvm.Cond.privateMethod ({ cls := "BracketRoomModel", name := "countSpans", desc := "(II)I" } : Jvm.MethodName)) ∈ lw_tbl := lw_at lw_m8 192 rfl
theorem q2059 : (Jvm.Cond.instanceMethod ({ cls := "BracketRoomModel", name := "countSpans", desc := "(II)I" } : Jvm.MethodName)) ∈ lw_all := lw_g (lw_at lw_m8 193 rfl) rfl
theorem q2060 : (Jvm.Cond.code ({ cls := "BracketRoomModel", name := "countSpans", desc := "(II)I" } : Jvm.MethodName) prog_11_method_111_code (7 : Nat) (Option.some Jvm.ClassFile.FieldType.int)) ∈ lw_all := lw_g (lw_at lw_m8 194 rfl) rfl
theorem q2061 : (Jvm.Cond.methodLink "BracketRoomModel" (468 : Nat) ({ cls := "BracketRoomModel", name := "lead", desc := "(I)V" } : Jvm.MethodName)) ∈ lw_all := lw_g (lw_at lw_m8 195 rfl) rfl
theorem q2062 : (Jvm.Cond.privateMethod ({ cls := "BracketRoomModel", name := "lead", desc := "(I)V" } : Jvm.MethodName)) ∈ lw_tbl := lw_at lw_m8 196 rfl
theorem q2063 : (Jvm.Cond.instanceMethod ({ cls := "BracketRoomModel", name := "lead", desc := "(I)V" } : Jvm.MethodName)) ∈ lw_all := lw_g (lw_at lw_m8 197 rfl) rfl
theorem q2064 : (Jvm.Cond.code ({ cls := "BracketRoomModel", name := "lead", desc := "(I)V" } : Jvm.MethodName) prog_11_method_103_code (4 : Nat) (Option.none : Option Jvm.ClassFile.FieldType)) ∈ lw_all := lw_g (lw_at lw_m8 198 rfl) rfl
theorem q2065 : (Jvm.Cond.methodLink "BracketRoomModel" (471 : Nat) ({ cls := "BracketRoomModel", name := "spanBy", desc := "(I)V" } : Jvm.MethodName)) ∈ lw_all := lw_g (lw_at lw_m8 199 rfl) rfl
theorem q2066 : (Jvm.Cond.privateMethod ({ cls := "BracketRoomModel", name := "spanBy", desc := "(I)V" } : Jvm.MethodName)) ∈ lw_tbl := lw_at lw_m8 200 rfl
theorem q2067 : (Jvm.Cond.instanceMethod ({ cls := "BracketRoomModel", name := "spanBy", desc := "(I)V" } : Jvm.MethodName)) ∈ lw_all := lw_g (lw_at lw_m8 201 rfl) rfl
theorem q2068 : (Jvm.Cond.code ({ cls := "BracketRoomModel", name := "spanBy", desc := "(I)V" } : Jvm.MethodName) prog_11_method_104_code (4 : Nat) (Option.none : Option Jvm.ClassFile.FieldType)) ∈ lw_all := lw_g (lw_at lw_m8 202 rfl) rfl
theorem q2069 : (Jvm.Cond.methodLink "BracketRoomModel" (474 : Nat) ({ cls := "BracketRoomModel", name := "isSuch", desc := "(II)Z" } : Jvm.MethodName)) ∈ lw_all := lw_g (lw_at lw_m8 203 rfl) rfl
theorem q2070 : (Jvm.Cond.privateMethod ({ cls := "BracketRoomModel", name := "isSuch", desc := "(II)Z" } : Jvm.MethodName)) ∈ lw_tbl := lw_at lw_m8 204 rfl
theorem q2071 : (Jvm.Cond.instanceMethod ({ cls := "BracketRoomModel", name := "isSuch", desc := "(II)Z" } : Jvm.MethodName)) ∈ lw_all := lw_g (lw_at lw_m8 205 rfl) rfl
theorem q2072 : (Jvm.Cond.code ({ cls := "BracketRoomModel", name := "isSuch", desc := "(II)Z" } : Jvm.MethodName) prog_11_method_110_code (3 : Nat) (Option.some Jvm.ClassFile.FieldType.boolean)) ∈ lw_all := lw_g (lw_at lw_m8 206 rfl) rfl
theorem q2073 : (Jvm.Cond.methodLink "BracketRoomModel" (452 : Nat) ({ cls := "BracketRoomModel", name := "isIdeal", desc := "(I)Z" } : Jvm.MethodName)) ∈ lw_all := lw_g (lw_at lw_m8 207 rfl) rfl
theorem q2074 : (Jvm.Cond.privateMethod ({ cls := "BracketRoomModel", name := "isIdeal", desc := "(I)Z" } : Jvm.MethodName)) ∈ lw_tbl := lw_at lw_m8 208 rfl
theorem q2075 : (Jvm.Cond.instanceMethod ({ cls := "BracketRoomModel", name := "isIdeal", desc := "(I)Z" } : Jvm.MethodName)) ∈ lw_all := lw_g (lw_at lw_m8 209 rfl) rfl
theorem q2076 : (Jvm.Cond.code ({ cls := "BracketRoomModel", name := "isIdeal", desc := "(I)Z" } : Jvm.MethodName) prog_11_method_106_code (4 : Nat) (Option.some Jvm.ClassFile.FieldType.boolean)) ∈ lw_all := lw_g (lw_at lw_m8 210 rfl) rfl
theorem q2077 : (Jvm.Cond.methodLink "BracketRoomModel" (448 : Nat) ({ cls := "BracketRoomModel", name := "holds", desc := "([II[II)Z" } : Jvm.MethodName)) ∈ lw_all := lw_g (lw_at lw_m8 211 rfl) rfl
theorem q2078 : (Jvm.Cond.privateMethod ({ cls := "BracketRoomModel", name := "holds", desc := "([II[II)Z" } : Jvm.MethodName)) ∈ lw_tbl := lw_at lw_m8 212 rfl
theorem q2079 : (Jvm.Cond.instanceMethod ({ cls := "BracketRoomModel", name := "holds", desc := "([II[II)Z" } : Jvm.MethodName)) ∈ lw_all := lw_g (lw_at lw_m8 213 rfl) rfl
theorem q2080 : (Jvm.Cond.code ({ cls := "BracketRoomModel", name := "holds", desc := "([II[II)Z" } : Jvm.MethodName) prog_11_method_72_code (5 : Nat) (Option.some Jvm.ClassFile.FieldType.boolean)) ∈ lw_all := lw_g (lw_at lw_m8 214 rfl) rfl
theorem q2081 : (Jvm.Cond.methodLink "BracketRoomModel" (455 : Nat) ({ cls := "BracketRoomModel", name := "isPart", desc := "(I)Z" } : Jvm.MethodName)) ∈ lw_all := lw_g (lw_at lw_m8 215 rfl) rfl
theorem q2082 : (Jvm.Cond.privateMethod ({ cls := "BracketRoomModel", name := "isPart", desc := "(I)Z" } : Jvm.MethodName)) ∈ lw_tbl := lw_at lw_m8 216 rfl
theorem q2083 : (Jvm.Cond.instanceMethod ({ cls := "BracketRoomModel", name := "isPart", desc := "(I)Z" } : Jvm.MethodName)) ∈ lw_all := lw_g (lw_at lw_m8 217 rfl) rfl
theorem q2084 : (Jvm.Cond.code ({ cls := "BracketRoomModel", name := "isPart", desc := "(I)Z" } : Jvm.MethodName) prog_11_method_105_code (4 : Nat) (Option.some Jvm.ClassFile.FieldType.boolean)) ∈ lw_all := lw_g (lw_at lw_m8 218 rfl) rfl
theorem q2085 : (Jvm.Cond.methodLink "BracketRoomModel" (458 : Nat) ({ cls := "BracketRoomModel", name := "isAbelianPart", desc := "(I)Z" } : Jvm.MethodName)) ∈ lw_all := lw_g (lw_at lw_m8 219 rfl) rfl
theorem q2086 : (Jvm.Cond.privateMethod ({ cls := "BracketRoomModel", name := "isAbelianPart", desc := "(I)Z" } : Jvm.MethodName)) ∈ lw_tbl := lw_at lw_m8 220 rfl
theorem q2087 : (Jvm.Cond.instanceMethod ({ cls := "BracketRoomModel", name := "isAbelianPart", desc := "(I)Z" } : Jvm.MethodName)) ∈ lw_all := lw_g (lw_at lw_m8 221 rfl) rfl
theorem q2088 : (Jvm.Cond.code ({ cls := "BracketRoomModel", name := "isAbelianPart", desc := "(I)Z" } : Jvm.MethodName) prog_11_method_107_code (2 : Nat) (Option.some Jvm.ClassFile.FieldType.boolean)) ∈ lw_all := lw_g (lw_at lw_m8 222 rfl) rfl
theorem q2089 : (Jvm.Cond.methodLink "BracketRoomModel" (461 : Nat) ({ cls := "BracketRoomModel", name := "endsIn0", desc := "(IZ)Z" } : Jvm.MethodName)) ∈ lw_all := lw_g (lw_at lw_m8 223 rfl) rfl
theorem q2090 : (Jvm.Cond.privateMethod ({ cls := "BracketRoomModel", name := "endsIn0", desc := "(IZ)Z" } : Jvm.MethodName)) ∈ lw_tbl := lw_at lw_m8 224 rfl
theorem q2091 : (Jvm.Cond.instanceMethod ({ cls := "BracketRoomModel", name := "endsIn0", desc := "(IZ)Z" } : Jvm.MethodName)) ∈ lw_all := lw_g (lw_at lw_m8 225 rfl) rfl
theorem q2092 : (Jvm.Cond.code ({ cls := "BracketRoomModel", name := "endsIn0", desc := "(IZ)Z" } : Jvm.MethodName) prog_11_method_108_code (5 : Nat) (Option.some Jvm.ClassFile.FieldType.boolean)) ∈ lw_all := lw_g (lw_at lw_m8 226 rfl) rfl
theorem q2093 : (Jvm.Cond.methodLink "BracketRoomModel" (465 : Nat) ({ cls := "BracketRoomModel", name := "normalizerSize", desc := "(I)I" } : Jvm.MethodName)) ∈ lw_all := lw_g (lw_at lw_m8 227 rfl) rfl
theorem q2094 : (Jvm.Cond.privateMethod ({ cls := "BracketRoomModel", name := "normalizerSize", desc := "(I)I" } : Jvm.MethodName)) ∈ lw_tbl := lw_at lw_m8 228 rfl
theorem q2095 : (Jvm.Cond.instanceMethod ({ cls := "BracketRoomModel", name := "normalizerSize", desc := "(I)I" } : Jvm.MethodName)) ∈ lw_all := lw_g (lw_at lw_m8 229 rfl) rfl
theorem q2096 : (Jvm.Cond.code ({ cls := "BracketRoomModel", name := "normalizerSize", desc := "(I)I" } : Jvm.MethodName) prog_11_method_109_code (5 : Nat) (Option.some Jvm.ClassFile.FieldType.int)) ∈ lw_all := lw_g (lw_at lw_m8 230 rfl) rfl
theorem q2098 : (Jvm.Cond.instanceMethod ({ cls := "BracketRoomModel", name := "share", desc := "()Z" } : Jvm.MethodName)) ∈ lw_all := lw_g (lw_at lw_m8 232 rfl) rfl
theorem q2099 : (Jvm.Cond.selects "BracketRoomModel" ({ cls := "BracketRoomModel", name := "share", desc := "()Z" } : Jvm.MethodName) ({ cls := "BracketRoomModel", name := "share", desc := "()Z" } : Jvm.MethodName)) ∈ lw_all := lw_g (lw_at lw_m8 233 rfl) rfl
theorem q2100 : (Jvm.Cond.code ({ cls := "BracketRoomModel", name := "share", desc := "()Z" } : Jvm.MethodName) prog_11_method_113_code (4 : Nat) (Option.some Jvm.ClassFile.FieldType.boolean)) ∈ lw_all := lw_g (lw_at lw_m8 234 rfl) rfl
theorem q2101 : (Jvm.Cond.methodLink "BracketRoomModel" (480 : Nat) ({ cls := "BracketRoomModel", name := "fraction", desc := "(JJ)Z" } : Jvm.MethodName)) ∈ lw_all := lw_g (lw_at lw_m8 235 rfl) rfl
theorem q2102 : (Jvm.Cond.privateMethod ({ cls := "BracketRoomModel", name := "fraction", desc := "(JJ)Z" } : Jvm.MethodName)) ∈ lw_tbl := lw_at lw_m8 236 rfl
theorem q2103 : (Jvm.Cond.instanceMethod ({ cls := "BracketRoomModel", name := "fraction", desc := "(JJ)Z" } : Jvm.MethodName)) ∈ lw_all := lw_g (lw_at lw_m8 237 rfl) rfl
theorem q2104 : (Jvm.Cond.code ({ cls := "BracketRoomModel", name := "fraction", desc := "(JJ)Z" } : Jvm.MethodName) prog_11_method_9_code (11 : Nat) (Option.some Jvm.ClassFile.FieldType.boolean)) ∈ lw_all := lw_g (lw_at lw_m8 238 rfl) rfl
theorem q2105 : (Jvm.Cond.methodLink "BracketRoomModel" (141 : Nat) ({ cls := "java/lang/Math", name := "abs", desc := "(J)J" } : Jvm.MethodName)) ∈ lw_all := lw_g (lw_at lw_m8 239 rfl) rfl
theorem q2109 : (Jvm.Cond.instanceMethod ({ cls := "BracketRoomModel", name := "is", desc := "(I)I" } : Jvm.MethodName)) ∈ lw_all := lw_g (lw_at lw_m9 3 rfl) rfl
theorem q2110 : (Jvm.Cond.selects "BracketRoomModel" ({ cls := "BracketRoomModel", name := "is", desc := "(I)I" } : Jvm.MethodName) ({ cls := "BracketRoomModel", name := "is", desc := "(I)I" } : Jvm.MethodName)) ∈ lw_all := lw_g (lw_at lw_m9 4 rfl) rfl
theorem q2111 : (Jvm.Cond.code ({ cls := "BracketRoomModel", name := "is", desc := "(I)I" } : Jvm.MethodName) prog_11_method_118_code (2 : Nat) (Option.some Jvm.ClassFile.FieldType.int)) ∈ lw_all := lw_g (lw_at lw_m9 5 rfl) rfl
theorem q2112 : (Jvm.Cond.constantLong "BracketRoomModel" (493 : Nat) (5 : Int64)) ∈ lw_all := lw_g (lw_at lw_m9 6 rfl) rfl
theorem q2113 : (Jvm.Cond.methodLink "BracketRoomModel" (495 : Nat) ({ cls := "BracketRoomModel", name := "isSo", desc := "(I)Z" } : Jvm.MethodName)) ∈ lw_all := lw_g (lw_at lw_m9 7 rfl) rfl
theorem q2114 : (Jvm.Cond.privateMethod ({ cls := "BracketRoomModel", name := "isSo", desc := "(I)Z" } : Jvm.MethodName)) ∈ lw_tbl := lw_at lw_m9 8 rfl
theorem q2115 : (Jvm.Cond.instanceMethod ({ cls := "BracketRoomModel", name := "isSo", desc := "(I)Z" } : Jvm.MethodName)) ∈ lw_all := lw_g (lw_at lw_m9 9 rfl) rfl
theorem q2116 : (Jvm.Cond.code ({ cls := "BracketRoomModel", name := "isSo", desc := "(I)Z" } : Jvm.MethodName) prog_11_method_117_code (2 : Nat) (Option.some Jvm.ClassFile.FieldType.boolean)) ∈ lw_all := lw_g (lw_at lw_m9 10 rfl) rfl
theorem q2117 : (Jvm.Cond.methodLink "BracketRoomModel" (484 : Nat) ({ cls := "BracketRoomModel", name := "isAbelian", desc := "()Z" } : Jvm.MethodName)) ∈ lw_all := lw_g (lw_at lw_m9 11 rfl) rfl
theorem q2118 : (Jvm.Cond.privateMethod ({ cls := "BracketRoomModel", name := "isAbelian", desc := "()Z" } : Jvm.MethodName)) ∈ lw_tbl := lw_at lw_m9 12 rfl
theorem q2119 : (Jvm.Cond.instanceMethod ({ cls := "BracketRoomModel", name := "isAbelian", desc := "()Z" } : Jvm.MethodName)) ∈ lw_all := lw_g (lw_at lw_m9 13 rfl) rfl
theorem q2120 : (Jvm.Cond.code ({ cls := "BracketRoomModel", name := "isAbelian", desc := "()Z" } : Jvm.MethodName) prog_11_method_114_code (1 : Nat) (Option.some Jvm.ClassFile.FieldType.boolean)) ∈ lw_all := lw_g (lw_at lw_m9 14 rfl) rfl
theorem q2121 : (Jvm.Cond.methodLink "BracketRoomModel" (487 : Nat) ({ cls := "BracketRoomModel", name := "isSimple", desc := "()Z" } : Jvm.MethodName)) ∈ lw_all := lw_g (lw_at lw_m9 15 rfl) rfl
theorem q2122 : (Jvm.Cond.privateMethod ({ cls := "BracketRoomModel", name := "isSimple", desc := "()Z" } : Jvm.MethodName)) ∈ lw_tbl := lw_at lw_m9 16 rfl
theorem q2123 : (Jvm.Cond.instanceMethod ({ cls := "BracketRoomModel", name := "isSimple", desc := "()Z" } : Jvm.MethodName)) ∈ lw_all := lw_g (lw_at lw_m9 17 rfl) rfl
theorem q2124 : (Jvm.Cond.code ({ cls := "BracketRoomModel", name := "isSimple", desc := "()Z" } : Jvm.MethodName) prog_11_method_115_code (2 : Nat) (Option.some Jvm.ClassFile.FieldType.boolean)) ∈ lw_all := lw_g (lw_at lw_m9 18 rfl) rfl
theorem q2125 : (Jvm.Cond.methodLink "BracketRoomModel" (490 : Nat) ({ cls := "BracketRoomModel", name := "isUnimodular", desc := "()Z" } : Jvm.MethodName)) ∈ lw_all := lw_g (lw_at lw_m9 19 rfl) rfl
theorem q2126 : (Jvm.Cond.privateMethod ({ cls := "BracketRoomModel", name := "isUnimodular", desc := "()Z" } : Jvm.MethodName)) ∈ lw_tbl := lw_at lw_m9 20 rfl
theorem q2127 : (Jvm.Cond.instanceMethod ({ cls := "BracketRoomModel", name := "isUnimodular", desc := "()Z" } : Jvm.MethodName)) ∈ lw_all := lw_g (lw_at lw_m9 21 rfl) rfl
theorem q2128 : (Jvm.Cond.code ({ cls := "BracketRoomModel", name := "isUnimodular", desc := "()Z" } : Jvm.MethodName) prog_11_method_116_code (4 : Nat) (Option.some Jvm.ClassFile.FieldType.boolean)) ∈ lw_all := lw_g (lw_at lw_m9 22 rfl) rfl
theorem q2130 : (Jvm.Cond.instanceMethod ({ cls := "BracketRoomModel", name := "radical", desc := "(I)I" } : Jvm.MethodName)) ∈ lw_all := lw_g (lw_at lw_m9 24 rfl) rfl
theorem q2131 : (Jvm.Cond.selects "BracketRoomModel" ({ cls := "BracketRoomModel", name := "radical", desc := "(I)I" } : Jvm.MethodName) ({ cls := "BracketRoomModel", name := "radical", desc := "(I)I" } : Jvm.MethodName)) ∈ lw_all := lw_g (lw_at lw_m9 25 rfl) rfl
theorem q2132 : (Jvm.Cond.code ({ cls := "BracketRoomModel", name := "radical", desc := "(I)I" } : Jvm.MethodName) prog_11_method_119_code (7 : Nat) (Option.some Jvm.ClassFile.FieldType.int)) ∈ lw_all := lw_g (lw_at lw_m9 26 rfl) rfl
theorem q2134 : (Jvm.Cond.instanceMethod ({ cls := "BracketRoomModel", name := "power", desc := "(I)I" } : Jvm.MethodName)) ∈ lw_all := lw_g (lw_at lw_m9 28 rfl) rfl
theorem q2135 : (Jvm.Cond.selects "BracketRoomModel" ({ cls := "BracketRoomModel", name := "power", desc := "(I)I" } : Jvm.MethodName) ({ cls := "BracketRoomModel", name := "power", desc := "(I)I" } : Jvm.MethodName)) ∈ lw_all := lw_g (lw_at lw_m9 29 rfl) rfl
theorem q2136 : (Jvm.Cond.code ({ cls := "BracketRoomModel", name := "power", desc := "(I)I" } : Jvm.MethodName) prog_11_method_123_code (3 : Nat) (Option.some Jvm.ClassFile.FieldType.int)) ∈ lw_all := lw_g (lw_at lw_m9 30 rfl) rfl
theorem q2137 : (Jvm.Cond.methodLink "BracketRoomModel" (498 : Nat) ({ cls := "BracketRoomModel", name := "matrixOf", desc := "(I)V" } : Jvm.MethodName)) ∈ lw_all := lw_g (lw_at lw_m9 31 rfl) rfl
theorem q2138 : (Jvm.Cond.privateMethod ({ cls := "BracketRoomModel", name := "matrixOf", desc := "(I)V" } : Jvm.MethodName)) ∈ lw_tbl := lw_at lw_m9 32 rfl
theorem q2139 : (Jvm.Cond.instanceMethod ({ cls := "BracketRoomModel", name := "matrixOf", desc := "(I)V" } : Jvm.MethodName)) ∈ lw_all := lw_g (lw_at lw_m9 33 rfl) rfl
theorem q2140 : (Jvm.Cond.code ({ cls := "BracketRoomModel", name := "matrixOf", desc := "(I)V" } : Jvm.MethodName) prog_11_method_120_code (4 : Nat) (Option.none : Option Jvm.ClassFile.FieldType)) ∈ lw_all := lw_g (lw_at lw_m9 34 rfl) rfl
theorem q2141 : (Jvm.Cond.methodLink "BracketRoomModel" (501 : Nat) ({ cls := "BracketRoomModel", name := "isZero", desc := "([I)Z" } : Jvm.MethodName)) ∈ lw_all := lw_g (lw_at lw_m9 35 rfl) rfl
theorem q2142 : (Jvm.Cond.privateMethod ({ cls := "BracketRoomModel", name := "isZero", desc := "([I)Z" } : Jvm.MethodName)) ∈ lw_tbl := lw_at lw_m9 36 rfl
theorem q2143 : (Jvm.Cond.instanceMethod ({ cls := "BracketRoomModel", name := "isZero", desc := "([I)Z" } : Jvm.MethodName)) ∈ lw_all := lw_g (lw_at lw_m9 37 rfl) rfl
theorem q2144 : (Jvm.Cond.code ({ cls := "BracketRoomModel", name := "isZero", desc := "([I)Z" } : Jvm.MethodName) prog_11_method_122_code (4 : Nat) (Option.some Jvm.ClassFile.FieldType.boolean)) ∈ lw_all := lw_g (lw_at lw_m9 38 rfl) rfl
theorem q2145 : (Jvm.Cond.methodLink "BracketRoomModel" (505 : Nat) ({ cls := "BracketRoomModel", name := "times", desc := "([I[I[I)V" } : Jvm.MethodName)) ∈ lw_all := lw_g (lw_at lw_m9 39 rfl) rfl
theorem q2146 : (Jvm.Cond.privateMethod ({ cls := "BracketRoomModel", name := "times", desc := "([I[I[I)V" } : Jvm.MethodName)) ∈ lw_tbl := lw_at lw_m9 40 rfl
theorem q2147 : (Jvm.Cond.instanceMethod ({ cls := "BracketRoomModel", name := "times", desc := "([I[I[I)V" } : Jvm.MethodName)) ∈ lw_all := lw_g (lw_at lw_m9 41 rfl) rfl
theorem q2148 : (Jvm.Cond.code ({ cls := "BracketRoomModel", name := "times", desc := "([I[I[I)V" } : Jvm.MethodName) prog_11_method_121_code (8 : Nat) (Option.none : Option Jvm.ClassFile.FieldType)) ∈ lw_all := lw_g (lw_at lw_m9 42 rfl) rfl
theorem q2150 : (Jvm.Cond.instanceMethod ({ cls := "BracketRoomModel", name := "derivations", desc := "(I)I" } : Jvm.MethodName)) ∈ lw_all := lw_g (lw_at lw_m9 44 rfl) rfl
theorem q2151 : (Jvm.Cond.selects "BracketRoomModel" ({ cls := "BracketRoomModel", name := "derivations", desc := "(I)I" } : Jvm.MethodName) ({ cls := "BracketRoomModel", name := "derivations", desc := "(I)I" } : Jvm.MethodName)) ∈ lw_all := lw_g (lw_at lw_m9 45 rfl) rfl
theorem q2152 : (Jvm.Cond.code ({ cls := "BracketRoomModel", name := "derivations", desc := "(I)I" } : Jvm.MethodName) prog_11_method_125_code (4 : Nat) (Option.some Jvm.ClassFile.FieldType.int)) ∈ lw_all := lw_g (lw_at lw_m9 46 rfl) rfl
theorem q2153 : (Jvm.Cond.methodLink "BracketRoomModel" (509 : Nat) ({ cls := "BracketRoomModel", name := "derivationSize", desc := "()I" } : Jvm.MethodName)) ∈ lw_all := lw_g (lw_at lw_m9 47 rfl) rfl
theorem q2154 : (Jvm.Cond.privateMethod ({ cls := "BracketRoomModel", name := "derivationSize", desc := "()I" } : Jvm.MethodName)) ∈ lw_tbl := lw_at lw_m9 48 rfl
theorem q2155 : (Jvm.Cond.instanceMethod ({ cls := "BracketRoomModel", name := "derivationSize", desc := "()I" } : Jvm.MethodName)) ∈ lw_all := lw_g (lw_at lw_m9 49 rfl) rfl
theorem q2156 : (Jvm.Cond.code ({ cls := "BracketRoomModel", name := "derivationSize", desc := "()I" } : Jvm.MethodName) prog_11_method_124_code (5 : Nat) (Option.some Jvm.ClassFile.FieldType.int)) ∈ lw_all := lw_g (lw_at lw_m9 50 rfl) rfl
theorem q2158 : (Jvm.Cond.instanceMethod ({ cls := "BracketRoomModel", name := "form", desc := "()I" } : Jvm.MethodName)) ∈ lw_all := lw_g (lw_at lw_m9 52 rfl) rfl
theorem q2159 : (Jvm.Cond.selects "BracketRoomModel" ({ cls := "BracketRoomModel", name := "form", desc := "()I" } : Jvm.MethodName) ({ cls := "BracketRoomModel", name := "form", desc := "()I" } : Jvm.MethodName)) ∈ lw_all := lw_g (lw_at lw_m9 53 rfl) rfl
theorem q2160 : (Jvm.Cond.code ({ cls := "BracketRoomModel", name := "form", desc := "()I" } : Jvm.MethodName) prog_11_method_127_code (1 : Nat) (Option.some Jvm.ClassFile.FieldType.int)) ∈ lw_all := lw_g (lw_at lw_m9 54 rfl) rfl
theorem q2161 : (Jvm.Cond.methodLink "BracketRoomModel" (512 : Nat) ({ cls := "BracketRoomModel", name := "formRank", desc := "()I" } : Jvm.MethodName)) ∈ lw_all := lw_g (lw_at lw_m9 55 rfl) rfl
theorem q2162 : (Jvm.Cond.privateMethod ({ cls := "BracketRoomModel", name := "formRank", desc := "()I" } : Jvm.MethodName)) ∈ lw_tbl := lw_at lw_m9 56 rfl
theorem q2163 : (Jvm.Cond.instanceMethod ({ cls := "BracketRoomModel", name := "formRank", desc := "()I" } : Jvm.MethodName)) ∈ lw_all := lw_g (lw_at lw_m9 57 rfl) rfl
theorem q2164 : (Jvm.Cond.code ({ cls := "BracketRoomModel", name := "formRank", desc := "()I" } : Jvm.MethodName) prog_11_method_126_code (6 : Nat) (Option.some Jvm.ClassFile.FieldType.int)) ∈ lw_all := lw_g (lw_at lw_m9 58 rfl) rfl
theorem q2166 : (Jvm.Cond.instanceMethod ({ cls := "BracketRoomModel", name := "classes", desc := "(I)I" } : Jvm.MethodName)) ∈ lw_all := lw_g (lw_at lw_m9 60 rfl) rfl
theorem q2167 : (Jvm.Cond.selects "BracketRoomModel" ({ cls := "BracketRoomModel", name := "classes", desc := "(I)I" } : Jvm.MethodName) ({ cls := "BracketRoomModel", name := "classes", desc := "(I)I" } : Jvm.MethodName)) ∈ lw_all := lw_g (lw_at lw_m9 61 rfl) rfl
theorem q2168 : (Jvm.Cond.code ({ cls := "BracketRoomModel", name := "classes", desc := "(I)I" } : Jvm.MethodName) prog_11_method_134_code (2 : Nat) (Option.some Jvm.ClassFile.FieldType.int)) ∈ lw_all := lw_g (lw_at lw_m9 62 rfl) rfl
theorem q2169 : (Jvm.Cond.methodLink "BracketRoomModel" (530 : Nat) ({ cls := "BracketRoomModel", name := "classSize", desc := "(I)I" } : Jvm.MethodName)) ∈ lw_all := lw_g (lw_at lw_m9 63 rfl) rfl
theorem q2170 : (Jvm.Cond.privateMethod ({ cls := "BracketRoomModel", name := "classSize", desc := "(I)I" } : Jvm.MethodName)) ∈ lw_tbl := lw_at lw_m9 64 rfl
theorem q2171 : (Jvm.Cond.instanceMethod ({ cls := "BracketRoomModel", name := "classSize", desc := "(I)I" } : Jvm.MethodName)) ∈ lw_all := lw_g (lw_at lw_m9 65 rfl) rfl
theorem q2172 : (Jvm.Cond.code ({ cls := "BracketRoomModel", name := "classSize", desc := "(I)I" } : Jvm.MethodName) prog_11_method_133_code (3 : Nat) (Option.some Jvm.ClassFile.FieldType.int)) ∈ lw_all := lw_g (lw_at lw_m9 66 rfl) rfl
theorem q2173 : (Jvm.Cond.methodLink "BracketRoomModel" (521 : Nat) ({ cls := "BracketRoomModel", name := "setsOf", desc := "(I)I" } : Jvm.MethodName)) ∈ lw_all := lw_g (lw_at lw_m9 67 rfl) rfl
theorem q2174 : (Jvm.Cond.privateMethod ({ cls := "BracketRoomModel", name := "setsOf", desc := "(I)I" } : Jvm.MethodName)) ∈ lw_tbl := lw_at lw_m9 68 rfl
theorem q2175 : (Jvm.Cond.instanceMethod ({ cls := "BracketRoomModel", name := "setsOf", desc := "(I)I" } : Jvm.MethodName)) ∈ lw_all := lw_g (lw_at lw_m9 69 rfl) rfl
theorem q2176 : (Jvm.Cond.code ({ cls := "BracketRoomModel", name := "setsOf", desc := "(I)I" } : Jvm.MethodName) prog_11_method_130_code (4 : Nat) (Option.some Jvm.ClassFile.FieldType.int)) ∈ lw_all := lw_g (lw_at lw_m9 70 rfl) rfl
theorem q2177 : (Jvm.Cond.methodLink "BracketRoomModel" (515 : Nat) ({ cls := "BracketRoomModel", name := "bits", desc := "(I)I" } : Jvm.MethodName)) ∈ lw_all := lw_g (lw_at lw_m9 71 rfl) rfl
theorem q2178 : (Jvm.Cond.static ({ cls := "BracketRoomModel", name := "bits", desc := "(I)I" } : Jvm.MethodName)) ∈ lw_all := lw_g (lw_at lw_m9 72 rfl) rfl
theorem q2179 : (Jvm.Cond.code ({ cls := "BracketRoomModel", name := "bits", desc := "(I)I" } : Jvm.MethodName) prog_11_method_128_code (3 : Nat) (Option.some Jvm.ClassFile.FieldType.int)) ∈ lw_all := lw_g (lw_at lw_m9 73 rfl) rfl
theorem q2180 : (Jvm.Cond.methodLink "BracketRoomModel" (527 : Nat) ({ cls := "BracketRoomModel", name := "rankOfD", desc := "(I)I" } : Jvm.MethodName)) ∈ lw_all := lw_g (lw_at lw_m9 74 rfl) rfl
theorem q2181 : (Jvm.Cond.privateMethod ({ cls := "BracketRoomModel", name := "rankOfD", desc := "(I)I" } : Jvm.MethodName)) ∈ lw_tbl := lw_at lw_m9 75 rfl
theorem q2182 : (Jvm.Cond.instanceMethod ({ cls := "BracketRoomModel", name := "rankOfD", desc := "(I)I" } : Jvm.MethodName)) ∈ lw_all := lw_g (lw_at lw_m9 76 rfl) rfl
theorem q2183 : (Jvm.Cond.code ({ cls := "BracketRoomModel", name := "rankOfD", desc := "(I)I" } : Jvm.MethodName) prog_11_method_132_code (4 : Nat) (Option.some Jvm.ClassFile.FieldType.int)) ∈ lw_all := lw_g (lw_at lw_m9 77 rfl) rfl
theorem q2184 : (Jvm.Cond.methodLink "BracketRoomModel" (524 : Nat) ({ cls := "BracketRoomModel", name := "rowOfD", desc := "(II)V" } : Jvm.MethodName)) ∈ lw_all := lw_g (lw_at lw_m9 78 rfl) rfl
theorem q2185 : (Jvm.Cond.privateMethod ({ cls := "BracketRoomModel", name := "rowOfD", desc := "(II)V" } : Jvm.MethodName)) ∈ lw_tbl := lw_at lw_m9 79 rfl
theorem q2186 : (Jvm.Cond.instanceMethod ({ cls := "BracketRoomModel", name := "rowOfD", desc := "(II)V" } : Jvm.MethodName)) ∈ lw_all := lw_g (lw_at lw_m9 80 rfl) rfl
theorem q2187 : (Jvm.Cond.code ({ cls := "BracketRoomModel", name := "rowOfD", desc := "(II)V" } : Jvm.MethodName) prog_11_method_131_code (11 : Nat) (Option.none : Option Jvm.ClassFile.FieldType)) ∈ lw_all := lw_g (lw_at lw_m9 81 rfl) rfl
theorem q2188 : (Jvm.Cond.methodLink "BracketRoomModel" (518 : Nat) ({ cls := "BracketRoomModel", name := "numberOfSet", desc := "(I)I" } : Jvm.MethodName)) ∈ lw_all := lw_g (lw_at lw_m9 82 rfl) rfl
theorem q2189 : (Jvm.Cond.privateMethod ({ cls := "BracketRoomModel", name := "numberOfSet", desc := "(I)I" } : Jvm.MethodName)) ∈ lw_tbl := lw_at lw_m9 83 rfl
theorem q2190 : (Jvm.Cond.instanceMethod ({ cls := "BracketRoomModel", name := "numberOfSet", desc := "(I)I" } : Jvm.MethodName)) ∈ lw_all := lw_g (lw_at lw_m9 84 rfl) rfl
theorem q2191 : (Jvm.Cond.code ({ cls := "BracketRoomModel", name := "numberOfSet", desc := "(I)I" } : Jvm.MethodName) prog_11_method_129_code (4 : Nat) (Option.some Jvm.ClassFile.FieldType.int)) ∈ lw_all := lw_g (lw_at lw_m9 85 rfl) rfl
theorem q2193 : (Jvm.Cond.instanceMethod ({ cls := "BracketRoomModel", name := "commuting", desc := "()I" } : Jvm.MethodName)) ∈ lw_all := lw_g (lw_at lw_m9 87 rfl) rfl
theorem q2194 : (Jvm.Cond.selects "BracketRoomModel" ({ cls := "BracketRoomModel", name := "commuting", desc := "()I" } : Jvm.MethodName) ({ cls := "BracketRoomModel", name := "commuting", desc := "()I" } : Jvm.MethodName)) ∈ lw_all := lw_g (lw_at lw_m9 88 rfl) rfl
theorem q2195 : (Jvm.Cond.code ({ cls := "BracketRoomModel", name := "commuting", desc := "()I" } : Jvm.MethodName) prog_11_method_136_code (1 : Nat) (Option.some Jvm.ClassFile.FieldType.int)) ∈ lw_all := lw_g (lw_at lw_m9 89 rfl) rfl
theorem q2196 : (Jvm.Cond.methodLink "BracketRoomModel" (533 : Nat) ({ cls := "BracketRoomModel", name := "commutingMany", desc := "()I" } : Jvm.MethodName)) ∈ lw_all := lw_g (lw_at lw_m9 90 rfl) rfl
theorem q2197 : (Jvm.Cond.privateMethod ({ cls := "BracketRoomModel", name := "commutingMany", desc := "()I" } : Jvm.MethodName)) ∈ lw_tbl := lw_at lw_m9 91 rfl
theorem q2198 : (Jvm.Cond.instanceMethod ({ cls := "BracketRoomModel", name := "commutingMany", desc := "()I" } : Jvm.MethodName)) ∈ lw_all := lw_g (lw_at lw_m9 92 rfl) rfl
theorem q2199 : (Jvm.Cond.code ({ cls := "BracketRoomModel", name := "commutingMany", desc := "()I" } : Jvm.MethodName) prog_11_method_135_code (3 : Nat) (Option.some Jvm.ClassFile.FieldType.int)) ∈ lw_all := lw_g (lw_at lw_m9 93 rfl) rfl
theorem q2201 : (Jvm.Cond.instanceMethod ({ cls := "BracketRoomModel", name := "maps", desc := "()I" } : Jvm.MethodName)) ∈ lw_all := lw_g (lw_at lw_m9 95 rfl) rfl
theorem q2202 : (Jvm.Cond.selects "BracketRoomModel" ({ cls := "BracketRoomModel", name := "maps", desc := "()I" } : Jvm.MethodName) ({ cls := "BracketRoomModel", name := "maps", desc := "()I" } : Jvm.MethodName)) ∈ lw_all := lw_g (lw_at lw_m9 96 rfl) rfl
theorem q2203 : (Jvm.Cond.code ({ cls := "BracketRoomModel", name := "maps", desc := "()I" } : Jvm.MethodName) prog_11_method_141_code (1 : Nat) (Option.some Jvm.ClassFile.FieldType.int)) ∈ lw_all := lw_g (lw_at lw_m9 97 rfl) rfl
theorem q2204 : (Jvm.Cond.methodLink "BracketRoomModel" (565 : Nat) ({ cls := "BracketRoomModel", name := "findMaps", desc := "([IIZ)V" } : Jvm.MethodName)) ∈ lw_all := lw_g (lw_at lw_m9 98 rfl) rfl
theorem q2205 : (Jvm.Cond.privateMethod ({ cls := "BracketRoomModel", name := "findMaps", desc := "([IIZ)V" } : Jvm.MethodName)) ∈ lw_tbl := lw_at lw_m9 99 rfl
theorem q2206 : (Jvm.Cond.instanceMethod ({ cls := "BracketRoomModel", name := "findMaps", desc := "([IIZ)V" } : Jvm.MethodName)) ∈ lw_all := lw_g (lw_at lw_m9 100 rfl) rfl
theorem q2207 : (Jvm.Cond.code ({ cls := "BracketRoomModel", name := "findMaps", desc := "([IIZ)V" } : Jvm.MethodName) prog_11_method_140_code (4 : Nat) (Option.none : Option Jvm.ClassFile.FieldType)) ∈ lw_all := lw_g (lw_at lw_m9 101 rfl) rfl
theorem q2208 : (Jvm.Cond.methodLink "BracketRoomModel" (562 : Nat) ({ cls := "BracketRoomModel", name := "goMaps", desc := "(I)V" } : Jvm.MethodName)) ∈ lw_all := lw_g (lw_at lw_m9 102 rfl) rfl
theorem q2209 : (Jvm.Cond.privateMethod ({ cls := "BracketRoomModel", name := "goMaps", desc := "(I)V" } : Jvm.MethodName)) ∈ lw_tbl := lw_at lw_m9 103 rfl
theorem q2210 : (Jvm.Cond.instanceMethod ({ cls := "BracketRoomModel", name := "goMaps", desc := "(I)V" } : Jvm.MethodName)) ∈ lw_all := lw_g (lw_at lw_m9 104 rfl) rfl
theorem q2211 : (Jvm.Cond.code ({ cls := "BracketRoomModel", name := "goMaps", desc := "(I)V" } : Jvm.MethodName) prog_11_method_139_code (5 : Nat) (Option.none : Option Jvm.ClassFile.FieldType)) ∈ lw_all := lw_g (lw_at lw_m9 105 rfl) rfl
theorem q2212 : (Jvm.Cond.constant "BracketRoomModel" (558 : Nat) (200000 : Int32)) ∈ lw_all := lw_g (lw_at lw_m9 106 rfl) rfl
theorem q2213 : (Jvm.Cond.methodLink "BracketRoomModel" (559 : Nat) ({ cls := "BracketRoomModel", name := "isMapSoFar", desc := "(I)Z" } : Jvm.MethodName)) ∈ lw_all := lw_g (lw_at lw_m9 107 rfl) rfl
theorem q2214 : (Jvm.Cond.privateMethod ({ cls := "BracketRoomModel", name := "isMapSoFar", desc := "(I)Z" } : Jvm.MethodName)) ∈ lw_tbl := lw_at lw_m9 108 rfl
theorem q2215 : (Jvm.Cond.instanceMethod ({ cls := "BracketRoomModel", name := "isMapSoFar", desc := "(I)Z" } : Jvm.MethodName)) ∈ lw_all := lw_g (lw_at lw_m9 109 rfl) rfl
theorem q2216 : (Jvm.Cond.code ({ cls := "BracketRoomModel", name := "isMapSoFar", desc := "(I)Z" } : Jvm.MethodName) prog_11_method_138_code (8 : Nat) (Option.some Jvm.ClassFile.FieldType.boolean)) ∈ lw_all := lw_g (lw_at lw_m9 110 rfl) rfl
theorem q2217 : (Jvm.Cond.methodLink "BracketRoomModel" (542 : Nat) ({ cls := "BracketRoomModel", name := "sourceTable", desc := "(III)I" } : Jvm.MethodName)) ∈ lw_all := lw_g (lw_at lw_m9 111 rfl) rfl
theorem q2218 : (Jvm.Cond.privateMethod ({ cls := "BracketRoomModel", name := "sourceTable", desc := "(III)I" } : Jvm.MethodName)) ∈ lw_tbl := lw_at lw_m9 112 rfl
theorem q2219 : (Jvm.Cond.instanceMethod ({ cls := "BracketRoomModel", name := "sourceTable", desc := "(III)I" } : Jvm.MethodName)) ∈ lw_all := lw_g (lw_at lw_m9 113 rfl) rfl
theorem q2220 : (Jvm.Cond.code ({ cls := "BracketRoomModel", name := "sourceTable", desc := "(III)I" } : Jvm.MethodName) prog_11_method_137_code (4 : Nat) (Option.some Jvm.ClassFile.FieldType.int)) ∈ lw_all := lw_g (lw_at lw_m9 114 rfl) rfl
theorem q2222 : (Jvm.Cond.instanceMethod ({ cls := "BracketRoomModel", name := "sameAs", desc := "(I)I" } : Jvm.MethodName)) ∈ lw_all := lw_g (lw_at lw_m9 116 rfl) rfl
theorem q2223 : (Jvm.Cond.selects "BracketRoomModel" ({ cls := "BracketRoomModel", name := "sameAs", desc := "(I)I" } : Jvm.MethodName) ({ cls := "BracketRoomModel", name := "sameAs", desc := "(I)I" } : Jvm.MethodName)) ∈ lw_all := lw_g (lw_at lw_m9 117 rfl) rfl
theorem q2224 : (Jvm.Cond.code ({ cls := "BracketRoomModel", name := "sameAs", desc := "(I)I" } : Jvm.MethodName) prog_11_method_144_code (3 : Nat) (Option.some Jvm.ClassFile.FieldType.int)) ∈ lw_all := lw_g (lw_at lw_m9 118 rfl) rfl
theorem q2225 : (Jvm.Cond.methodLink "BracketRoomModel" (573 : Nat) ({ cls := "BracketRoomModel", name := "same", desc := "(I)I" } : Jvm.MethodName)) ∈ lw_all := lw_g (lw_at lw_m9 119 rfl) rfl
theorem q2226 : (Jvm.Cond.privateMethod ({ cls := "BracketRoomModel", name := "same", desc := "(I)I" } : Jvm.MethodName)) ∈ lw_tbl := lw_at lw_m9 120 rfl
theorem q2227 : (Jvm.Cond.instanceMethod ({ cls := "BracketRoomModel", name := "same", desc := "(I)I" } : Jvm.MethodName)) ∈ lw_all := lw_g (lw_at lw_m9 121 rfl) rfl
theorem q2228 : (Jvm.Cond.code ({ cls := "BracketRoomModel", name := "same", desc := "(I)I" } : Jvm.MethodName) prog_11_method_143_code (2 : Nat) (Option.some Jvm.ClassFile.FieldType.int)) ∈ lw_all := lw_g (lw_at lw_m9 122 rfl) rfl
theorem q2229 : (Jvm.Cond.methodLink "BracketRoomModel" (569 : Nat) ({ cls := "BracketRoomModel", name := "isUnlike", desc := "([II)Z" } : Jvm.MethodName)) ∈ lw_all := lw_g (lw_at lw_m9 123 rfl) rfl
theorem q2230 : (Jvm.Cond.privateMethod ({ cls := "BracketRoomModel", name := "isUnlike", desc := "([II)Z" } : Jvm.MethodName)) ∈ lw_tbl := lw_at lw_m9 124 rfl
theorem q2231 : (Jvm.Cond.instanceMethod ({ cls := "BracketRoomModel", name := "isUnlike", desc := "([II)Z" } : Jvm.MethodName)) ∈ lw_all := lw_g (lw_at lw_m9 125 rfl) rfl
theorem q2232 : (Jvm.Cond.code ({ cls := "BracketRoomModel", name := "isUnlike", desc := "([II)Z" } : Jvm.MethodName) prog_11_method_142_code (3 : Nat) (Option.some Jvm.ClassFile.FieldType.boolean)) ∈ lw_all := lw_g (lw_at lw_m9 126 rfl) rfl
theorem q2234 : (Jvm.Cond.instanceMethod ({ cls := "BracketRoomModel", name := "tries", desc := "()I" } : Jvm.MethodName)) ∈ lw_all := lw_g (lw_at lw_m9 128 rfl) rfl
theorem q2235 : (Jvm.Cond.selects "BracketRoomModel" ({ cls := "BracketRoomModel", name := "tries", desc := "()I" } : Jvm.MethodName) ({ cls := "BracketRoomModel", name := "tries", desc := "()I" } : Jvm.MethodName)) ∈ lw_all := lw_g (lw_at lw_m9 129 rfl) rfl
theorem q2236 : (Jvm.Cond.code ({ cls := "BracketRoomModel", name := "tries", desc := "()I" } : Jvm.MethodName) prog_11_method_145_code (1 : Nat) (Option.some Jvm.ClassFile.FieldType.int)) ∈ lw_all := lw_g (lw_at lw_m9 130 rfl) rfl
theorem q2238 : (Jvm.Cond.instanceMethod ({ cls := "BracketRoomModel", name := "parted", desc := "(I)I" } : Jvm.MethodName)) ∈ lw_all := lw_g (lw_at lw_m9 132 rfl) rfl
theorem q2239 : (Jvm.Cond.selects "BracketRoomModel" ({ cls := "BracketRoomModel", name := "parted", desc := "(I)I" } : Jvm.MethodName) ({ cls := "BracketRoomModel", name := "parted", desc := "(I)I" } : Jvm.MethodName)) ∈ lw_all := lw_g (lw_at lw_m9 133 rfl) rfl
theorem q2240 : (Jvm.Cond.code ({ cls := "BracketRoomModel", name := "parted", desc := "(I)I" } : Jvm.MethodName) prog_11_method_147_code (4 : Nat) (Option.some Jvm.ClassFile.FieldType.int)) ∈ lw_all := lw_g (lw_at lw_m9 134 rfl) rfl
theorem q2241 : (Jvm.Cond.methodLink "BracketRoomModel" (576 : Nat) ({ cls := "BracketRoomModel", name := "markBy", desc := "(I)I" } : Jvm.MethodName)) ∈ lw_all := lw_g (lw_at lw_m9 135 rfl) rfl
theorem q2242 : (Jvm.Cond.privateMethod ({ cls := "BracketRoomModel", name := "markBy", desc := "(I)I" } : Jvm.MethodName)) ∈ lw_tbl := lw_at lw_m9 136 rfl
theorem q2243 : (Jvm.Cond.instanceMethod ({ cls := "BracketRoomModel", name := "markBy", desc := "(I)I" } : Jvm.MethodName)) ∈ lw_all := lw_g (lw_at lw_m9 137 rfl) rfl
theorem q2244 : (Jvm.Cond.code ({ cls := "BracketRoomModel", name := "markBy", desc := "(I)I" } : Jvm.MethodName) prog_11_method_146_code (2 : Nat) (Option.some Jvm.ClassFile.FieldType.int)) ∈ lw_all := lw_g (lw_at lw_m9 138 rfl) rfl
theorem q2246 : (Jvm.Cond.instanceMethod ({ cls := "BracketRoomModel", name := "change", desc := "(I)Z" } : Jvm.MethodName)) ∈ lw_all := lw_g (lw_at lw_m9 140 rfl) rfl
theorem q2247 : (Jvm.Cond.selects "BracketRoomModel" ({ cls := "BracketRoomModel", name := "change", desc := "(I)Z" } : Jvm.MethodName) ({ cls := "BracketRoomModel", name := "change", desc := "(I)Z" } : Jvm.MethodName)) ∈ lw_all := lw_g (lw_at lw_m9 141 rfl) rfl
theorem q2248 : (Jvm.Cond.code ({ cls := "BracketRoomModel", name := "change", desc := "(I)Z" } : Jvm.MethodName) prog_11_method_152_code (3 : Nat) (Option.some Jvm.ClassFile.FieldType.boolean)) ∈ lw_all := lw_g (lw_at lw_m9 142 rfl) rfl
theorem q2249 : (Jvm.Cond.methodLink "BracketRoomModel" (586 : Nat) ({ cls := "BracketRoomModel", name := "changeInto", desc := "()Z" } : Jvm.MethodName)) ∈ lw_all := lw_g (lw_at lw_m9 143 rfl) rfl
theorem q2250 : (Jvm.Cond.privateMethod ({ cls := "BracketRoomModel", name := "changeInto", desc := "()Z" } : Jvm.MethodName)) ∈ lw_tbl := lw_at lw_m9 144 rfl
theorem q2251 : (Jvm.Cond.instanceMethod ({ cls := "BracketRoomModel", name := "changeInto", desc := "()Z" } : Jvm.MethodName)) ∈ lw_all := lw_g (lw_at lw_m9 145 rfl) rfl
theorem q2252 : (Jvm.Cond.code ({ cls := "BracketRoomModel", name := "changeInto", desc := "()Z" } : Jvm.MethodName) prog_11_method_150_code (6 : Nat) (Option.some Jvm.ClassFile.FieldType.boolean)) ∈ lw_all := lw_g (lw_at lw_m9 146 rfl) rfl
theorem q2253 : (Jvm.Cond.methodLink "BracketRoomModel" (583 : Nat) ({ cls := "BracketRoomModel", name := "turnsBack", desc := "()Z" } : Jvm.MethodName)) ∈ lw_all := lw_g (lw_at lw_m9 147 rfl) rfl
theorem q2254 : (Jvm.Cond.privateMethod ({ cls := "BracketRoomModel", name := "turnsBack", desc := "()Z" } : Jvm.MethodName)) ∈ lw_tbl := lw_at lw_m9 148 rfl
theorem q2255 : (Jvm.Cond.instanceMethod ({ cls := "BracketRoomModel", name := "turnsBack", desc := "()Z" } : Jvm.MethodName)) ∈ lw_all := lw_g (lw_at lw_m9 149 rfl) rfl
theorem q2256 : (Jvm.Cond.code ({ cls := "BracketRoomModel", name := "turnsBack", desc := "()Z" } : Jvm.MethodName) prog_11_method_148_code (7 : Nat) (Option.some Jvm.ClassFile.FieldType.boolean)) ∈ lw_all := lw_g (lw_at lw_m9 150 rfl) rfl
theorem q2257 : (Jvm.Cond.methodLink "BracketRoomModel" (579 : Nat) ({ cls := "BracketRoomModel", name := "exchange", desc := "([III)V" } : Jvm.MethodName)) ∈ lw_all := lw_g (lw_at lw_m9 151 rfl) rfl
theorem q2258 : (Jvm.Cond.privateMethod ({ cls := "BracketRoomModel", name := "exchange", desc := "([III)V" } : Jvm.MethodName)) ∈ lw_tbl := lw_at lw_m9 152 rfl
theorem q2259 : (Jvm.Cond.instanceMethod ({ cls := "BracketRoomModel", name := "exchange", desc := "([III)V" } : Jvm.MethodName)) ∈ lw_all := lw_g (lw_at lw_m9 153 rfl) rfl
theorem q2260 : (Jvm.Cond.code ({ cls := "BracketRoomModel", name := "exchange", desc := "([III)V" } : Jvm.MethodName) prog_11_method_149_code (6 : Nat) (Option.none : Option Jvm.ClassFile.FieldType)) ∈ lw_all := lw_g (lw_at lw_m9 154 rfl) rfl
theorem q2261 : (Jvm.Cond.methodLink "BracketRoomModel" (589 : Nat) ({ cls := "BracketRoomModel", name := "takeOther", desc := "()V" } : Jvm.MethodName)) ∈ lw_all := lw_g (lw_at lw_m9 155 rfl) rfl
theorem q2262 : (Jvm.Cond.privateMethod ({ cls := "BracketRoomModel", name := "takeOther", desc := "()V" } : Jvm.MethodName)) ∈ lw_tbl := lw_at lw_m9 156 rfl
theorem q2263 : (Jvm.Cond.instanceMethod ({ cls := "BracketRoomModel", name := "takeOther", desc := "()V" } : Jvm.MethodName)) ∈ lw_all := lw_g (lw_at lw_m9 157 rfl) rfl
theorem q2264 : (Jvm.Cond.code ({ cls := "BracketRoomModel", name := "takeOther", desc := "()V" } : Jvm.MethodName) prog_11_method_151_code (1 : Nat) (Option.none : Option Jvm.ClassFile.FieldType)) ∈ lw_all := lw_g (lw_at lw_m9 158 rfl) rfl
theorem q2266 : (Jvm.Cond.instanceMethod ({ cls := "BracketRoomModel", name := "squeeze", desc := "(I)Z" } : Jvm.MethodName)) ∈ lw_all := lw_g (lw_at lw_m9 160 rfl) rfl
theorem q2267 : (Jvm.Cond.selects "BracketRoomModel" ({ cls := "BracketRoomModel", name := "squeeze", desc := "(I)Z" } : Jvm.MethodName) ({ cls := "BracketRoomModel", name := "squeeze", desc := "(I)Z" } : Jvm.MethodName)) ∈ lw_all := lw_g (lw_at lw_m9 161 rfl) rfl
theorem q2268 : (Jvm.Cond.code ({ cls := "BracketRoomModel", name := "squeeze", desc := "(I)Z" } : Jvm.MethodName) prog_11_method_153_code (7 : Nat) (Option.some Jvm.ClassFile.FieldType.boolean)) ∈ lw_all := lw_g (lw_at lw_m9 162 rfl) rfl
theorem q2269 : (Jvm.Cond.constantLong "BracketRoomModel" (592 : Nat) (-20 : Int64)) ∈ lw_all := lw_g (lw_at lw_m9 163 rfl) rfl
theorem q2271 : (Jvm.Cond.instanceMethod ({ cls := "BracketRoomModel", name := "barred", desc := "(I)I" } : Jvm.MethodName)) ∈ lw_all := lw_g (lw_at lw_m9 165 rfl) rfl
theorem q2272 : (Jvm.Cond.selects "BracketRoomModel" ({ cls := "BracketRoomModel", name := "barred", desc := "(I)I" } : Jvm.MethodName) ({ cls := "BracketRoomModel", name := "barred", desc := "(I)I" } : Jvm.MethodName)) ∈ lw_all := lw_g (lw_at lw_m9 166 rfl) rfl
theorem q2273 : (Jvm.Cond.code ({ cls := "BracketRoomModel", name := "barred", desc := "(I)I" } : Jvm.MethodName) prog_11_method_154_code (6 : Nat) (Option.some Jvm.ClassFile.FieldType.int)) ∈ lw_all := lw_g (lw_at lw_m9 167 rfl) rfl
theorem q2275 : (Jvm.Cond.instanceMethod ({ cls := "BracketRoomModel", name := "cocycle", desc := "(I)I" } : Jvm.MethodName)) ∈ lw_all := lw_g (lw_at lw_m9 169 rfl) rfl
theorem q2276 : (Jvm.Cond.selects "BracketRoomModel" ({ cls := "BracketRoomModel", name := "cocycle", desc := "(I)I" } : Jvm.MethodName) ({ cls := "BracketRoomModel", name := "cocycle", desc := "(I)I" } : Jvm.MethodName)) ∈ lw_all := lw_g (lw_at lw_m9 170 rfl) rfl
theorem q2277 : (Jvm.Cond.code ({ cls := "BracketRoomModel", name := "cocycle", desc := "(I)I" } : Jvm.MethodName) prog_11_method_161_code (3 : Nat) (Option.some Jvm.ClassFile.FieldType.int)) ∈ lw_all := lw_g (lw_at lw_m9 171 rfl) rfl
theorem q2278 : (Jvm.Cond.methodLink "BracketRoomModel" (607 : Nat) ({ cls := "BracketRoomModel", name := "wrongForm", desc := "(I)I" } : Jvm.MethodName)) ∈ lw_all := lw_g (lw_at lw_m9 172 rfl) rfl
theorem q2279 : (Jvm.Cond.privateMethod ({ cls := "BracketRoomModel", name := "wrongForm", desc := "(I)I" } : Jvm.MethodName)) ∈ lw_tbl := lw_at lw_m9 173 rfl
theorem q2280 : (Jvm.Cond.instanceMethod ({ cls := "BracketRoomModel", name := "wrongForm", desc := "(I)I" } : Jvm.MethodName)) ∈ lw_all := lw_g (lw_at lw_m9 174 rfl) rfl
theorem q2281 : (Jvm.Cond.code ({ cls := "BracketRoomModel", name := "wrongForm", desc := "(I)I" } : Jvm.MethodName) prog_11_method_157_code (3 : Nat) (Option.some Jvm.ClassFile.FieldType.int)) ∈ lw_all := lw_g (lw_at lw_m9 175 rfl) rfl
theorem q2282 : (Jvm.Cond.methodLink "BracketRoomModel" (594 : Nat) ({ cls := "BracketRoomModel", name := "couples", desc := "()I" } : Jvm.MethodName)) ∈ lw_all := lw_g (lw_at lw_m9 176 rfl) rfl
theorem q2283 : (Jvm.Cond.privateMethod ({ cls := "BracketRoomModel", name := "couples", desc := "()I" } : Jvm.MethodName)) ∈ lw_tbl := lw_at lw_m9 177 rfl
theorem q2284 : (Jvm.Cond.instanceMethod ({ cls := "BracketRoomModel", name := "couples", desc := "()I" } : Jvm.MethodName)) ∈ lw_all := lw_g (lw_at lw_m9 178 rfl) rfl
theorem q2285 : (Jvm.Cond.code ({ cls := "BracketRoomModel", name := "couples", desc := "()I" } : Jvm.MethodName) prog_11_method_155_code (1 : Nat) (Option.some Jvm.ClassFile.FieldType.int)) ∈ lw_all := lw_g (lw_at lw_m9 179 rfl) rfl
theorem q2286 : (Jvm.Cond.methodLink "BracketRoomModel" (610 : Nat) ({ cls := "BracketRoomModel", name := "isClosed", desc := "(I)Z" } : Jvm.MethodName)) ∈ lw_all := lw_g (lw_at lw_m9 180 rfl) rfl
theorem q2287 : (Jvm.Cond.privateMethod ({ cls := "BracketRoomModel", name := "isClosed", desc := "(I)Z" } : Jvm.MethodName)) ∈ lw_tbl := lw_at lw_m9 181 rfl
theorem q2288 : (Jvm.Cond.instanceMethod ({ cls := "BracketRoomModel", name := "isClosed", desc := "(I)Z" } : Jvm.MethodName)) ∈ lw_all := lw_g (lw_at lw_m9 182 rfl) rfl
theorem q2289 : (Jvm.Cond.code ({ cls := "BracketRoomModel", name := "isClosed", desc := "(I)Z" } : Jvm.MethodName) prog_11_method_160_code (5 : Nat) (Option.some Jvm.ClassFile.FieldType.boolean)) ∈ lw_all := lw_g (lw_at lw_m9 183 rfl) rfl
theorem q2290 : (Jvm.Cond.methodLink "BracketRoomModel" (603 : Nat) ({ cls := "BracketRoomModel", name := "formOfBracket", desc := "(IIII)I" } : Jvm.MethodName)) ∈ lw_all := lw_g (lw_at lw_m9 184 rfl) rfl
theorem q2291 : (Jvm.Cond.privateMethod ({ cls := "BracketRoomModel", name := "formOfBracket", desc := "(IIII)I" } : Jvm.MethodName)) ∈ lw_tbl := lw_at lw_m9 185 rfl
theorem q2292 : (Jvm.Cond.instanceMethod ({ cls := "BracketRoomModel", name := "formOfBracket", desc := "(IIII)I" } : Jvm.MethodName)) ∈ lw_all := lw_g (lw_at lw_m9 186 rfl) rfl
theorem q2293 : (Jvm.Cond.code ({ cls := "BracketRoomModel", name := "formOfBracket", desc := "(IIII)I" } : Jvm.MethodName) prog_11_method_159_code (7 : Nat) (Option.some Jvm.ClassFile.FieldType.int)) ∈ lw_all := lw_g (lw_at lw_m9 187 rfl) rfl
theorem q2294 : (Jvm.Cond.methodLink "BracketRoomModel" (600 : Nat) ({ cls := "BracketRoomModel", name := "formOf", desc := "(III)I" } : Jvm.MethodName)) ∈ lw_all := lw_g (lw_at lw_m9 188 rfl) rfl
theorem q2295 : (Jvm.Cond.privateMethod ({ cls := "BracketRoomModel", name := "formOf", desc := "(III)I" } : Jvm.MethodName)) ∈ lw_tbl := lw_at lw_m9 189 rfl
theorem q2296 : (Jvm.Cond.instanceMethod ({ cls := "BracketRoomModel", name := "formOf", desc := "(III)I" } : Jvm.MethodName)) ∈ lw_all := lw_g (lw_at lw_m9 190 rfl) rfl
theorem q2297 : (Jvm.Cond.code ({ cls := "BracketRoomModel", name := "formOf", desc := "(III)I" } : Jvm.MethodName) prog_11_method_158_code (4 : Nat) (Option.some Jvm.ClassFile.FieldType.int)) ∈ lw_all := lw_g (lw_at lw_m9 191 rfl) rfl
theorem q2298 : (Jvm.Cond.methodLink "BracketRoomModel" (597 : Nat) ({ cls := "BracketRoomModel", name := "coupleOf", desc := "(II)I" } : Jvm.MethodName)) ∈ lw_all := lw_g (lw_at lw_m9 192 rfl) rfl
theorem q2299 : (Jvm.Cond.privateMethod ({ cls := "BracketRoomModel", name := "coupleOf", desc := "(II)I" } : Jvm.MethodName)) ∈ lw_tbl := lw_at lw_m9 193 rfl
theorem q2300 : (Jvm.Cond.instanceMethod ({ cls := "BracketRoomModel", name := "coupleOf", desc := "(II)I" } : Jvm.MethodName)) ∈ lw_all := lw_g (lw_at lw_m9 194 rfl) rfl
theorem q2301 : (Jvm.Cond.code ({ cls := "BracketRoomModel", name := "coupleOf", desc := "(II)I" } : Jvm.MethodName) prog_11_method_156_code (3 : Nat) (Option.some Jvm.ClassFile.FieldType.int)) ∈ lw_all := lw_g (lw_at lw_m9 195 rfl) rfl
theorem q2303 : (Jvm.Cond.instanceMethod ({ cls := "BracketRoomModel", name := "grow", desc := "(I)I" } : Jvm.MethodName)) ∈ lw_all := lw_g (lw_at lw_m9 197 rfl) rfl
theorem q2304 : (Jvm.Cond.selects "BracketRoomModel" ({ cls := "BracketRoomModel", name := "grow", desc := "(I)I" } : Jvm.MethodName) ({ cls := "BracketRoomModel", name := "grow", desc := "(I)I" } : Jvm.MethodName)) ∈ lw_all := lw_g (lw_at lw_m9 198 rfl) rfl
theorem q2305 : (Jvm.Cond.code ({ cls := "BracketRoomModel", name := "grow", desc := "(I)I" } : Jvm.MethodName) prog_11_method_162_code (6 : Nat) (Option.some Jvm.ClassFile.FieldType.int)) ∈ lw_all := lw_g (lw_at lw_m9 199 rfl) rfl
theorem q2307 : (Jvm.Cond.instanceMethod ({ cls := "BracketRoomModel", name := "sum", desc := "(I)I" } : Jvm.MethodName)) ∈ lw_all := lw_g (lw_at lw_m9 201 rfl) rfl
theorem q2308 : (Jvm.Cond.selects "BracketRoomModel" ({ cls := "BracketRoomModel", name := "sum", desc := "(I)I" } : Jvm.MethodName) ({ cls := "BracketRoomModel", name := "sum", desc := "(I)I" } : Jvm.MethodName)) ∈ lw_all := lw_g (lw_at lw_m9 202 rfl) rfl
theorem q2309 : (Jvm.Cond.code ({ cls := "BracketRoomModel", name := "sum", desc := "(I)I" } : Jvm.MethodName) prog_11_method_164_code (3 : Nat) (Option.some Jvm.ClassFile.FieldType.int)) ∈ lw_all := lw_g (lw_at lw_m9 203 rfl) rfl
theorem q2310 : (Jvm.Cond.methodLink "BracketRoomModel" (613 : Nat) ({ cls := "BracketRoomModel", name := "sumWith", desc := "(I)I" } : Jvm.MethodName)) ∈ lw_all := lw_g (lw_at lw_m9 204 rfl) rfl
theorem q2311 : (Jvm.Cond.privateMethod ({ cls := "BracketRoomModel", name := "sumWith", desc := "(I)I" } : Jvm.MethodName)) ∈ lw_tbl := lw_at lw_m9 205 rfl
theorem q2312 : (Jvm.Cond.instanceMethod ({ cls := "BracketRoomModel", name := "sumWith", desc := "(I)I" } : Jvm.MethodName)) ∈ lw_all := lw_g (lw_at lw_m9 206 rfl) rfl
theorem q2313 : (Jvm.Cond.code ({ cls := "BracketRoomModel", name := "sumWith", desc := "(I)I" } : Jvm.MethodName) prog_11_method_163_code (7 : Nat) (Option.some Jvm.ClassFile.FieldType.int)) ∈ lw_all := lw_g (lw_at lw_m9 207 rfl) rfl
theorem q2315 : (Jvm.Cond.instanceMethod ({ cls := "BracketRoomModel", name := "rest", desc := "(II)I" } : Jvm.MethodName)) ∈ lw_all := lw_g (lw_at lw_m9 209 rfl) rfl
theorem q2316 : (Jvm.Cond.selects "BracketRoomModel" ({ cls := "BracketRoomModel", name := "rest", desc := "(II)I" } : Jvm.MethodName) ({ cls := "BracketRoomModel", name := "rest", desc := "(II)I" } : Jvm.MethodName)) ∈ lw_all := lw_g (lw_at lw_m9 210 rfl) rfl
theorem q2317 : (Jvm.Cond.code ({ cls := "BracketRoomModel", name := "rest", desc := "(II)I" } : Jvm.MethodName) prog_11_method_166_code (9 : Nat) (Option.some Jvm.ClassFile.FieldType.int)) ∈ lw_all := lw_g (lw_at lw_m9 211 rfl) rfl
theorem q2318 : (Jvm.Cond.methodLink "BracketRoomModel" (616 : Nat) ({ cls := "BracketRoomModel", name := "wrongMade", desc := "(II)I" } : Jvm.MethodName)) ∈ lw_all := lw_g (lw_at lw_m9 212 rfl) rfl
theorem q2319 : (Jvm.Cond.privateMethod ({ cls := "BracketRoomModel", name := "wrongMade", desc := "(II)I" } : Jvm.MethodName)) ∈ lw_tbl := lw_at lw_m9 213 rfl
theorem q2320 : (Jvm.Cond.instanceMethod ({ cls := "BracketRoomModel", name := "wrongMade", desc := "(II)I" } : Jvm.MethodName)) ∈ lw_all := lw_g (lw_at lw_m9 214 rfl) rfl
theorem q2321 : (Jvm.Cond.code ({ cls := "BracketRoomModel", name := "wrongMade", desc := "(II)I" } : Jvm.MethodName) prog_11_method_165_code (3 : Nat) (Option.some Jvm.ClassFile.FieldType.int)) ∈ lw_all := lw_g (lw_at lw_m9 215 rfl) rfl
theorem q2323 : (Jvm.Cond.instanceMethod ({ cls := "BracketRoomModel", name := "takeOut", desc := "(II)I" } : Jvm.MethodName)) ∈ lw_all := lw_g (lw_at lw_m9 217 rfl) rfl
theorem q2324 : (Jvm.Cond.selects "BracketRoomModel" ({ cls := "BracketRoomModel", name := "takeOut", desc := "(II)I" } : Jvm.MethodName) ({ cls := "BracketRoomModel", name := "takeOut", desc := "(II)I" } : Jvm.MethodName)) ∈ lw_all := lw_g (lw_at lw_m9 218 rfl) rfl
theorem q2325 : (Jvm.Cond.code ({ cls := "BracketRoomModel", name := "takeOut", desc := "(II)I" } : Jvm.MethodName) prog_11_method_167_code (8 : Nat) (Option.some Jvm.ClassFile.FieldType.int)) ∈ lw_all := lw_g (lw_at lw_m9 219 rfl) rfl
theorem q2327 : (Jvm.Cond.instanceMethod ({ cls := "BracketRoomModel", name := "tables", desc := "(III)I" } : Jvm.MethodName)) ∈ lw_all := lw_g (lw_at lw_m9 221 rfl) rfl
theorem q2328 : (Jvm.Cond.selects "BracketRoomModel" ({ cls := "BracketRoomModel", name := "tables", desc := "(III)I" } : Jvm.MethodName) ({ cls := "BracketRoomModel", name := "tables", desc := "(III)I" } : Jvm.MethodName)) ∈ lw_all := lw_g (lw_at lw_m9 222 rfl) rfl
theorem q2329 : (Jvm.Cond.code ({ cls := "BracketRoomModel", name := "tables", desc := "(III)I" } : Jvm.MethodName) prog_11_method_172_code (8 : Nat) (Option.some Jvm.ClassFile.FieldType.int)) ∈ lw_all := lw_g (lw_at lw_m9 223 rfl) rfl
theorem q2330 : (Jvm.Cond.methodLink "BracketRoomModel" (622 : Nat) ({ cls := "BracketRoomModel", name := "numbersOf", desc := "(I)I" } : Jvm.MethodName)) ∈ lw_all := lw_g (lw_at lw_m9 224 rfl) rfl
theorem q2331 : (Jvm.Cond.privateMethod ({ cls := "BracketRoomModel", name := "numbersOf", desc := "(I)I" } : Jvm.MethodName)) ∈ lw_tbl := lw_at lw_m9 225 rfl
theorem q2332 : (Jvm.Cond.instanceMethod ({ cls := "BracketRoomModel", name := "numbersOf", desc := "(I)I" } : Jvm.MethodName)) ∈ lw_all := lw_g (lw_at lw_m9 226 rfl) rfl
theorem q2333 : (Jvm.Cond.code ({ cls := "BracketRoomModel", name := "numbersOf", desc := "(I)I" } : Jvm.MethodName) prog_11_method_168_code (2 : Nat) (Option.some Jvm.ClassFile.FieldType.int)) ∈ lw_all := lw_g (lw_at lw_m9 227 rfl) rfl
theorem q2334 : (Jvm.Cond.methodLink "BracketRoomModel" (625 : Nat) ({ cls := "BracketRoomModel", name := "tableBy", desc := "(I)V" } : Jvm.MethodName)) ∈ lw_all := lw_g (lw_at lw_m9 228 rfl) rfl
theorem q2335 : (Jvm.Cond.privateMethod ({ cls := "BracketRoomModel", name := "tableBy", desc := "(I)V" } : Jvm.MethodName)) ∈ lw_tbl := lw_at lw_m9 229 rfl
theorem q2336 : (Jvm.Cond.instanceMethod ({ cls := "BracketRoomModel", name := "tableBy", desc := "(I)V" } : Jvm.MethodName)) ∈ lw_all := lw_g (lw_at lw_m9 230 rfl) rfl
theorem q2337 : (Jvm.Cond.code ({ cls := "BracketRoomModel", name := "tableBy", desc := "(I)V" } : Jvm.MethodName) prog_11_method_169_code (6 : Nat) (Option.none : Option Jvm.ClassFile.FieldType)) ∈ lw_all := lw_g (lw_at lw_m9 231 rfl) rfl
theorem q2338 : (Jvm.Cond.methodLink "BracketRoomModel" (628 : Nat) ({ cls := "BracketRoomModel", name := "seeAll", desc := "()V" } : Jvm.MethodName)) ∈ lw_all := lw_g (lw_at lw_m9 232 rfl) rfl
theorem q2339 : (Jvm.Cond.privateMethod ({ cls := "BracketRoomModel", name := "seeAll", desc := "()V" } : Jvm.MethodName)) ∈ lw_tbl := lw_at lw_m9 233 rfl
theorem q2340 : (Jvm.Cond.instanceMethod ({ cls := "BracketRoomModel", name := "seeAll", desc := "()V" } : Jvm.MethodName)) ∈ lw_all := lw_g (lw_at lw_m9 234 rfl) rfl
theorem q2341 : (Jvm.Cond.code ({ cls := "BracketRoomModel", name := "seeAll", desc := "()V" } : Jvm.MethodName) prog_11_method_171_code (5 : Nat) (Option.none : Option Jvm.ClassFile.FieldType)) ∈ lw_all := lw_g (lw_at lw_m9 235 rfl) rfl
theorem q2342 : (Jvm.Cond.methodLink "BracketRoomModel" (619 : Nat) ({ cls := "BracketRoomModel", name := "codeOf", desc := "([I)I" } : Jvm.MethodName)) ∈ lw_all := lw_g (lw_at lw_m9 236 rfl) rfl
theorem q2343 : (Jvm.Cond.privateMethod ({ cls := "BracketRoomModel", name := "codeOf", desc := "([I)I" } : Jvm.MethodName)) ∈ lw_tbl := lw_at lw_m9 237 rfl
theorem q2344 : (Jvm.Cond.instanceMethod ({ cls := "BracketRoomModel", name := "codeOf", desc := "([I)I" } : Jvm.MethodName)) ∈ lw_all := lw_g (lw_at lw_m9 238 rfl) rfl
theorem q2345 : (Jvm.Cond.code ({ cls := "BracketRoomModel", name := "codeOf", desc := "([I)I" } : Jvm.MethodName) prog_11_method_170_code (6 : Nat) (Option.some Jvm.ClassFile.FieldType.int)) ∈ lw_all := lw_g (lw_at lw_m9 239 rfl) rfl
theorem q2347 : (Jvm.Cond.instanceMethod ({ cls := "BracketRoomModel", name := "script", desc := "(I)I" } : Jvm.MethodName)) ∈ lw_all := lw_g (lw_at lw_m10 1 rfl) rfl
theorem q2348 : (Jvm.Cond.selects "BracketRoomModel" ({ cls := "BracketRoomModel", name := "script", desc := "(I)I" } : Jvm.MethodName) ({ cls := "BracketRoomModel", name := "script", desc := "(I)I" } : Jvm.MethodName)) ∈ lw_all := lw_g (lw_at lw_m10 2 rfl) rfl
theorem q2349 : (Jvm.Cond.code ({ cls := "BracketRoomModel", name := "script", desc := "(I)I" } : Jvm.MethodName) prog_11_method_177_code (3 : Nat) (Option.some Jvm.ClassFile.FieldType.int)) ∈ lw_all := lw_g (lw_at lw_m10 3 rfl) rfl
theorem q2350 : (Jvm.Cond.methodLink "BracketRoomModel" (658 : Nat) ({ cls := "BracketRoomModel", name := "readStep", desc := "(I)V" } : Jvm.MethodName)) ∈ lw_all := lw_g (lw_at lw_m10 4 rfl) rfl
theorem q2351 : (Jvm.Cond.privateMethod ({ cls := "BracketRoomModel", name := "readStep", desc := "(I)V" } : Jvm.MethodName)) ∈ lw_tbl := lw_at lw_m10 5 rfl
theorem q2352 : (Jvm.Cond.instanceMethod ({ cls := "BracketRoomModel", name := "readStep", desc := "(I)V" } : Jvm.MethodName)) ∈ lw_all := lw_g (lw_at lw_m10 6 rfl) rfl
theorem q2353 : (Jvm.Cond.code ({ cls := "BracketRoomModel", name := "readStep", desc := "(I)V" } : Jvm.MethodName) prog_11_method_176_code (5 : Nat) (Option.none : Option Jvm.ClassFile.FieldType)) ∈ lw_all := lw_g (lw_at lw_m10 7 rfl) rfl
theorem q2354 : (Jvm.Cond.methodLink "BracketRoomModel" (646 : Nat) ({ cls := "BracketRoomModel", name := "stepWord", desc := "()I" } : Jvm.MethodName)) ∈ lw_all := lw_g (lw_at lw_m10 8 rfl) rfl
theorem q2355 : (Jvm.Cond.privateMethod ({ cls := "BracketRoomModel", name := "stepWord", desc := "()I" } : Jvm.MethodName)) ∈ lw_tbl := lw_at lw_m10 9 rfl
theorem q2356 : (Jvm.Cond.instanceMethod ({ cls := "BracketRoomModel", name := "stepWord", desc := "()I" } : Jvm.MethodName)) ∈ lw_all := lw_g (lw_at lw_m10 10 rfl) rfl
theorem q2357 : (Jvm.Cond.code ({ cls := "BracketRoomModel", name := "stepWord", desc := "()I" } : Jvm.MethodName) prog_11_method_34_code (1 : Nat) (Option.some Jvm.ClassFile.FieldType.int)) ∈ lw_all := lw_g (lw_at lw_m10 11 rfl) rfl
theorem q2358 : (Jvm.Cond.methodLink "BracketRoomModel" (652 : Nat) ({ cls := "BracketRoomModel", name := "readRest", desc := "(I)V" } : Jvm.MethodName)) ∈ lw_all := lw_g (lw_at lw_m10 12 rfl) rfl
theorem q2359 : (Jvm.Cond.privateMethod ({ cls := "BracketRoomModel", name := "readRest", desc := "(I)V" } : Jvm.MethodName)) ∈ lw_tbl := lw_at lw_m10 13 rfl
theorem q2360 : (Jvm.Cond.instanceMethod ({ cls := "BracketRoomModel", name := "readRest", desc := "(I)V" } : Jvm.MethodName)) ∈ lw_all := lw_g (lw_at lw_m10 14 rfl) rfl
theorem q2361 : (Jvm.Cond.code ({ cls := "BracketRoomModel", name := "readRest", desc := "(I)V" } : Jvm.MethodName) prog_11_method_175_code (3 : Nat) (Option.none : Option Jvm.ClassFile.FieldType)) ∈ lw_all := lw_g (lw_at lw_m10 15 rfl) rfl
theorem q2362 : (Jvm.Cond.methodLink "BracketRoomModel" (637 : Nat) ({ cls := "BracketRoomModel", name := "isBy", desc := "()Z" } : Jvm.MethodName)) ∈ lw_all := lw_g (lw_at lw_m10 16 rfl) rfl
theorem q2363 : (Jvm.Cond.privateMethod ({ cls := "BracketRoomModel", name := "isBy", desc := "()Z" } : Jvm.MethodName)) ∈ lw_tbl := lw_at lw_m10 17 rfl
theorem q2364 : (Jvm.Cond.instanceMethod ({ cls := "BracketRoomModel", name := "isBy", desc := "()Z" } : Jvm.MethodName)) ∈ lw_all := lw_g (lw_at lw_m10 18 rfl) rfl
theorem q2365 : (Jvm.Cond.code ({ cls := "BracketRoomModel", name := "isBy", desc := "()Z" } : Jvm.MethodName) prog_11_method_36_code (1 : Nat) (Option.some Jvm.ClassFile.FieldType.boolean)) ∈ lw_all := lw_g (lw_at lw_m10 19 rfl) rfl
theorem q2366 : (Jvm.Cond.methodLink "BracketRoomModel" (640 : Nat) ({ cls := "BracketRoomModel", name := "isTo", desc := "()Z" } : Jvm.MethodName)) ∈ lw_all := lw_g (lw_at lw_m10 20 rfl) rfl
theorem q2367 : (Jvm.Cond.privateMethod ({ cls := "BracketRoomModel", name := "isTo", desc := "()Z" } : Jvm.MethodName)) ∈ lw_tbl := lw_at lw_m10 21 rfl
theorem q2368 : (Jvm.Cond.instanceMethod ({ cls := "BracketRoomModel", name := "isTo", desc := "()Z" } : Jvm.MethodName)) ∈ lw_all := lw_g (lw_at lw_m10 22 rfl) rfl
theorem q2369 : (Jvm.Cond.code ({ cls := "BracketRoomModel", name := "isTo", desc := "()Z" } : Jvm.MethodName) prog_11_method_37_code (1 : Nat) (Option.some Jvm.ClassFile.FieldType.boolean)) ∈ lw_all := lw_g (lw_at lw_m10 23 rfl) rfl
theorem q2370 : (Jvm.Cond.methodLink "BracketRoomModel" (643 : Nat) ({ cls := "BracketRoomModel", name := "readTest", desc := "(I)V" } : Jvm.MethodName)) ∈ lw_all := lw_g (lw_at lw_m10 24 rfl) rfl
theorem q2371 : (Jvm.Cond.privateMethod ({ cls := "BracketRoomModel", name := "readTest", desc := "(I)V" } : Jvm.MethodName)) ∈ lw_tbl := lw_at lw_m10 25 rfl
theorem q2372 : (Jvm.Cond.instanceMethod ({ cls := "BracketRoomModel", name := "readTest", desc := "(I)V" } : Jvm.MethodName)) ∈ lw_all := lw_g (lw_at lw_m10 26 rfl) rfl
theorem q2373 : (Jvm.Cond.code ({ cls := "BracketRoomModel", name := "readTest", desc := "(I)V" } : Jvm.MethodName) prog_11_method_174_code (3 : Nat) (Option.none : Option Jvm.ClassFile.FieldType)) ∈ lw_all := lw_g (lw_at lw_m10 27 rfl) rfl
theorem q2374 : (Jvm.Cond.methodLink "BracketRoomModel" (631 : Nat) ({ cls := "BracketRoomModel", name := "testWord", desc := "()I" } : Jvm.MethodName)) ∈ lw_all := lw_g (lw_at lw_m10 28 rfl) rfl
theorem q2375 : (Jvm.Cond.privateMethod ({ cls := "BracketRoomModel", name := "testWord", desc := "()I" } : Jvm.MethodName)) ∈ lw_tbl := lw_at lw_m10 29 rfl
theorem q2376 : (Jvm.Cond.instanceMethod ({ cls := "BracketRoomModel", name := "testWord", desc := "()I" } : Jvm.MethodName)) ∈ lw_all := lw_g (lw_at lw_m10 30 rfl) rfl
theorem q2377 : (Jvm.Cond.code ({ cls := "BracketRoomModel", name := "testWord", desc := "()I" } : Jvm.MethodName) prog_11_method_35_code (1 : Nat) (Option.some Jvm.ClassFile.FieldType.int)) ∈ lw_all := lw_g (lw_at lw_m10 31 rfl) rfl
theorem q2378 : (Jvm.Cond.methodLink "BracketRoomModel" (634 : Nat) ({ cls := "BracketRoomModel", name := "readSign", desc := "(I)V" } : Jvm.MethodName)) ∈ lw_all := lw_g (lw_at lw_m10 32 rfl) rfl
theorem q2379 : (Jvm.Cond.privateMethod ({ cls := "BracketRoomModel", name := "readSign", desc := "(I)V" } : Jvm.MethodName)) ∈ lw_tbl := lw_at lw_m10 33 rfl
theorem q2380 : (Jvm.Cond.instanceMethod ({ cls := "BracketRoomModel", name := "readSign", desc := "(I)V" } : Jvm.MethodName)) ∈ lw_all := lw_g (lw_at lw_m10 34 rfl) rfl
theorem q2381 : (Jvm.Cond.code ({ cls := "BracketRoomModel", name := "readSign", desc := "(I)V" } : Jvm.MethodName) prog_11_method_173_code (3 : Nat) (Option.none : Option Jvm.ClassFile.FieldType)) ∈ lw_all := lw_g (lw_at lw_m10 35 rfl) rfl
theorem q2382 : (Jvm.Cond.methodLink "BracketRoomModel" (655 : Nat) ({ cls := "BracketRoomModel", name := "isEnd", desc := "()Z" } : Jvm.MethodName)) ∈ lw_all := lw_g (lw_at lw_m10 36 rfl) rfl
theorem q2383 : (Jvm.Cond.privateMethod ({ cls := "BracketRoomModel", name := "isEnd", desc := "()Z" } : Jvm.MethodName)) ∈ lw_tbl := lw_at lw_m10 37 rfl
theorem q2384 : (Jvm.Cond.instanceMethod ({ cls := "BracketRoomModel", name := "isEnd", desc := "()Z" } : Jvm.MethodName)) ∈ lw_all := lw_g (lw_at lw_m10 38 rfl) rfl
theorem q2385 : (Jvm.Cond.code ({ cls := "BracketRoomModel", name := "isEnd", desc := "()Z" } : Jvm.MethodName) prog_11_method_38_code (1 : Nat) (Option.some Jvm.ClassFile.FieldType.boolean)) ∈ lw_all := lw_g (lw_at lw_m10 39 rfl) rfl
theorem q2387 : (Jvm.Cond.instanceMethod ({ cls := "BracketRoomModel", name := "run", desc := "()I" } : Jvm.MethodName)) ∈ lw_all := lw_g (lw_at lw_m10 41 rfl) rfl
theorem q2388 : (Jvm.Cond.selects "BracketRoomModel" ({ cls := "BracketRoomModel", name := "run", desc := "()I" } : Jvm.MethodName) ({ cls := "BracketRoomModel", name := "run", desc := "()I" } : Jvm.MethodName)) ∈ lw_all := lw_g (lw_at lw_m10 42 rfl) rfl
theorem q2389 : (Jvm.Cond.code ({ cls := "BracketRoomModel", name := "run", desc := "()I" } : Jvm.MethodName) prog_11_method_184_code (1 : Nat) (Option.some Jvm.ClassFile.FieldType.int)) ∈ lw_all := lw_g (lw_at lw_m10 43 rfl) rfl
theorem q2390 : (Jvm.Cond.methodLink "BracketRoomModel" (679 : Nat) ({ cls := "BracketRoomModel", name := "doAll", desc := "(II)V" } : Jvm.MethodName)) ∈ lw_all := lw_g (lw_at lw_m10 44 rfl) rfl
theorem q2391 : (Jvm.Cond.privateMethod ({ cls := "BracketRoomModel", name := "doAll", desc := "(II)V" } : Jvm.MethodName)) ∈ lw_tbl := lw_at lw_m10 45 rfl
theorem q2392 : (Jvm.Cond.instanceMethod ({ cls := "BracketRoomModel", name := "doAll", desc := "(II)V" } : Jvm.MethodName)) ∈ lw_all := lw_g (lw_at lw_m10 46 rfl) rfl
theorem q2393 : (Jvm.Cond.code ({ cls := "BracketRoomModel", name := "doAll", desc := "(II)V" } : Jvm.MethodName) prog_11_method_183_code (4 : Nat) (Option.none : Option Jvm.ClassFile.FieldType)) ∈ lw_all := lw_g (lw_at lw_m10 47 rfl) rfl
theorem q2394 : (Jvm.Cond.methodLink "BracketRoomModel" (688 : Nat) ({ cls := "BracketRoomModel", name := "doOne", desc := "(I)V" } : Jvm.MethodName)) ∈ lw_all := lw_g (lw_at lw_m10 48 rfl) rfl
theorem q2395 : (Jvm.Cond.privateMethod ({ cls := "BracketRoomModel", name := "doOne", desc := "(I)V" } : Jvm.MethodName)) ∈ lw_tbl := lw_at lw_m10 49 rfl
theorem q2396 : (Jvm.Cond.instanceMethod ({ cls := "BracketRoomModel", name := "doOne", desc := "(I)V" } : Jvm.MethodName)) ∈ lw_all := lw_g (lw_at lw_m10 50 rfl) rfl
theorem q2397 : (Jvm.Cond.code ({ cls := "BracketRoomModel", name := "doOne", desc := "(I)V" } : Jvm.MethodName) prog_11_method_182_code (4 : Nat) (Option.none : Option Jvm.ClassFile.FieldType)) ∈ lw_all := lw_g (lw_at lw_m10 51 rfl) rfl
theorem q2398 : (Jvm.Cond.methodLink "BracketRoomModel" (676 : Nat) ({ cls := "BracketRoomModel", name := "isSoNow", desc := "(I)Z" } : Jvm.MethodName)) ∈ lw_all := lw_g (lw_at lw_m10 52 rfl) rfl
theorem q2399 : (Jvm.Cond.privateMethod ({ cls := "BracketRoomModel", name := "isSoNow", desc := "(I)Z" } : Jvm.MethodName)) ∈ lw_tbl := lw_at lw_m10 53 rfl
theorem q2400 : (Jvm.Cond.instanceMethod ({ cls := "BracketRoomModel", name := "isSoNow", desc := "(I)Z" } : Jvm.MethodName)) ∈ lw_all := lw_g (lw_at lw_m10 54 rfl) rfl
theorem q2401 : (Jvm.Cond.code ({ cls := "BracketRoomModel", name := "isSoNow", desc := "(I)Z" } : Jvm.MethodName) prog_11_method_181_code (3 : Nat) (Option.some Jvm.ClassFile.FieldType.boolean)) ∈ lw_all := lw_g (lw_at lw_m10 55 rfl) rfl
theorem q2402 : (Jvm.Cond.methodLink "BracketRoomModel" (664 : Nat) ({ cls := "BracketRoomModel", name := "compares", desc := "(II)Z" } : Jvm.MethodName)) ∈ lw_all := lw_g (lw_at lw_m10 56 rfl) rfl
theorem q2403 : (Jvm.Cond.privateMethod ({ cls := "BracketRoomModel", name := "compares", desc := "(II)Z" } : Jvm.MethodName)) ∈ lw_tbl := lw_at lw_m10 57 rfl
theorem q2404 : (Jvm.Cond.instanceMethod ({ cls := "BracketRoomModel", name := "compares", desc := "(II)Z" } : Jvm.MethodName)) ∈ lw_all := lw_g (lw_at lw_m10 58 rfl) rfl
theorem q2405 : (Jvm.Cond.code ({ cls := "BracketRoomModel", name := "compares", desc := "(II)Z" } : Jvm.MethodName) prog_11_method_180_code (3 : Nat) (Option.some Jvm.ClassFile.FieldType.boolean)) ∈ lw_all := lw_g (lw_at lw_m10 59 rfl) rfl
theorem q2406 : (Jvm.Cond.methodLink "BracketRoomModel" (682 : Nat) ({ cls := "BracketRoomModel", name := "doPlain", desc := "(I)Z" } : Jvm.MethodName)) ∈ lw_all := lw_g (lw_at lw_m10 60 rfl) rfl
theorem q2407 : (Jvm.Cond.privateMethod ({ cls := "BracketRoomModel", name := "doPlain", desc := "(I)Z" } : Jvm.MethodName)) ∈ lw_tbl := lw_at lw_m10 61 rfl
theorem q2408 : (Jvm.Cond.instanceMethod ({ cls := "BracketRoomModel", name := "doPlain", desc := "(I)Z" } : Jvm.MethodName)) ∈ lw_all := lw_g (lw_at lw_m10 62 rfl) rfl
theorem q2409 : (Jvm.Cond.code ({ cls := "BracketRoomModel", name := "doPlain", desc := "(I)Z" } : Jvm.MethodName) prog_11_method_179_code (4 : Nat) (Option.some Jvm.ClassFile.FieldType.boolean)) ∈ lw_all := lw_g (lw_at lw_m10 63 rfl) rfl
theorem q2410 : (Jvm.Cond.methodLink "BracketRoomModel" (661 : Nat) ({ cls := "BracketRoomModel", name := "linear", desc := "(I)Z" } : Jvm.MethodName)) ∈ lw_all := lw_g (lw_at lw_m10 64 rfl) rfl
theorem q2411 : (Jvm.Cond.privateMethod ({ cls := "BracketRoomModel", name := "linear", desc := "(I)Z" } : Jvm.MethodName)) ∈ lw_tbl := lw_at lw_m10 65 rfl
theorem q2412 : (Jvm.Cond.instanceMethod ({ cls := "BracketRoomModel", name := "linear", desc := "(I)Z" } : Jvm.MethodName)) ∈ lw_all := lw_g (lw_at lw_m10 66 rfl) rfl
theorem q2413 : (Jvm.Cond.code ({ cls := "BracketRoomModel", name := "linear", desc := "(I)Z" } : Jvm.MethodName) prog_11_method_178_code (5 : Nat) (Option.some Jvm.ClassFile.FieldType.boolean)) ∈ lw_all := lw_g (lw_at lw_m10 67 rfl) rfl
theorem q2415 : (Jvm.Cond.instanceMethod ({ cls := "BracketRoomModel", name := "ran", desc := "(I)I" } : Jvm.MethodName)) ∈ lw_all := lw_g (lw_at lw_m10 69 rfl) rfl
theorem q2416 : (Jvm.Cond.selects "BracketRoomModel" ({ cls := "BracketRoomModel", name := "ran", desc := "(I)I" } : Jvm.MethodName) ({ cls := "BracketRoomModel", name := "ran", desc := "(I)I" } : Jvm.MethodName)) ∈ lw_all := lw_g (lw_at lw_m10 70 rfl) rfl
theorem q2417 : (Jvm.Cond.code ({ cls := "BracketRoomModel", name := "ran", desc := "(I)I" } : Jvm.MethodName) prog_11_method_185_code (2 : Nat) (Option.some Jvm.ClassFile.FieldType.int)) ∈ lw_all := lw_g (lw_at lw_m10 71 rfl) rfl
theorem q2419 : (Jvm.Cond.instanceMethod ({ cls := "BracketRoomModel", name := "mark", desc := "()I" } : Jvm.MethodName)) ∈ lw_all := lw_g (lw_at lw_m10 73 rfl) rfl
theorem q2420 : (Jvm.Cond.selects "BracketRoomModel" ({ cls := "BracketRoomModel", name := "mark", desc := "()I" } : Jvm.MethodName) ({ cls := "BracketRoomModel", name := "mark", desc := "()I" } : Jvm.MethodName)) ∈ lw_all := lw_g (lw_at lw_m10 74 rfl) rfl
theorem q2421 : (Jvm.Cond.code ({ cls := "BracketRoomModel", name := "mark", desc := "()I" } : Jvm.MethodName) prog_11_method_187_code (1 : Nat) (Option.some Jvm.ClassFile.FieldType.int)) ∈ lw_all := lw_g (lw_at lw_m10 75 rfl) rfl
theorem q2422 : (Jvm.Cond.methodLink "BracketRoomModel" (697 : Nat) ({ cls := "BracketRoomModel", name := "copy", desc := "(II)V" } : Jvm.MethodName)) ∈ lw_all := lw_g (lw_at lw_m10 76 rfl) rfl
theorem q2423 : (Jvm.Cond.privateMethod ({ cls := "BracketRoomModel", name := "copy", desc := "(II)V" } : Jvm.MethodName)) ∈ lw_tbl := lw_at lw_m10 77 rfl
theorem q2424 : (Jvm.Cond.instanceMethod ({ cls := "BracketRoomModel", name := "copy", desc := "(II)V" } : Jvm.MethodName)) ∈ lw_all := lw_g (lw_at lw_m10 78 rfl) rfl
theorem q2425 : (Jvm.Cond.code ({ cls := "BracketRoomModel", name := "copy", desc := "(II)V" } : Jvm.MethodName) prog_11_method_186_code (4 : Nat) (Option.none : Option Jvm.ClassFile.FieldType)) ∈ lw_all := lw_g (lw_at lw_m10 79 rfl) rfl
theorem q2427 : (Jvm.Cond.instanceMethod ({ cls := "BracketRoomModel", name := "back", desc := "()I" } : Jvm.MethodName)) ∈ lw_all := lw_g (lw_at lw_m10 81 rfl) rfl
theorem q2428 : (Jvm.Cond.selects "BracketRoomModel" ({ cls := "BracketRoomModel", name := "back", desc := "()I" } : Jvm.MethodName) ({ cls := "BracketRoomModel", name := "back", desc := "()I" } : Jvm.MethodName)) ∈ lw_all := lw_g (lw_at lw_m10 82 rfl) rfl
theorem q2429 : (Jvm.Cond.code ({ cls := "BracketRoomModel", name := "back", desc := "()I" } : Jvm.MethodName) prog_11_method_188_code (1 : Nat) (Option.some Jvm.ClassFile.FieldType.int)) ∈ lw_all := lw_g (lw_at lw_m10 83 rfl) rfl
theorem in_X8 : ∀ w ∈ wsX80, w ∈ lw_all := lw_in wsX80 [1543, 1545, 1547, 1549, 1551, 1553, 1555, 1557, 1559, 1561, 1563, 1565, 1567, 1569, 1571, 1573, 1575, 1577, 1579, 1581, 1583, 1585, 1587, 1589, 1591, 1593, 1595, 1597, 1599, 1601, 1603, 1605, 1607, 1609, 1611, 1613, 1615, 1617, 1619, 1621, 1623, 1625, 1627, 1629, 1631, 1633, 1635, 1637, 1639, 1641, 1643, 1645, 1647, 1649, 1651, 1653, 1655, 1657, 1659, 1661, 1663, 1665, 1667, 1669, 1671, 1673, 1675, 1677, 1679, 1681, 1683] (by decide +kernel) (by decide +kernel)
theorem q209 : (Jvm.Cond.initialized "BracketRoom$Step") ∈ lw_all := lw_g (lw_at lw_m1 23 rfl) rfl
theorem q962 : (Jvm.Cond.instantiable "BracketRoom$Step" (8 : Nat)) ∈ lw_all := lw_g (lw_at lw_m4 56 rfl) rfl
theorem q964 : (Jvm.Cond.instanceMethod ({ cls := "BracketRoom$Step", name := "<init>", desc := "(I)V" } : Jvm.MethodName)) ∈ lw_all := lw_g (lw_at lw_m4 58 rfl) rfl
theorem q965 : (Jvm.Cond.code ({ cls := "BracketRoom$Step", name := "<init>", desc := "(I)V" } : Jvm.MethodName) prog_6_method_1_code (2 : Nat) (Option.none : Option Jvm.ClassFile.FieldType)) ∈ lw_all := lw_g (lw_at lw_m4 59 rfl) rfl
theorem q966 : (Jvm.Cond.methodLink "BracketRoom$Step" (1 : Nat) ({ cls := "java/lang/Object", name := "<init>", desc := "()V" } : Jvm.MethodName)) ∈ lw_all := lw_g (lw_at lw_m4 60 rfl) rfl
theorem q967 : (Jvm.Cond.fieldLink "BracketRoom$Step" (7 : Nat) "BracketRoom$Step" "kind" "I") ∈ lw_all := lw_g (lw_at lw_m4 61 rfl) rfl
theorem q982 : (Jvm.Cond.laysFinal "BracketRoom$Step" "BracketRoom$Step" "kind" "I") ∈ lw_all := lw_g (lw_at lw_m4 76 rfl) rfl
theorem q983 : (Jvm.Cond.soleField "BracketRoom$Step" "kind") ∈ lw_all := lw_g (lw_at lw_m4 77 rfl) rfl
theorem q984 : (Jvm.Cond.lays "BracketRoom$Step" "BracketRoom$Step" "one" "I") ∈ lw_all := lw_g (lw_at lw_m4 78 rfl) rfl
theorem q985 : (Jvm.Cond.soleField "BracketRoom$Step" "one") ∈ lw_all := lw_g (lw_at lw_m4 79 rfl) rfl
theorem q986 : (Jvm.Cond.lays "BracketRoom$Step" "BracketRoom$Step" "two" "I") ∈ lw_all := lw_g (lw_at lw_m4 80 rfl) rfl
theorem q987 : (Jvm.Cond.soleField "BracketRoom$Step" "two") ∈ lw_all := lw_g (lw_at lw_m4 81 rfl) rfl
theorem q988 : (Jvm.Cond.lays "BracketRoom$Step" "BracketRoom$Step" "number" "I") ∈ lw_all := lw_g (lw_at lw_m4 82 rfl) rfl
theorem q989 : (Jvm.Cond.soleField "BracketRoom$Step" "number") ∈ lw_all := lw_g (lw_at lw_m4 83 rfl) rfl
theorem q990 : (Jvm.Cond.lays "BracketRoom$Step" "BracketRoom$Step" "compares" "I") ∈ lw_all := lw_g (lw_at lw_m4 84 rfl) rfl
theorem q991 : (Jvm.Cond.soleField "BracketRoom$Step" "compares") ∈ lw_all := lw_g (lw_at lw_m4 85 rfl) rfl
theorem q992 : (Jvm.Cond.lays "BracketRoom$Step" "BracketRoom$Step" "test" "I") ∈ lw_all := lw_g (lw_at lw_m4 86 rfl) rfl
theorem q993 : (Jvm.Cond.soleField "BracketRoom$Step" "test") ∈ lw_all := lw_g (lw_at lw_m4 87 rfl) rfl
theorem q994 : (Jvm.Cond.lays "BracketRoom$Step" "BracketRoom$Step" "to" "I") ∈ lw_all := lw_g (lw_at lw_m4 88 rfl) rfl
theorem q995 : (Jvm.Cond.soleField "BracketRoom$Step" "to") ∈ lw_all := lw_g (lw_at lw_m4 89 rfl) rfl
theorem q996 : (Jvm.Cond.lays "BracketRoom$Step" "BracketRoom$Step" "rounds" "I") ∈ lw_all := lw_g (lw_at lw_m4 90 rfl) rfl
theorem q997 : (Jvm.Cond.soleField "BracketRoom$Step" "rounds") ∈ lw_all := lw_g (lw_at lw_m4 91 rfl) rfl
theorem q998 : (Jvm.Cond.superclass "BracketRoom$Step" "java/lang/Object") ∈ lw_all := lw_g (lw_at lw_m4 92 rfl) rfl
theorem in_X9 : ∀ w ∈ wsX90, w ∈ lw_all := lw_in wsX90 [982, 984, 986, 988, 990, 992, 994, 996] (by decide +kernel) (by decide +kernel)
theorem q190 : (Jvm.Cond.initialized "java/lang/Throwable") ∈ lw_all := lw_g (lw_at lw_m1 4 rfl) rfl
theorem q230 : (Jvm.Cond.declares ({ cls := "java/lang/Throwable", name := "<init>", desc := "()V" } : Jvm.MethodName)) ∈ lw_tbl := lw_at lw_m1 44 rfl
theorem q231 : (Jvm.Cond.declares ({ cls := "java/lang/Throwable", name := "<init>", desc := "(Ljava/lang/String;)V" } : Jvm.MethodName)) ∈ lw_tbl := lw_at lw_m1 45 rfl
theorem q235 : (Jvm.Cond.lays "java/lang/Throwable" "java/lang/Throwable" "cause" "Ljava/lang/Throwable;") ∈ lw_all := lw_g (lw_at lw_m1 49 rfl) rfl
theorem q237 : (Jvm.Cond.lays "java/lang/Throwable" "java/lang/Throwable" "stackTrace" "[Ljava/lang/StackTraceElement;") ∈ lw_all := lw_g (lw_at lw_m1 51 rfl) rfl
theorem q239 : (Jvm.Cond.lays "java/lang/Throwable" "java/lang/Throwable" "suppressedExceptions" "Ljava/util/List;") ∈ lw_all := lw_g (lw_at lw_m1 53 rfl) rfl
theorem q241 : (Jvm.Cond.lays "java/lang/Throwable" "java/lang/Throwable" "detailMessage" "Ljava/lang/String;") ∈ lw_all := lw_g (lw_at lw_m1 55 rfl) rfl
theorem q243 : (Jvm.Cond.lays "java/lang/Throwable" "java/lang/Throwable" "backtrace" "Ljava/lang/Object;") ∈ lw_all := lw_g (lw_at lw_m1 57 rfl) rfl
theorem q244 : (Jvm.Cond.fieldLink "java/lang/Throwable" (198 : Nat) "java/lang/Throwable" "backtrace" "Ljava/lang/Object;") ∈ lw_all := lw_g (lw_at lw_m1 58 rfl) rfl
theorem q245 : (Jvm.Cond.superclass "java/lang/Throwable" "java/lang/Object") ∈ lw_all := lw_g (lw_at lw_m1 59 rfl) rfl
theorem q246 : (Jvm.Cond.instanceMethod ({ cls := "java/lang/Throwable", name := "<init>", desc := "()V" } : Jvm.MethodName)) ∈ lw_all := lw_g (lw_at lw_m1 60 rfl) rfl
theorem q247 : (Jvm.Cond.code ({ cls := "java/lang/Throwable", name := "<init>", desc := "()V" } : Jvm.MethodName) prog_24_method_1_code (1 : Nat) (Option.none : Option Jvm.ClassFile.FieldType)) ∈ lw_all := lw_g (lw_at lw_m1 61 rfl) rfl
theorem q248 : (Jvm.Cond.methodLink "java/lang/Throwable" (1 : Nat) ({ cls := "java/lang/Object", name := "<init>", desc := "()V" } : Jvm.MethodName)) ∈ lw_all := lw_g (lw_at lw_m1 62 rfl) rfl
theorem q249 : (Jvm.Cond.fieldLink "java/lang/Throwable" (13 : Nat) "java/lang/Throwable" "UNASSIGNED_STACK" "[Ljava/lang/StackTraceElement;") ∈ lw_all := lw_g (lw_at lw_m1 63 rfl) rfl
theorem q250 : (Jvm.Cond.laysStatic "java/lang/Throwable" "UNASSIGNED_STACK" "[Ljava/lang/StackTraceElement;") ∈ lw_tbl := lw_at lw_m1 64 rfl
theorem q251 : (Jvm.Cond.fieldLink "java/lang/Throwable" (20 : Nat) "java/lang/Throwable" "SUPPRESSED_SENTINEL" "Ljava/util/List;") ∈ lw_all := lw_g (lw_at lw_m1 65 rfl) rfl
theorem q252 : (Jvm.Cond.laysStatic "java/lang/Throwable" "SUPPRESSED_SENTINEL" "Ljava/util/List;") ∈ lw_tbl := lw_at lw_m1 66 rfl
theorem q253 : (Jvm.Cond.methodLink "java/lang/Throwable" (27 : Nat) ({ cls := "java/lang/Throwable", name := "fillInStackTrace", desc := "()Ljava/lang/Throwable;" } : Jvm.MethodName)) ∈ lw_all := lw_g (lw_at lw_m1 67 rfl) rfl
theorem q254 : (Jvm.Cond.instanceMethod ({ cls := "java/lang/Throwable", name := "fillInStackTrace", desc := "()Ljava/lang/Throwable;" } : Jvm.MethodName)) ∈ lw_all := lw_g (lw_at lw_m1 68 rfl) rfl
theorem q255 : (Jvm.Cond.sameMethod "java/lang/Throwable" "java/lang/Throwable" "fillInStackTrace" "()Ljava/lang/Throwable;") ∈ lw_all := lw_g (lw_at lw_m1 69 rfl) rfl
theorem q268 : (Jvm.Cond.declares ({ cls := "java/lang/Throwable", name := "fillInStackTrace", desc := "()Ljava/lang/Throwable;" } : Jvm.MethodName)) ∈ lw_tbl := lw_at lw_m1 82 rfl
theorem q272 : (Jvm.Cond.codeSync ({ cls := "java/lang/Throwable", name := "fillInStackTrace", desc := "()Ljava/lang/Throwable;" } : Jvm.MethodName) prog_24_method_18_code (1 : Nat) (Option.some (Jvm.ClassFile.FieldType.object "java/lang/Throwable"))) ∈ lw_all := lw_g (lw_at lw_m1 86 rfl) rfl
theorem q273 : (Jvm.Cond.methodLink "java/lang/Throwable" (202 : Nat) ({ cls := "java/lang/Throwable", name := "fillInStackTrace", desc := "(I)Ljava/lang/Throwable;" } : Jvm.MethodName)) ∈ lw_all := lw_g (lw_at lw_m1 87 rfl) rfl
theorem q274 : (Jvm.Cond.privateMethod ({ cls := "java/lang/Throwable", name := "fillInStackTrace", desc := "(I)Ljava/lang/Throwable;" } : Jvm.MethodName)) ∈ lw_tbl := lw_at lw_m1 88 rfl
theorem q275 : (Jvm.Cond.instanceMethod ({ cls := "java/lang/Throwable", name := "fillInStackTrace", desc := "(I)Ljava/lang/Throwable;" } : Jvm.MethodName)) ∈ lw_all := lw_g (lw_at lw_m1 89 rfl) rfl
theorem q276 : (Jvm.Cond.instantiable "java/lang/Throwable" (6 : Nat)) ∈ lw_all := lw_g (lw_at lw_m1 90 rfl) rfl
theorem q277 : (Jvm.Cond.native ({ cls := "java/lang/Throwable", name := "fillInStackTrace", desc := "(I)Ljava/lang/Throwable;" } : Jvm.MethodName)) ∈ lw_all := lw_g (lw_at lw_m1 91 rfl) rfl
theorem q288 : (Jvm.Cond.instanceMethod ({ cls := "java/lang/Throwable", name := "<init>", desc := "(Ljava/lang/String;Ljava/lang/Throwable;ZZ)V" } : Jvm.MethodName)) ∈ lw_all := lw_g (lw_at lw_m1 102 rfl) rfl
theorem q289 : (Jvm.Cond.code ({ cls := "java/lang/Throwable", name := "<init>", desc := "(Ljava/lang/String;Ljava/lang/Throwable;ZZ)V" } : Jvm.MethodName) prog_24_method_5_code (5 : Nat) (Option.none : Option Jvm.ClassFile.FieldType)) ∈ lw_all := lw_g (lw_at lw_m1 103 rfl) rfl
theorem q294 : (Jvm.Cond.fieldLink "java/lang/Throwable" (198 : Nat) "java/lang/Throwable" "backtrace" "Ljava/lang/Object;") ∈ lw_all := lw_g (lw_at lw_m1 108 rfl) rfl
theorem q295 : (Jvm.Cond.fieldLink "java/lang/Throwable" (31 : Nat) "java/lang/Throwable" "detailMessage" "Ljava/lang/String;") ∈ lw_all := lw_g (lw_at lw_m1 109 rfl) rfl
theorem q296 : (Jvm.Cond.fieldLink "java/lang/Throwable" (7 : Nat) "java/lang/Throwable" "cause" "Ljava/lang/Throwable;") ∈ lw_all := lw_g (lw_at lw_m1 110 rfl) rfl
theorem q297 : (Jvm.Cond.fieldLink "java/lang/Throwable" (17 : Nat) "java/lang/Throwable" "stackTrace" "[Ljava/lang/StackTraceElement;") ∈ lw_all := lw_g (lw_at lw_m1 111 rfl) rfl
theorem q298 : (Jvm.Cond.fieldLink "java/lang/Throwable" (24 : Nat) "java/lang/Throwable" "suppressedExceptions" "Ljava/util/List;") ∈ lw_all := lw_g (lw_at lw_m1 112 rfl) rfl
theorem q303 : (Jvm.Cond.soleField "java/lang/Throwable" "backtrace") ∈ lw_all := lw_g (lw_at lw_m1 117 rfl) rfl
theorem q304 : (Jvm.Cond.soleField "java/lang/Throwable" "detailMessage") ∈ lw_all := lw_g (lw_at lw_m1 118 rfl) rfl
theorem q305 : (Jvm.Cond.soleField "java/lang/Throwable" "cause") ∈ lw_all := lw_g (lw_at lw_m1 119 rfl) rfl
theorem q306 : (Jvm.Cond.soleField "java/lang/Throwable" "stackTrace") ∈ lw_all := lw_g (lw_at lw_m1 120 rfl) rfl
theorem q308 : (Jvm.Cond.soleField "java/lang/Throwable" "depth") ∈ lw_all := lw_g (lw_at lw_m1 122 rfl) rfl
theorem q309 : (Jvm.Cond.soleField "java/lang/Throwable" "suppressedExceptions") ∈ lw_all := lw_g (lw_at lw_m1 123 rfl) rfl
theorem q640 : (Jvm.Cond.instanceMethod ({ cls := "java/lang/Throwable", name := "<init>", desc := "(Ljava/lang/String;)V" } : Jvm.MethodName)) ∈ lw_all := lw_g (lw_at lw_m2 214 rfl) rfl
theorem q641 : (Jvm.Cond.code ({ cls := "java/lang/Throwable", name := "<init>", desc := "(Ljava/lang/String;)V" } : Jvm.MethodName) prog_24_method_2_code (2 : Nat) (Option.none : Option Jvm.ClassFile.FieldType)) ∈ lw_all := lw_g (lw_at lw_m2 215 rfl) rfl
theorem q2431 : (Jvm.Cond.sameMethod "java/lang/Throwable" "java/lang/Throwable" "fillInStackTrace" "(I)Ljava/lang/Throwable;") ∈ lw_all := lw_g (lw_at lw_m10 85 rfl) rfl
theorem in_J0 : ∀ w ∈ wsJ00, w ∈ lw_all := lw_in wsJ00 [235, 237, 239, 241, 243] (by decide +kernel) (by decide +kernel)
theorem q191 : (Jvm.Cond.initialized "java/lang/Exception") ∈ lw_all := lw_g (lw_at lw_m1 5 rfl) rfl
theorem q228 : (Jvm.Cond.declares ({ cls := "java/lang/Exception", name := "<init>", desc := "()V" } : Jvm.MethodName)) ∈ lw_tbl := lw_at lw_m1 42 rfl
theorem q229 : (Jvm.Cond.declares ({ cls := "java/lang/Exception", name := "<init>", desc := "(Ljava/lang/String;)V" } : Jvm.MethodName)) ∈ lw_tbl := lw_at lw_m1 43 rfl
theorem q271 : (Jvm.Cond.superclass "java/lang/Exception" "java/lang/Throwable") ∈ lw_all := lw_g (lw_at lw_m1 85 rfl) rfl
theorem q285 : (Jvm.Cond.instanceMethod ({ cls := "java/lang/Exception", name := "<init>", desc := "(Ljava/lang/String;Ljava/lang/Throwable;ZZ)V" } : Jvm.MethodName)) ∈ lw_all := lw_g (lw_at lw_m1 99 rfl) rfl
theorem q286 : (Jvm.Cond.code ({ cls := "java/lang/Exception", name := "<init>", desc := "(Ljava/lang/String;Ljava/lang/Throwable;ZZ)V" } : Jvm.MethodName) prog_13_method_5_code (5 : Nat) (Option.none : Option Jvm.ClassFile.FieldType)) ∈ lw_all := lw_g (lw_at lw_m1 100 rfl) rfl
theorem q287 : (Jvm.Cond.methodLink "java/lang/Exception" (16 : Nat) ({ cls := "java/lang/Throwable", name := "<init>", desc := "(Ljava/lang/String;Ljava/lang/Throwable;ZZ)V" } : Jvm.MethodName)) ∈ lw_all := lw_g (lw_at lw_m1 101 rfl) rfl
theorem q637 : (Jvm.Cond.instanceMethod ({ cls := "java/lang/Exception", name := "<init>", desc := "(Ljava/lang/String;)V" } : Jvm.MethodName)) ∈ lw_all := lw_g (lw_at lw_m2 211 rfl) rfl
theorem q638 : (Jvm.Cond.code ({ cls := "java/lang/Exception", name := "<init>", desc := "(Ljava/lang/String;)V" } : Jvm.MethodName) prog_13_method_2_code (2 : Nat) (Option.none : Option Jvm.ClassFile.FieldType)) ∈ lw_all := lw_g (lw_at lw_m2 212 rfl) rfl
theorem q639 : (Jvm.Cond.methodLink "java/lang/Exception" (7 : Nat) ({ cls := "java/lang/Throwable", name := "<init>", desc := "(Ljava/lang/String;)V" } : Jvm.MethodName)) ∈ lw_all := lw_g (lw_at lw_m2 213 rfl) rfl
theorem q680 : (Jvm.Cond.instanceMethod ({ cls := "java/lang/Exception", name := "<init>", desc := "()V" } : Jvm.MethodName)) ∈ lw_all := lw_g (lw_at lw_m3 14 rfl) rfl
theorem q681 : (Jvm.Cond.code ({ cls := "java/lang/Exception", name := "<init>", desc := "()V" } : Jvm.MethodName) prog_13_method_1_code (1 : Nat) (Option.none : Option Jvm.ClassFile.FieldType)) ∈ lw_all := lw_g (lw_at lw_m3 15 rfl) rfl
theorem q682 : (Jvm.Cond.methodLink "java/lang/Exception" (1 : Nat) ({ cls := "java/lang/Throwable", name := "<init>", desc := "()V" } : Jvm.MethodName)) ∈ lw_all := lw_g (lw_at lw_m3 16 rfl) rfl
theorem q192 : (Jvm.Cond.initialized "java/lang/RuntimeException") ∈ lw_all := lw_g (lw_at lw_m1 6 rfl) rfl
theorem q226 : (Jvm.Cond.declares ({ cls := "java/lang/RuntimeException", name := "<init>", desc := "()V" } : Jvm.MethodName)) ∈ lw_tbl := lw_at lw_m1 40 rfl
theorem q227 : (Jvm.Cond.declares ({ cls := "java/lang/RuntimeException", name := "<init>", desc := "(Ljava/lang/String;)V" } : Jvm.MethodName)) ∈ lw_tbl := lw_at lw_m1 41 rfl
theorem q267 : (Jvm.Cond.sameMethod "java/lang/RuntimeException" "java/lang/Throwable" "fillInStackTrace" "()Ljava/lang/Throwable;") ∈ lw_all := lw_g (lw_at lw_m1 81 rfl) rfl
theorem q270 : (Jvm.Cond.superclass "java/lang/RuntimeException" "java/lang/Exception") ∈ lw_all := lw_g (lw_at lw_m1 84 rfl) rfl
theorem q282 : (Jvm.Cond.instanceMethod ({ cls := "java/lang/RuntimeException", name := "<init>", desc := "(Ljava/lang/String;Ljava/lang/Throwable;ZZ)V" } : Jvm.MethodName)) ∈ lw_all := lw_g (lw_at lw_m1 96 rfl) rfl
theorem q283 : (Jvm.Cond.code ({ cls := "java/lang/RuntimeException", name := "<init>", desc := "(Ljava/lang/String;Ljava/lang/Throwable;ZZ)V" } : Jvm.MethodName) prog_19_method_5_code (5 : Nat) (Option.none : Option Jvm.ClassFile.FieldType)) ∈ lw_all := lw_g (lw_at lw_m1 97 rfl) rfl
theorem q284 : (Jvm.Cond.methodLink "java/lang/RuntimeException" (16 : Nat) ({ cls := "java/lang/Exception", name := "<init>", desc := "(Ljava/lang/String;Ljava/lang/Throwable;ZZ)V" } : Jvm.MethodName)) ∈ lw_all := lw_g (lw_at lw_m1 98 rfl) rfl
theorem q634 : (Jvm.Cond.instanceMethod ({ cls := "java/lang/RuntimeException", name := "<init>", desc := "(Ljava/lang/String;)V" } : Jvm.MethodName)) ∈ lw_all := lw_g (lw_at lw_m2 208 rfl) rfl
theorem q635 : (Jvm.Cond.code ({ cls := "java/lang/RuntimeException", name := "<init>", desc := "(Ljava/lang/String;)V" } : Jvm.MethodName) prog_19_method_2_code (2 : Nat) (Option.none : Option Jvm.ClassFile.FieldType)) ∈ lw_all := lw_g (lw_at lw_m2 209 rfl) rfl
theorem q636 : (Jvm.Cond.methodLink "java/lang/RuntimeException" (7 : Nat) ({ cls := "java/lang/Exception", name := "<init>", desc := "(Ljava/lang/String;)V" } : Jvm.MethodName)) ∈ lw_all := lw_g (lw_at lw_m2 210 rfl) rfl
theorem q677 : (Jvm.Cond.instanceMethod ({ cls := "java/lang/RuntimeException", name := "<init>", desc := "()V" } : Jvm.MethodName)) ∈ lw_all := lw_g (lw_at lw_m3 11 rfl) rfl
theorem q678 : (Jvm.Cond.code ({ cls := "java/lang/RuntimeException", name := "<init>", desc := "()V" } : Jvm.MethodName) prog_19_method_1_code (1 : Nat) (Option.none : Option Jvm.ClassFile.FieldType)) ∈ lw_all := lw_g (lw_at lw_m3 12 rfl) rfl
theorem q679 : (Jvm.Cond.methodLink "java/lang/RuntimeException" (1 : Nat) ({ cls := "java/lang/Exception", name := "<init>", desc := "()V" } : Jvm.MethodName)) ∈ lw_all := lw_g (lw_at lw_m3 13 rfl) rfl
theorem q697 : (Jvm.Cond.castable "java/lang/RuntimeException" "java/lang/Throwable") ∈ lw_tbl := lw_at lw_m3 31 rfl
theorem q199 : (Jvm.Cond.initialized "java/lang/NegativeArraySizeException") ∈ lw_all := lw_g (lw_at lw_m1 13 rfl) rfl
theorem q257 : (Jvm.Cond.selects "java/lang/NegativeArraySizeException" ({ cls := "java/lang/Throwable", name := "fillInStackTrace", desc := "()Ljava/lang/Throwable;" } : Jvm.MethodName) ({ cls := "java/lang/Throwable", name := "fillInStackTrace", desc := "()Ljava/lang/Throwable;" } : Jvm.MethodName)) ∈ lw_all := lw_g (lw_at lw_m1 71 rfl) rfl
theorem q630 : (Jvm.Cond.instantiable "java/lang/NegativeArraySizeException" (6 : Nat)) ∈ lw_all := lw_g (lw_at lw_m2 204 rfl) rfl
theorem q631 : (Jvm.Cond.instanceMethod ({ cls := "java/lang/NegativeArraySizeException", name := "<init>", desc := "(Ljava/lang/String;)V" } : Jvm.MethodName)) ∈ lw_all := lw_g (lw_at lw_m2 205 rfl) rfl
theorem q632 : (Jvm.Cond.code ({ cls := "java/lang/NegativeArraySizeException", name := "<init>", desc := "(Ljava/lang/String;)V" } : Jvm.MethodName) prog_17_method_2_code (2 : Nat) (Option.none : Option Jvm.ClassFile.FieldType)) ∈ lw_all := lw_g (lw_at lw_m2 206 rfl) rfl
theorem q633 : (Jvm.Cond.methodLink "java/lang/NegativeArraySizeException" (7 : Nat) ({ cls := "java/lang/RuntimeException", name := "<init>", desc := "(Ljava/lang/String;)V" } : Jvm.MethodName)) ∈ lw_all := lw_g (lw_at lw_m2 207 rfl) rfl
theorem q642 : (Jvm.Cond.lays "java/lang/NegativeArraySizeException" "java/lang/Throwable" "backtrace" "Ljava/lang/Object;") ∈ lw_all := lw_g (lw_at lw_m2 216 rfl) rfl
theorem q643 : (Jvm.Cond.lays "java/lang/NegativeArraySizeException" "java/lang/Throwable" "detailMessage" "Ljava/lang/String;") ∈ lw_all := lw_g (lw_at lw_m2 217 rfl) rfl
theorem q644 : (Jvm.Cond.lays "java/lang/NegativeArraySizeException" "java/lang/Throwable" "cause" "Ljava/lang/Throwable;") ∈ lw_all := lw_g (lw_at lw_m2 218 rfl) rfl
theorem q645 : (Jvm.Cond.lays "java/lang/NegativeArraySizeException" "java/lang/Throwable" "stackTrace" "[Ljava/lang/StackTraceElement;") ∈ lw_all := lw_g (lw_at lw_m2 219 rfl) rfl
theorem q646 : (Jvm.Cond.lays "java/lang/NegativeArraySizeException" "java/lang/Throwable" "depth" "I") ∈ lw_all := lw_g (lw_at lw_m2 220 rfl) rfl
theorem q647 : (Jvm.Cond.lays "java/lang/NegativeArraySizeException" "java/lang/Throwable" "suppressedExceptions" "Ljava/util/List;") ∈ lw_all := lw_g (lw_at lw_m2 221 rfl) rfl
theorem q648 : (Jvm.Cond.superclass "java/lang/NegativeArraySizeException" "java/lang/RuntimeException") ∈ lw_all := lw_g (lw_at lw_m2 222 rfl) rfl
theorem q649 : (Jvm.Cond.castable "java/lang/NegativeArraySizeException" "java/lang/NegativeArraySizeException") ∈ lw_tbl := lw_at lw_m2 223 rfl
theorem q650 : (Jvm.Cond.selects "java/lang/NegativeArraySizeException" ({ cls := "java/lang/Throwable", name := "fillInStackTrace", desc := "(I)Ljava/lang/Throwable;" } : Jvm.MethodName) ({ cls := "java/lang/Throwable", name := "fillInStackTrace", desc := "(I)Ljava/lang/Throwable;" } : Jvm.MethodName)) ∈ lw_all := lw_g (lw_at lw_m2 224 rfl) rfl
theorem in_J3 : ∀ w ∈ wsJ30, w ∈ lw_all := lw_in wsJ30 [642, 643, 644, 645, 646, 647] (by decide +kernel) (by decide +kernel)
theorem q200 : (Jvm.Cond.initialized "java/lang/String") ∈ lw_all := lw_g (lw_at lw_m1 14 rfl) rfl
theorem q651 : (Jvm.Cond.instantiable "java/lang/String" (4 : Nat)) ∈ lw_all := lw_g (lw_at lw_m2 225 rfl) rfl
theorem q652 : (Jvm.Cond.laysFinal "java/lang/String" "java/lang/String" "value" "[B") ∈ lw_all := lw_g (lw_at lw_m2 226 rfl) rfl
theorem q653 : (Jvm.Cond.soleField "java/lang/String" "value") ∈ lw_all := lw_g (lw_at lw_m2 227 rfl) rfl
theorem q654 : (Jvm.Cond.laysFinal "java/lang/String" "java/lang/String" "coder" "B") ∈ lw_all := lw_g (lw_at lw_m2 228 rfl) rfl
theorem q655 : (Jvm.Cond.soleField "java/lang/String" "coder") ∈ lw_all := lw_g (lw_at lw_m2 229 rfl) rfl
theorem q796 : (Jvm.Cond.instanceMethod ({ cls := "java/lang/String", name := "length", desc := "()I" } : Jvm.MethodName)) ∈ lw_all := lw_g (lw_at lw_m3 130 rfl) rfl
theorem q797 : (Jvm.Cond.selects "java/lang/String" ({ cls := "java/lang/String", name := "length", desc := "()I" } : Jvm.MethodName) ({ cls := "java/lang/String", name := "length", desc := "()I" } : Jvm.MethodName)) ∈ lw_all := lw_g (lw_at lw_m3 131 rfl) rfl
theorem q798 : (Jvm.Cond.code ({ cls := "java/lang/String", name := "length", desc := "()I" } : Jvm.MethodName) prog_20_method_54_code (1 : Nat) (Option.some Jvm.ClassFile.FieldType.int)) ∈ lw_all := lw_g (lw_at lw_m3 132 rfl) rfl
theorem q799 : (Jvm.Cond.methodLink "java/lang/String" (335 : Nat) ({ cls := "java/lang/String", name := "coder", desc := "()B" } : Jvm.MethodName)) ∈ lw_all := lw_g (lw_at lw_m3 133 rfl) rfl
theorem q800 : (Jvm.Cond.instanceMethod ({ cls := "java/lang/String", name := "coder", desc := "()B" } : Jvm.MethodName)) ∈ lw_all := lw_g (lw_at lw_m3 134 rfl) rfl
theorem q801 : (Jvm.Cond.selects "java/lang/String" ({ cls := "java/lang/String", name := "coder", desc := "()B" } : Jvm.MethodName) ({ cls := "java/lang/String", name := "coder", desc := "()B" } : Jvm.MethodName)) ∈ lw_all := lw_g (lw_at lw_m3 135 rfl) rfl
theorem q802 : (Jvm.Cond.code ({ cls := "java/lang/String", name := "coder", desc := "()B" } : Jvm.MethodName) prog_20_method_152_code (1 : Nat) (Option.some Jvm.ClassFile.FieldType.byte)) ∈ lw_all := lw_g (lw_at lw_m3 136 rfl) rfl
theorem q803 : (Jvm.Cond.fieldLink "java/lang/String" (38 : Nat) "java/lang/String" "COMPACT_STRINGS" "Z") ∈ lw_all := lw_g (lw_at lw_m3 137 rfl) rfl
theorem q804 : (Jvm.Cond.laysStatic "java/lang/String" "COMPACT_STRINGS" "Z") ∈ lw_tbl := lw_at lw_m3 138 rfl
theorem q806 : (Jvm.Cond.instanceMethod ({ cls := "java/lang/String", name := "charAt", desc := "(I)C" } : Jvm.MethodName)) ∈ lw_all := lw_g (lw_at lw_m3 140 rfl) rfl
theorem q807 : (Jvm.Cond.selects "java/lang/String" ({ cls := "java/lang/String", name := "charAt", desc := "(I)C" } : Jvm.MethodName) ({ cls := "java/lang/String", name := "charAt", desc := "(I)C" } : Jvm.MethodName)) ∈ lw_all := lw_g (lw_at lw_m3 141 rfl) rfl
theorem q808 : (Jvm.Cond.code ({ cls := "java/lang/String", name := "charAt", desc := "(I)C" } : Jvm.MethodName) prog_20_method_56_code (2 : Nat) (Option.some Jvm.ClassFile.FieldType.char)) ∈ lw_all := lw_g (lw_at lw_m3 142 rfl) rfl
theorem q809 : (Jvm.Cond.methodLink "java/lang/String" (492 : Nat) ({ cls := "java/lang/String", name := "isLatin1", desc := "()Z" } : Jvm.MethodName)) ∈ lw_all := lw_g (lw_at lw_m3 143 rfl) rfl
theorem q810 : (Jvm.Cond.instanceMethod ({ cls := "java/lang/String", name := "isLatin1", desc := "()Z" } : Jvm.MethodName)) ∈ lw_all := lw_g (lw_at lw_m3 144 rfl) rfl
theorem q811 : (Jvm.Cond.selects "java/lang/String" ({ cls := "java/lang/String", name := "isLatin1", desc := "()Z" } : Jvm.MethodName) ({ cls := "java/lang/String", name := "isLatin1", desc := "()Z" } : Jvm.MethodName)) ∈ lw_all := lw_g (lw_at lw_m3 145 rfl) rfl
theorem q812 : (Jvm.Cond.code ({ cls := "java/lang/String", name := "isLatin1", desc := "()Z" } : Jvm.MethodName) prog_20_method_154_code (1 : Nat) (Option.some Jvm.ClassFile.FieldType.boolean)) ∈ lw_all := lw_g (lw_at lw_m3 146 rfl) rfl
theorem q813 : (Jvm.Cond.methodLink "java/lang/String" (495 : Nat) ({ cls := "java/lang/StringLatin1", name := "charAt", desc := "([BI)C" } : Jvm.MethodName)) ∈ lw_all := lw_g (lw_at lw_m3 147 rfl) rfl
theorem q817 : (Jvm.Cond.static ({ cls := "java/lang/String", name := "checkIndex", desc := "(II)V" } : Jvm.MethodName)) ∈ lw_all := lw_g (lw_at lw_m3 151 rfl) rfl
theorem q818 : (Jvm.Cond.code ({ cls := "java/lang/String", name := "checkIndex", desc := "(II)V" } : Jvm.MethodName) prog_20_method_155_code (2 : Nat) (Option.none : Option Jvm.ClassFile.FieldType)) ∈ lw_all := lw_g (lw_at lw_m3 152 rfl) rfl
theorem q819 : (Jvm.Cond.fieldLink "java/lang/String" (1053 : Nat) "jdk/internal/util/Preconditions" "SIOOBE_FORMATTER" "Ljava/util/function/BiFunction;") ∈ lw_all := lw_g (lw_at lw_m3 153 rfl) rfl
theorem q821 : (Jvm.Cond.methodLink "java/lang/String" (1059 : Nat) ({ cls := "jdk/internal/util/Preconditions", name := "checkIndex", desc := "(IILjava/util/function/BiFunction;)I" } : Jvm.MethodName)) ∈ lw_all := lw_g (lw_at lw_m3 155 rfl) rfl
theorem q824 : (Jvm.Cond.methodLink "java/lang/String" (498 : Nat) ({ cls := "java/lang/StringUTF16", name := "charAt", desc := "([BI)C" } : Jvm.MethodName)) ∈ lw_all := lw_g (lw_at lw_m3 158 rfl) rfl
theorem q2440 : (Jvm.Cond.fieldLink "java/lang/String" (9 : Nat) "java/lang/String" "value" "[B") ∈ lw_all := lw_g (lw_at lw_m10 94 rfl) rfl
theorem q2441 : (Jvm.Cond.fieldLink "java/lang/String" (15 : Nat) "java/lang/String" "coder" "B") ∈ lw_all := lw_g (lw_at lw_m10 95 rfl) rfl
theorem in_J4 : ∀ w ∈ wsJ40, w ∈ lw_all := lw_in wsJ40 [652, 654] (by decide +kernel) (by decide +kernel)
theorem q201 : (Jvm.Cond.initialized "java/lang/NullPointerException") ∈ lw_all := lw_g (lw_at lw_m1 15 rfl) rfl
theorem q258 : (Jvm.Cond.selects "java/lang/NullPointerException" ({ cls := "java/lang/Throwable", name := "fillInStackTrace", desc := "()Ljava/lang/Throwable;" } : Jvm.MethodName) ({ cls := "java/lang/NullPointerException", name := "fillInStackTrace", desc := "()Ljava/lang/Throwable;" } : Jvm.MethodName)) ∈ lw_all := lw_g (lw_at lw_m1 72 rfl) rfl
theorem q259 : (Jvm.Cond.instanceMethod ({ cls := "java/lang/NullPointerException", name := "fillInStackTrace", desc := "()Ljava/lang/Throwable;" } : Jvm.MethodName)) ∈ lw_all := lw_g (lw_at lw_m1 73 rfl) rfl
theorem q260 : (Jvm.Cond.codeSync ({ cls := "java/lang/NullPointerException", name := "fillInStackTrace", desc := "()Ljava/lang/Throwable;" } : Jvm.MethodName) prog_18_method_3_code (1 : Nat) (Option.some (Jvm.ClassFile.FieldType.object "java/lang/Throwable"))) ∈ lw_all := lw_g (lw_at lw_m1 74 rfl) rfl
theorem q261 : (Jvm.Cond.methodLink "java/lang/NullPointerException" (16 : Nat) ({ cls := "java/lang/NullPointerException", name := "getExtendedNPEMessage", desc := "()Ljava/lang/String;" } : Jvm.MethodName)) ∈ lw_all := lw_g (lw_at lw_m1 75 rfl) rfl
theorem q262 : (Jvm.Cond.privateMethod ({ cls := "java/lang/NullPointerException", name := "getExtendedNPEMessage", desc := "()Ljava/lang/String;" } : Jvm.MethodName)) ∈ lw_tbl := lw_at lw_m1 76 rfl
theorem q263 : (Jvm.Cond.instanceMethod ({ cls := "java/lang/NullPointerException", name := "getExtendedNPEMessage", desc := "()Ljava/lang/String;" } : Jvm.MethodName)) ∈ lw_all := lw_g (lw_at lw_m1 77 rfl) rfl
theorem q264 : (Jvm.Cond.instantiable "java/lang/NullPointerException" (8 : Nat)) ∈ lw_all := lw_g (lw_at lw_m1 78 rfl) rfl
theorem q265 : (Jvm.Cond.native ({ cls := "java/lang/NullPointerException", name := "getExtendedNPEMessage", desc := "()Ljava/lang/String;" } : Jvm.MethodName)) ∈ lw_all := lw_g (lw_at lw_m1 79 rfl) rfl
theorem q266 : (Jvm.Cond.methodLink "java/lang/NullPointerException" (24 : Nat) ({ cls := "java/lang/RuntimeException", name := "fillInStackTrace", desc := "()Ljava/lang/Throwable;" } : Jvm.MethodName)) ∈ lw_all := lw_g (lw_at lw_m1 80 rfl) rfl
theorem q269 : (Jvm.Cond.superclass "java/lang/NullPointerException" "java/lang/RuntimeException") ∈ lw_all := lw_g (lw_at lw_m1 83 rfl) rfl
theorem q674 : (Jvm.Cond.instanceMethod ({ cls := "java/lang/NullPointerException", name := "<init>", desc := "()V" } : Jvm.MethodName)) ∈ lw_all := lw_g (lw_at lw_m3 8 rfl) rfl
theorem q675 : (Jvm.Cond.code ({ cls := "java/lang/NullPointerException", name := "<init>", desc := "()V" } : Jvm.MethodName) prog_18_method_1_code (1 : Nat) (Option.none : Option Jvm.ClassFile.FieldType)) ∈ lw_all := lw_g (lw_at lw_m3 9 rfl) rfl
theorem q676 : (Jvm.Cond.methodLink "java/lang/NullPointerException" (1 : Nat) ({ cls := "java/lang/RuntimeException", name := "<init>", desc := "()V" } : Jvm.MethodName)) ∈ lw_all := lw_g (lw_at lw_m3 10 rfl) rfl
theorem q683 : (Jvm.Cond.fieldLink "java/lang/NullPointerException" (10 : Nat) "java/lang/NullPointerException" "extendedMessageState" "I") ∈ lw_all := lw_g (lw_at lw_m3 17 rfl) rfl
theorem q684 : (Jvm.Cond.fieldLink "java/lang/NullPointerException" (20 : Nat) "java/lang/NullPointerException" "extendedMessage" "Ljava/lang/String;") ∈ lw_all := lw_g (lw_at lw_m3 18 rfl) rfl
theorem q685 : (Jvm.Cond.lays "java/lang/NullPointerException" "java/lang/NullPointerException" "extendedMessageState" "I") ∈ lw_all := lw_g (lw_at lw_m3 19 rfl) rfl
theorem q686 : (Jvm.Cond.soleField "java/lang/NullPointerException" "extendedMessageState") ∈ lw_all := lw_g (lw_at lw_m3 20 rfl) rfl
theorem q687 : (Jvm.Cond.lays "java/lang/NullPointerException" "java/lang/NullPointerException" "extendedMessage" "Ljava/lang/String;") ∈ lw_all := lw_g (lw_at lw_m3 21 rfl) rfl
theorem q688 : (Jvm.Cond.soleField "java/lang/NullPointerException" "extendedMessage") ∈ lw_all := lw_g (lw_at lw_m3 22 rfl) rfl
theorem q689 : (Jvm.Cond.lays "java/lang/NullPointerException" "java/lang/Throwable" "backtrace" "Ljava/lang/Object;") ∈ lw_all := lw_g (lw_at lw_m3 23 rfl) rfl
theorem q690 : (Jvm.Cond.lays "java/lang/NullPointerException" "java/lang/Throwable" "detailMessage" "Ljava/lang/String;") ∈ lw_all := lw_g (lw_at lw_m3 24 rfl) rfl
theorem q691 : (Jvm.Cond.lays "java/lang/NullPointerException" "java/lang/Throwable" "cause" "Ljava/lang/Throwable;") ∈ lw_all := lw_g (lw_at lw_m3 25 rfl) rfl
theorem q692 : (Jvm.Cond.lays "java/lang/NullPointerException" "java/lang/Throwable" "stackTrace" "[Ljava/lang/StackTraceElement;") ∈ lw_all := lw_g (lw_at lw_m3 26 rfl) rfl
theorem q693 : (Jvm.Cond.lays "java/lang/NullPointerException" "java/lang/Throwable" "depth" "I") ∈ lw_all := lw_g (lw_at lw_m3 27 rfl) rfl
theorem q694 : (Jvm.Cond.lays "java/lang/NullPointerException" "java/lang/Throwable" "suppressedExceptions" "Ljava/util/List;") ∈ lw_all := lw_g (lw_at lw_m3 28 rfl) rfl
theorem q695 : (Jvm.Cond.castable "java/lang/NullPointerException" "java/lang/NullPointerException") ∈ lw_tbl := lw_at lw_m3 29 rfl
theorem q696 : (Jvm.Cond.selects "java/lang/NullPointerException" ({ cls := "java/lang/Throwable", name := "fillInStackTrace", desc := "(I)Ljava/lang/Throwable;" } : Jvm.MethodName) ({ cls := "java/lang/Throwable", name := "fillInStackTrace", desc := "(I)Ljava/lang/Throwable;" } : Jvm.MethodName)) ∈ lw_all := lw_g (lw_at lw_m3 30 rfl) rfl
theorem in_J5 : ∀ w ∈ wsJ50, w ∈ lw_all := lw_in wsJ50 [689, 690, 691, 692, 693, 694, 685, 687] (by decide +kernel) (by decide +kernel)
theorem q202 : (Jvm.Cond.initialized "java/lang/IndexOutOfBoundsException") ∈ lw_all := lw_g (lw_at lw_m1 16 rfl) rfl
theorem q703 : (Jvm.Cond.instanceMethod ({ cls := "java/lang/IndexOutOfBoundsException", name := "<init>", desc := "(Ljava/lang/String;)V" } : Jvm.MethodName)) ∈ lw_all := lw_g (lw_at lw_m3 37 rfl) rfl
theorem q704 : (Jvm.Cond.code ({ cls := "java/lang/IndexOutOfBoundsException", name := "<init>", desc := "(Ljava/lang/String;)V" } : Jvm.MethodName) prog_14_method_2_code (2 : Nat) (Option.none : Option Jvm.ClassFile.FieldType)) ∈ lw_all := lw_g (lw_at lw_m3 38 rfl) rfl
theorem q705 : (Jvm.Cond.methodLink "java/lang/IndexOutOfBoundsException" (7 : Nat) ({ cls := "java/lang/RuntimeException", name := "<init>", desc := "(Ljava/lang/String;)V" } : Jvm.MethodName)) ∈ lw_all := lw_g (lw_at lw_m3 39 rfl) rfl
theorem q714 : (Jvm.Cond.declares ({ cls := "java/lang/IndexOutOfBoundsException", name := "<init>", desc := "()V" } : Jvm.MethodName)) ∈ lw_tbl := lw_at lw_m3 48 rfl
theorem q715 : (Jvm.Cond.declares ({ cls := "java/lang/IndexOutOfBoundsException", name := "<init>", desc := "(Ljava/lang/String;)V" } : Jvm.MethodName)) ∈ lw_tbl := lw_at lw_m3 49 rfl
theorem q203 : (Jvm.Cond.initialized "java/lang/ArrayIndexOutOfBoundsException") ∈ lw_all := lw_g (lw_at lw_m1 17 rfl) rfl
theorem q256 : (Jvm.Cond.selects "java/lang/ArrayIndexOutOfBoundsException" ({ cls := "java/lang/Throwable", name := "fillInStackTrace", desc := "()Ljava/lang/Throwable;" } : Jvm.MethodName) ({ cls := "java/lang/Throwable", name := "fillInStackTrace", desc := "()Ljava/lang/Throwable;" } : Jvm.MethodName)) ∈ lw_all := lw_g (lw_at lw_m1 70 rfl) rfl
theorem q699 : (Jvm.Cond.instantiable "java/lang/ArrayIndexOutOfBoundsException" (6 : Nat)) ∈ lw_all := lw_g (lw_at lw_m3 33 rfl) rfl
theorem q700 : (Jvm.Cond.instanceMethod ({ cls := "java/lang/ArrayIndexOutOfBoundsException", name := "<init>", desc := "(Ljava/lang/String;)V" } : Jvm.MethodName)) ∈ lw_all := lw_g (lw_at lw_m3 34 rfl) rfl
theorem q701 : (Jvm.Cond.code ({ cls := "java/lang/ArrayIndexOutOfBoundsException", name := "<init>", desc := "(Ljava/lang/String;)V" } : Jvm.MethodName) prog_12_method_2_code (2 : Nat) (Option.none : Option Jvm.ClassFile.FieldType)) ∈ lw_all := lw_g (lw_at lw_m3 35 rfl) rfl
theorem q702 : (Jvm.Cond.methodLink "java/lang/ArrayIndexOutOfBoundsException" (7 : Nat) ({ cls := "java/lang/IndexOutOfBoundsException", name := "<init>", desc := "(Ljava/lang/String;)V" } : Jvm.MethodName)) ∈ lw_all := lw_g (lw_at lw_m3 36 rfl) rfl
theorem q706 : (Jvm.Cond.lays "java/lang/ArrayIndexOutOfBoundsException" "java/lang/Throwable" "backtrace" "Ljava/lang/Object;") ∈ lw_all := lw_g (lw_at lw_m3 40 rfl) rfl
theorem q707 : (Jvm.Cond.lays "java/lang/ArrayIndexOutOfBoundsException" "java/lang/Throwable" "detailMessage" "Ljava/lang/String;") ∈ lw_all := lw_g (lw_at lw_m3 41 rfl) rfl
theorem q708 : (Jvm.Cond.lays "java/lang/ArrayIndexOutOfBoundsException" "java/lang/Throwable" "cause" "Ljava/lang/Throwable;") ∈ lw_all := lw_g (lw_at lw_m3 42 rfl) rfl
theorem q709 : (Jvm.Cond.lays "java/lang/ArrayIndexOutOfBoundsException" "java/lang/Throwable" "stackTrace" "[Ljava/lang/StackTraceElement;") ∈ lw_all := lw_g (lw_at lw_m3 43 rfl) rfl
theorem q710 : (Jvm.Cond.lays "java/lang/ArrayIndexOutOfBoundsException" "java/lang/Throwable" "depth" "I") ∈ lw_all := lw_g (lw_at lw_m3 44 rfl) rfl
theorem q711 : (Jvm.Cond.lays "java/lang/ArrayIndexOutOfBoundsException" "java/lang/Throwable" "suppressedExceptions" "Ljava/util/List;") ∈ lw_all := lw_g (lw_at lw_m3 45 rfl) rfl
theorem q712 : (Jvm.Cond.superclass "java/lang/ArrayIndexOutOfBoundsException" "java/lang/IndexOutOfBoundsException") ∈ lw_all := lw_g (lw_at lw_m3 46 rfl) rfl
theorem q713 : (Jvm.Cond.castable "java/lang/ArrayIndexOutOfBoundsException" "java/lang/ArrayIndexOutOfBoundsException") ∈ lw_tbl := lw_at lw_m3 47 rfl
theorem q716 : (Jvm.Cond.selects "java/lang/ArrayIndexOutOfBoundsException" ({ cls := "java/lang/Throwable", name := "fillInStackTrace", desc := "(I)Ljava/lang/Throwable;" } : Jvm.MethodName) ({ cls := "java/lang/Throwable", name := "fillInStackTrace", desc := "(I)Ljava/lang/Throwable;" } : Jvm.MethodName)) ∈ lw_all := lw_g (lw_at lw_m3 50 rfl) rfl
theorem q2439 : (Jvm.Cond.castable "java/lang/ArrayIndexOutOfBoundsException" "java/lang/IndexOutOfBoundsException") ∈ lw_tbl := lw_at lw_m10 93 rfl
theorem in_J7 : ∀ w ∈ wsJ70, w ∈ lw_all := lw_in wsJ70 [706, 707, 708, 709, 710, 711] (by decide +kernel) (by decide +kernel)
theorem q205 : (Jvm.Cond.initialized "java/lang/Math") ∈ lw_all := lw_g (lw_at lw_m1 19 rfl) rfl
theorem q789 : (Jvm.Cond.static ({ cls := "java/lang/Math", name := "min", desc := "(II)I" } : Jvm.MethodName)) ∈ lw_all := lw_g (lw_at lw_m3 123 rfl) rfl
theorem q790 : (Jvm.Cond.code ({ cls := "java/lang/Math", name := "min", desc := "(II)I" } : Jvm.MethodName) prog_16_method_69_code (2 : Nat) (Option.some Jvm.ClassFile.FieldType.int)) ∈ lw_all := lw_g (lw_at lw_m3 124 rfl) rfl
theorem q933 : (Jvm.Cond.static ({ cls := "java/lang/Math", name := "floorMod", desc := "(II)I" } : Jvm.MethodName)) ∈ lw_all := lw_g (lw_at lw_m4 27 rfl) rfl
theorem q934 : (Jvm.Cond.code ({ cls := "java/lang/Math", name := "floorMod", desc := "(II)I" } : Jvm.MethodName) prog_16_method_50_code (3 : Nat) (Option.some Jvm.ClassFile.FieldType.int)) ∈ lw_all := lw_g (lw_at lw_m4 28 rfl) rfl
theorem q2106 : (Jvm.Cond.static ({ cls := "java/lang/Math", name := "abs", desc := "(J)J" } : Jvm.MethodName)) ∈ lw_all := lw_g (lw_at lw_m9 0 rfl) rfl
theorem q2107 : (Jvm.Cond.code ({ cls := "java/lang/Math", name := "abs", desc := "(J)J" } : Jvm.MethodName) prog_16_method_61_code (2 : Nat) (Option.some Jvm.ClassFile.FieldType.long)) ∈ lw_all := lw_g (lw_at lw_m9 1 rfl) rfl
theorem q206 : (Jvm.Cond.initialized "java/lang/StringLatin1") ∈ lw_all := lw_g (lw_at lw_m1 20 rfl) rfl
theorem q814 : (Jvm.Cond.static ({ cls := "java/lang/StringLatin1", name := "charAt", desc := "([BI)C" } : Jvm.MethodName)) ∈ lw_all := lw_g (lw_at lw_m3 148 rfl) rfl
theorem q815 : (Jvm.Cond.code ({ cls := "java/lang/StringLatin1", name := "charAt", desc := "([BI)C" } : Jvm.MethodName) prog_21_method_2_code (2 : Nat) (Option.some Jvm.ClassFile.FieldType.char)) ∈ lw_all := lw_g (lw_at lw_m3 149 rfl) rfl
theorem q816 : (Jvm.Cond.methodLink "java/lang/StringLatin1" (9 : Nat) ({ cls := "java/lang/String", name := "checkIndex", desc := "(II)V" } : Jvm.MethodName)) ∈ lw_all := lw_g (lw_at lw_m3 150 rfl) rfl
theorem q207 : (Jvm.Cond.initialized "jdk/internal/util/Preconditions") ∈ lw_all := lw_g (lw_at lw_m1 21 rfl) rfl
theorem q820 : (Jvm.Cond.laysStatic "jdk/internal/util/Preconditions" "SIOOBE_FORMATTER" "Ljava/util/function/BiFunction;") ∈ lw_tbl := lw_at lw_m3 154 rfl
theorem q822 : (Jvm.Cond.static ({ cls := "jdk/internal/util/Preconditions", name := "checkIndex", desc := "(IILjava/util/function/BiFunction;)I" } : Jvm.MethodName)) ∈ lw_all := lw_g (lw_at lw_m3 156 rfl) rfl
theorem q823 : (Jvm.Cond.code ({ cls := "jdk/internal/util/Preconditions", name := "checkIndex", desc := "(IILjava/util/function/BiFunction;)I" } : Jvm.MethodName) prog_25_method_11_code (3 : Nat) (Option.some Jvm.ClassFile.FieldType.int)) ∈ lw_all := lw_g (lw_at lw_m3 157 rfl) rfl
theorem q208 : (Jvm.Cond.initialized "java/lang/StringUTF16") ∈ lw_all := lw_g (lw_at lw_m1 22 rfl) rfl
theorem q825 : (Jvm.Cond.static ({ cls := "java/lang/StringUTF16", name := "charAt", desc := "([BI)C" } : Jvm.MethodName)) ∈ lw_all := lw_g (lw_at lw_m3 159 rfl) rfl
theorem q826 : (Jvm.Cond.code ({ cls := "java/lang/StringUTF16", name := "charAt", desc := "([BI)C" } : Jvm.MethodName) prog_22_method_83_code (2 : Nat) (Option.some Jvm.ClassFile.FieldType.char)) ∈ lw_all := lw_g (lw_at lw_m3 160 rfl) rfl
theorem q827 : (Jvm.Cond.methodLink "java/lang/StringUTF16" (67 : Nat) ({ cls := "java/lang/StringUTF16", name := "checkIndex", desc := "(I[B)V" } : Jvm.MethodName)) ∈ lw_all := lw_g (lw_at lw_m3 161 rfl) rfl
theorem q828 : (Jvm.Cond.static ({ cls := "java/lang/StringUTF16", name := "checkIndex", desc := "(I[B)V" } : Jvm.MethodName)) ∈ lw_all := lw_g (lw_at lw_m3 162 rfl) rfl
theorem q829 : (Jvm.Cond.code ({ cls := "java/lang/StringUTF16", name := "checkIndex", desc := "(I[B)V" } : Jvm.MethodName) prog_22_method_91_code (2 : Nat) (Option.none : Option Jvm.ClassFile.FieldType)) ∈ lw_all := lw_g (lw_at lw_m3 163 rfl) rfl
theorem q830 : (Jvm.Cond.methodLink "java/lang/StringUTF16" (48 : Nat) ({ cls := "java/lang/StringUTF16", name := "length", desc := "([B)I" } : Jvm.MethodName)) ∈ lw_all := lw_g (lw_at lw_m3 164 rfl) rfl
theorem q831 : (Jvm.Cond.static ({ cls := "java/lang/StringUTF16", name := "length", desc := "([B)I" } : Jvm.MethodName)) ∈ lw_all := lw_g (lw_at lw_m3 165 rfl) rfl
theorem q832 : (Jvm.Cond.code ({ cls := "java/lang/StringUTF16", name := "length", desc := "([B)I" } : Jvm.MethodName) prog_22_method_6_code (1 : Nat) (Option.some Jvm.ClassFile.FieldType.int)) ∈ lw_all := lw_g (lw_at lw_m3 166 rfl) rfl
theorem q833 : (Jvm.Cond.methodLink "java/lang/StringUTF16" (414 : Nat) ({ cls := "java/lang/String", name := "checkIndex", desc := "(II)V" } : Jvm.MethodName)) ∈ lw_all := lw_g (lw_at lw_m3 167 rfl) rfl
theorem q834 : (Jvm.Cond.methodLink "java/lang/StringUTF16" (71 : Nat) ({ cls := "java/lang/StringUTF16", name := "getChar", desc := "([BI)C" } : Jvm.MethodName)) ∈ lw_all := lw_g (lw_at lw_m3 168 rfl) rfl
theorem q835 : (Jvm.Cond.static ({ cls := "java/lang/StringUTF16", name := "getChar", desc := "([BI)C" } : Jvm.MethodName)) ∈ lw_all := lw_g (lw_at lw_m3 169 rfl) rfl
theorem q836 : (Jvm.Cond.code ({ cls := "java/lang/StringUTF16", name := "getChar", desc := "([BI)C" } : Jvm.MethodName) prog_22_method_5_code (2 : Nat) (Option.some Jvm.ClassFile.FieldType.char)) ∈ lw_all := lw_g (lw_at lw_m3 170 rfl) rfl
theorem q837 : (Jvm.Cond.fieldLink "java/lang/StringUTF16" (44 : Nat) "java/lang/StringUTF16" "$assertionsDisabled" "Z") ∈ lw_all := lw_g (lw_at lw_m3 171 rfl) rfl
theorem q838 : (Jvm.Cond.laysStatic "java/lang/StringUTF16" "$assertionsDisabled" "Z") ∈ lw_tbl := lw_at lw_m3 172 rfl
theorem q839 : (Jvm.Cond.fieldLink "java/lang/StringUTF16" (59 : Nat) "java/lang/StringUTF16" "HI_BYTE_SHIFT" "I") ∈ lw_all := lw_g (lw_at lw_m3 173 rfl) rfl
theorem q840 : (Jvm.Cond.laysStatic "java/lang/StringUTF16" "HI_BYTE_SHIFT" "I") ∈ lw_tbl := lw_at lw_m3 174 rfl
theorem q841 : (Jvm.Cond.fieldLink "java/lang/StringUTF16" (63 : Nat) "java/lang/StringUTF16" "LO_BYTE_SHIFT" "I") ∈ lw_all := lw_g (lw_at lw_m3 175 rfl) rfl
theorem q842 : (Jvm.Cond.laysStatic "java/lang/StringUTF16" "LO_BYTE_SHIFT" "I") ∈ lw_tbl := lw_at lw_m3 176 rfl
theorem q210 : (Jvm.Cond.initialized "java/lang/Integer") ∈ lw_all := lw_g (lw_at lw_m1 24 rfl) rfl
theorem q1208 : (Jvm.Cond.static ({ cls := "java/lang/Integer", name := "bitCount", desc := "(I)I" } : Jvm.MethodName)) ∈ lw_all := lw_g (lw_at lw_m5 62 rfl) rfl
theorem q1209 : (Jvm.Cond.code ({ cls := "java/lang/Integer", name := "bitCount", desc := "(I)I" } : Jvm.MethodName) prog_15_method_49_code (1 : Nat) (Option.some Jvm.ClassFile.FieldType.int)) ∈ lw_all := lw_g (lw_at lw_m5 63 rfl) rfl
theorem q1210 : (Jvm.Cond.constant "java/lang/Integer" (265 : Nat) (1431655765 : Int32)) ∈ lw_all := lw_g (lw_at lw_m5 64 rfl) rfl
theorem q1211 : (Jvm.Cond.constant "java/lang/Integer" (266 : Nat) (858993459 : Int32)) ∈ lw_all := lw_g (lw_at lw_m5 65 rfl) rfl
theorem q1212 : (Jvm.Cond.constant "java/lang/Integer" (267 : Nat) (252645135 : Int32)) ∈ lw_all := lw_g (lw_at lw_m5 66 rfl) rfl
theorem q217 : (Jvm.Cond.instanceMethod ({ cls := "java/lang/Object", name := "<init>", desc := "()V" } : Jvm.MethodName)) ∈ lw_all := lw_g (lw_at lw_m1 31 rfl) rfl
theorem q218 : (Jvm.Cond.code ({ cls := "java/lang/Object", name := "<init>", desc := "()V" } : Jvm.MethodName) object_method_1_code (1 : Nat) (Option.none : Option Jvm.ClassFile.FieldType)) ∈ lw_all := lw_g (lw_at lw_m1 32 rfl) rfl
theorem q186 : (Jvm.Cond.initialized "BracketRoomLaw") ∈ lw_all := lw_g (lw_at lw_m1 0 rfl) rfl
theorem q211 : (Jvm.Cond.classLink "BracketRoomLaw" (7 : Nat) "BracketRoom") ∈ lw_all := lw_g (lw_at lw_m1 25 rfl) rfl
theorem q213 : (Jvm.Cond.methodLink "BracketRoomLaw" (9 : Nat) ({ cls := "BracketRoom", name := "<init>", desc := "()V" } : Jvm.MethodName)) ∈ lw_all := lw_g (lw_at lw_m1 27 rfl) rfl
theorem q613 : (Jvm.Cond.methodLink "BracketRoomLaw" (13 : Nat) ({ cls := "BracketRoom", name := "status", desc := "()I" } : Jvm.MethodName)) ∈ lw_all := lw_g (lw_at lw_m2 187 rfl) rfl
theorem q617 : (Jvm.Cond.methodLink "BracketRoomLaw" (18 : Nat) ({ cls := "BracketRoom", name := "top", desc := "()J" } : Jvm.MethodName)) ∈ lw_all := lw_g (lw_at lw_m2 191 rfl) rfl
theorem q621 : (Jvm.Cond.methodLink "BracketRoomLaw" (23 : Nat) ({ cls := "BracketRoom", name := "bottom", desc := "()J" } : Jvm.MethodName)) ∈ lw_all := lw_g (lw_at lw_m2 195 rfl) rfl
theorem q625 : (Jvm.Cond.methodLink "BracketRoomLaw" (27 : Nat) ({ cls := "BracketRoom", name := "tray", desc := "(III)Z" } : Jvm.MethodName)) ∈ lw_all := lw_g (lw_at lw_m2 199 rfl) rfl
theorem q669 : (Jvm.Cond.methodLink "BracketRoomLaw" (34 : Nat) ({ cls := "BracketRoom", name := "write", desc := "(IIJ)Z" } : Jvm.MethodName)) ∈ lw_all := lw_g (lw_at lw_m3 3 rfl) rfl
theorem q725 : (Jvm.Cond.methodLink "BracketRoomLaw" (39 : Nat) ({ cls := "BracketRoom", name := "read", desc := "(II)J" } : Jvm.MethodName)) ∈ lw_all := lw_g (lw_at lw_m3 59 rfl) rfl
theorem q738 : (Jvm.Cond.methodLink "BracketRoomLaw" (44 : Nat) ({ cls := "BracketRoom", name := "pour", desc := "(IIIII)Z" } : Jvm.MethodName)) ∈ lw_all := lw_g (lw_at lw_m3 72 rfl) rfl
theorem q746 : (Jvm.Cond.methodLink "BracketRoomLaw" (49 : Nat) ({ cls := "BracketRoom", name := "feed", desc := "(IIIII)I" } : Jvm.MethodName)) ∈ lw_all := lw_g (lw_at lw_m3 80 rfl) rfl
theorem q754 : (Jvm.Cond.methodLink "BracketRoomLaw" (54 : Nat) ({ cls := "BracketRoom", name := "world", desc := "(I)I" } : Jvm.MethodName)) ∈ lw_all := lw_g (lw_at lw_m3 88 rfl) rfl
theorem q948 : (Jvm.Cond.methodLink "BracketRoomLaw" (59 : Nat) ({ cls := "BracketRoom", name := "script", desc := "(I)I" } : Jvm.MethodName)) ∈ lw_all := lw_g (lw_at lw_m4 42 rfl) rfl
theorem q1011 : (Jvm.Cond.methodLink "BracketRoomLaw" (63 : Nat) ({ cls := "BracketRoom", name := "fault", desc := "(I)I" } : Jvm.MethodName)) ∈ lw_all := lw_g (lw_at lw_m4 105 rfl) rfl
theorem q1015 : (Jvm.Cond.methodLink "BracketRoomLaw" (67 : Nat) ({ cls := "BracketRoom", name := "many", desc := "(I)I" } : Jvm.MethodName)) ∈ lw_all := lw_g (lw_at lw_m4 109 rfl) rfl
theorem q1019 : (Jvm.Cond.methodLink "BracketRoomLaw" (71 : Nat) ({ cls := "BracketRoom", name := "constant", desc := "(III)I" } : Jvm.MethodName)) ∈ lw_all := lw_g (lw_at lw_m4 113 rfl) rfl
theorem q1027 : (Jvm.Cond.methodLink "BracketRoomLaw" (76 : Nat) ({ cls := "BracketRoom", name := "put", desc := "(IIII)Z" } : Jvm.MethodName)) ∈ lw_all := lw_g (lw_at lw_m4 121 rfl) rfl
theorem q1032 : (Jvm.Cond.methodLink "BracketRoomLaw" (81 : Nat) ({ cls := "BracketRoom", name := "bracket", desc := "(II)I" } : Jvm.MethodName)) ∈ lw_all := lw_g (lw_at lw_m4 126 rfl) rfl
theorem q1056 : (Jvm.Cond.methodLink "BracketRoomLaw" (86 : Nat) ({ cls := "BracketRoom", name := "lawful", desc := "()I" } : Jvm.MethodName)) ∈ lw_all := lw_g (lw_at lw_m4 150 rfl) rfl
theorem q1068 : (Jvm.Cond.methodLink "BracketRoomLaw" (90 : Nat) ({ cls := "BracketRoom", name := "failing", desc := "(I)I" } : Jvm.MethodName)) ∈ lw_all := lw_g (lw_at lw_m4 162 rfl) rfl
theorem q1072 : (Jvm.Cond.methodLink "BracketRoomLaw" (94 : Nat) ({ cls := "BracketRoom", name := "keep", desc := "(I)Z" } : Jvm.MethodName)) ∈ lw_all := lw_g (lw_at lw_m4 166 rfl) rfl
theorem q1083 : (Jvm.Cond.methodLink "BracketRoomLaw" (99 : Nat) ({ cls := "BracketRoom", name := "take", desc := "(I)Z" } : Jvm.MethodName)) ∈ lw_all := lw_g (lw_at lw_m4 177 rfl) rfl
theorem q1091 : (Jvm.Cond.methodLink "BracketRoomLaw" (103 : Nat) ({ cls := "BracketRoom", name := "span", desc := "(III)I" } : Jvm.MethodName)) ∈ lw_all := lw_g (lw_at lw_m4 185 rfl) rfl
theorem q1137 : (Jvm.Cond.methodLink "BracketRoomLaw" (107 : Nat) ({ cls := "BracketRoom", name := "derived", desc := "(I)I" } : Jvm.MethodName)) ∈ lw_all := lw_g (lw_at lw_m4 231 rfl) rfl
theorem q1154 : (Jvm.Cond.methodLink "BracketRoomLaw" (111 : Nat) ({ cls := "BracketRoom", name := "lower", desc := "(I)I" } : Jvm.MethodName)) ∈ lw_all := lw_g (lw_at lw_m5 8 rfl) rfl
theorem q1162 : (Jvm.Cond.methodLink "BracketRoomLaw" (115 : Nat) ({ cls := "BracketRoom", name := "centre", desc := "()I" } : Jvm.MethodName)) ∈ lw_all := lw_g (lw_at lw_m5 16 rfl) rfl
theorem q1179 : (Jvm.Cond.methodLink "BracketRoomLaw" (119 : Nat) ({ cls := "BracketRoom", name := "centralizer", desc := "(I)I" } : Jvm.MethodName)) ∈ lw_all := lw_g (lw_at lw_m5 33 rfl) rfl
theorem q1187 : (Jvm.Cond.methodLink "BracketRoomLaw" (140 : Nat) ({ cls := "BracketRoom", name := "rank", desc := "(I)I" } : Jvm.MethodName)) ∈ lw_all := lw_g (lw_at lw_m5 41 rfl) rfl
theorem q1191 : (Jvm.Cond.methodLink "BracketRoomLaw" (144 : Nat) ({ cls := "BracketRoom", name := "power", desc := "(I)I" } : Jvm.MethodName)) ∈ lw_all := lw_g (lw_at lw_m5 45 rfl) rfl
theorem q1195 : (Jvm.Cond.methodLink "BracketRoomLaw" (123 : Nat) ({ cls := "BracketRoom", name := "is", desc := "(I)I" } : Jvm.MethodName)) ∈ lw_all := lw_g (lw_at lw_m5 49 rfl) rfl
theorem q1254 : (Jvm.Cond.methodLink "BracketRoomLaw" (127 : Nat) ({ cls := "BracketRoom", name := "radical", desc := "(I)I" } : Jvm.MethodName)) ∈ lw_all := lw_g (lw_at lw_m5 108 rfl) rfl
theorem q1258 : (Jvm.Cond.methodLink "BracketRoomLaw" (131 : Nat) ({ cls := "BracketRoom", name := "parts", desc := "(II)I" } : Jvm.MethodName)) ∈ lw_all := lw_g (lw_at lw_m5 112 rfl) rfl
theorem q1262 : (Jvm.Cond.methodLink "BracketRoomLaw" (135 : Nat) ({ cls := "BracketRoom", name := "share", desc := "()Z" } : Jvm.MethodName)) ∈ lw_all := lw_g (lw_at lw_m5 116 rfl) rfl
theorem q1270 : (Jvm.Cond.methodLink "BracketRoomLaw" (148 : Nat) ({ cls := "BracketRoom", name := "derivations", desc := "(I)I" } : Jvm.MethodName)) ∈ lw_all := lw_g (lw_at lw_m5 124 rfl) rfl
theorem q1278 : (Jvm.Cond.methodLink "BracketRoomLaw" (152 : Nat) ({ cls := "BracketRoom", name := "form", desc := "()I" } : Jvm.MethodName)) ∈ lw_all := lw_g (lw_at lw_m5 132 rfl) rfl
theorem q1286 : (Jvm.Cond.methodLink "BracketRoomLaw" (156 : Nat) ({ cls := "BracketRoom", name := "classes", desc := "(I)I" } : Jvm.MethodName)) ∈ lw_all := lw_g (lw_at lw_m5 140 rfl) rfl
theorem q1304 : (Jvm.Cond.methodLink "BracketRoomLaw" (160 : Nat) ({ cls := "BracketRoom", name := "commuting", desc := "()I" } : Jvm.MethodName)) ∈ lw_all := lw_g (lw_at lw_m5 158 rfl) rfl
theorem q1312 : (Jvm.Cond.methodLink "BracketRoomLaw" (164 : Nat) ({ cls := "BracketRoom", name := "maps", desc := "()I" } : Jvm.MethodName)) ∈ lw_all := lw_g (lw_at lw_m5 166 rfl) rfl
theorem q1333 : (Jvm.Cond.methodLink "BracketRoomLaw" (168 : Nat) ({ cls := "BracketRoom", name := "sameAs", desc := "(I)I" } : Jvm.MethodName)) ∈ lw_all := lw_g (lw_at lw_m5 187 rfl) rfl
theorem q1341 : (Jvm.Cond.methodLink "BracketRoomLaw" (172 : Nat) ({ cls := "BracketRoom", name := "tries", desc := "()I" } : Jvm.MethodName)) ∈ lw_all := lw_g (lw_at lw_m5 195 rfl) rfl
theorem q1345 : (Jvm.Cond.methodLink "BracketRoomLaw" (176 : Nat) ({ cls := "BracketRoom", name := "parted", desc := "(I)I" } : Jvm.MethodName)) ∈ lw_all := lw_g (lw_at lw_m5 199 rfl) rfl
theorem q1353 : (Jvm.Cond.methodLink "BracketRoomLaw" (180 : Nat) ({ cls := "BracketRoom", name := "change", desc := "(I)Z" } : Jvm.MethodName)) ∈ lw_all := lw_g (lw_at lw_m5 207 rfl) rfl
theorem q1374 : (Jvm.Cond.methodLink "BracketRoomLaw" (184 : Nat) ({ cls := "BracketRoom", name := "squeeze", desc := "(I)Z" } : Jvm.MethodName)) ∈ lw_all := lw_g (lw_at lw_m5 228 rfl) rfl
theorem q1378 : (Jvm.Cond.methodLink "BracketRoomLaw" (188 : Nat) ({ cls := "BracketRoom", name := "barred", desc := "(I)I" } : Jvm.MethodName)) ∈ lw_all := lw_g (lw_at lw_m5 232 rfl) rfl
theorem q1382 : (Jvm.Cond.methodLink "BracketRoomLaw" (192 : Nat) ({ cls := "BracketRoom", name := "cocycle", desc := "(I)I" } : Jvm.MethodName)) ∈ lw_all := lw_g (lw_at lw_m5 236 rfl) rfl
theorem q1398 : (Jvm.Cond.methodLink "BracketRoomLaw" (196 : Nat) ({ cls := "BracketRoom", name := "grow", desc := "(I)I" } : Jvm.MethodName)) ∈ lw_all := lw_g (lw_at lw_m6 12 rfl) rfl
theorem q1403 : (Jvm.Cond.methodLink "BracketRoomLaw" (200 : Nat) ({ cls := "BracketRoom", name := "sum", desc := "(I)I" } : Jvm.MethodName)) ∈ lw_all := lw_g (lw_at lw_m6 17 rfl) rfl
theorem q1415 : (Jvm.Cond.methodLink "BracketRoomLaw" (204 : Nat) ({ cls := "BracketRoom", name := "rest", desc := "(II)I" } : Jvm.MethodName)) ∈ lw_all := lw_g (lw_at lw_m6 29 rfl) rfl
theorem q1424 : (Jvm.Cond.methodLink "BracketRoomLaw" (208 : Nat) ({ cls := "BracketRoom", name := "takeOut", desc := "(II)I" } : Jvm.MethodName)) ∈ lw_all := lw_g (lw_at lw_m6 38 rfl) rfl
theorem q1428 : (Jvm.Cond.methodLink "BracketRoomLaw" (212 : Nat) ({ cls := "BracketRoom", name := "tables", desc := "(III)I" } : Jvm.MethodName)) ∈ lw_all := lw_g (lw_at lw_m6 42 rfl) rfl
theorem q1434 : (Jvm.Cond.methodLink "BracketRoomLaw" (216 : Nat) ({ cls := "BracketRoom", name := "run", desc := "()I" } : Jvm.MethodName)) ∈ lw_all := lw_g (lw_at lw_m6 48 rfl) rfl
theorem q1454 : (Jvm.Cond.methodLink "BracketRoomLaw" (220 : Nat) ({ cls := "BracketRoom", name := "ran", desc := "(I)I" } : Jvm.MethodName)) ∈ lw_all := lw_g (lw_at lw_m6 68 rfl) rfl
theorem q1458 : (Jvm.Cond.methodLink "BracketRoomLaw" (224 : Nat) ({ cls := "BracketRoom", name := "mark", desc := "()I" } : Jvm.MethodName)) ∈ lw_all := lw_g (lw_at lw_m6 72 rfl) rfl
theorem q1462 : (Jvm.Cond.methodLink "BracketRoomLaw" (228 : Nat) ({ cls := "BracketRoom", name := "back", desc := "()I" } : Jvm.MethodName)) ∈ lw_all := lw_g (lw_at lw_m6 76 rfl) rfl
theorem q1466 : (Jvm.Cond.classLink "BracketRoomLaw" (10 : Nat) "BracketRoomModel") ∈ lw_all := lw_g (lw_at lw_m6 80 rfl) rfl
theorem q1468 : (Jvm.Cond.methodLink "BracketRoomLaw" (12 : Nat) ({ cls := "BracketRoomModel", name := "<init>", desc := "()V" } : Jvm.MethodName)) ∈ lw_all := lw_g (lw_at lw_m6 82 rfl) rfl
theorem q1686 : (Jvm.Cond.methodLink "BracketRoomLaw" (17 : Nat) ({ cls := "BracketRoomModel", name := "status", desc := "()I" } : Jvm.MethodName)) ∈ lw_all := lw_g (lw_at lw_m7 60 rfl) rfl
theorem q1690 : (Jvm.Cond.methodLink "BracketRoomLaw" (22 : Nat) ({ cls := "BracketRoomModel", name := "top", desc := "()J" } : Jvm.MethodName)) ∈ lw_all := lw_g (lw_at lw_m7 64 rfl) rfl
theorem q1694 : (Jvm.Cond.methodLink "BracketRoomLaw" (26 : Nat) ({ cls := "BracketRoomModel", name := "bottom", desc := "()J" } : Jvm.MethodName)) ∈ lw_all := lw_g (lw_at lw_m7 68 rfl) rfl
theorem q1698 : (Jvm.Cond.methodLink "BracketRoomLaw" (31 : Nat) ({ cls := "BracketRoomModel", name := "tray", desc := "(III)Z" } : Jvm.MethodName)) ∈ lw_all := lw_g (lw_at lw_m7 72 rfl) rfl
theorem q1706 : (Jvm.Cond.methodLink "BracketRoomLaw" (38 : Nat) ({ cls := "BracketRoomModel", name := "write", desc := "(IIJ)Z" } : Jvm.MethodName)) ∈ lw_all := lw_g (lw_at lw_m7 80 rfl) rfl
theorem q1721 : (Jvm.Cond.methodLink "BracketRoomLaw" (43 : Nat) ({ cls := "BracketRoomModel", name := "read", desc := "(II)J" } : Jvm.MethodName)) ∈ lw_all := lw_g (lw_at lw_m7 95 rfl) rfl
theorem q1726 : (Jvm.Cond.methodLink "BracketRoomLaw" (48 : Nat) ({ cls := "BracketRoomModel", name := "pour", desc := "(IIIII)Z" } : Jvm.MethodName)) ∈ lw_all := lw_g (lw_at lw_m7 100 rfl) rfl
theorem q1730 : (Jvm.Cond.methodLink "BracketRoomLaw" (53 : Nat) ({ cls := "BracketRoomModel", name := "feed", desc := "(IIIII)I" } : Jvm.MethodName)) ∈ lw_all := lw_g (lw_at lw_m7 104 rfl) rfl
theorem q1738 : (Jvm.Cond.methodLink "BracketRoomLaw" (66 : Nat) ({ cls := "BracketRoomModel", name := "fault", desc := "(I)I" } : Jvm.MethodName)) ∈ lw_all := lw_g (lw_at lw_m7 112 rfl) rfl
theorem q1742 : (Jvm.Cond.methodLink "BracketRoomLaw" (58 : Nat) ({ cls := "BracketRoomModel", name := "world", desc := "(I)I" } : Jvm.MethodName)) ∈ lw_all := lw_g (lw_at lw_m7 116 rfl) rfl
theorem q1858 : (Jvm.Cond.methodLink "BracketRoomLaw" (70 : Nat) ({ cls := "BracketRoomModel", name := "many", desc := "(I)I" } : Jvm.MethodName)) ∈ lw_all := lw_g (lw_at lw_m7 232 rfl) rfl
theorem q1879 : (Jvm.Cond.methodLink "BracketRoomLaw" (75 : Nat) ({ cls := "BracketRoomModel", name := "constant", desc := "(III)I" } : Jvm.MethodName)) ∈ lw_all := lw_g (lw_at lw_m8 13 rfl) rfl
theorem q1887 : (Jvm.Cond.methodLink "BracketRoomLaw" (80 : Nat) ({ cls := "BracketRoomModel", name := "put", desc := "(IIII)Z" } : Jvm.MethodName)) ∈ lw_all := lw_g (lw_at lw_m8 21 rfl) rfl
theorem q1891 : (Jvm.Cond.methodLink "BracketRoomLaw" (85 : Nat) ({ cls := "BracketRoomModel", name := "bracket", desc := "(II)I" } : Jvm.MethodName)) ∈ lw_all := lw_g (lw_at lw_m8 25 rfl) rfl
theorem q1919 : (Jvm.Cond.methodLink "BracketRoomLaw" (89 : Nat) ({ cls := "BracketRoomModel", name := "lawful", desc := "()I" } : Jvm.MethodName)) ∈ lw_all := lw_g (lw_at lw_m8 53 rfl) rfl
theorem q1943 : (Jvm.Cond.methodLink "BracketRoomLaw" (93 : Nat) ({ cls := "BracketRoomModel", name := "failing", desc := "(I)I" } : Jvm.MethodName)) ∈ lw_all := lw_g (lw_at lw_m8 77 rfl) rfl
theorem q1948 : (Jvm.Cond.methodLink "BracketRoomLaw" (98 : Nat) ({ cls := "BracketRoomModel", name := "keep", desc := "(I)Z" } : Jvm.MethodName)) ∈ lw_all := lw_g (lw_at lw_m8 82 rfl) rfl
theorem q1955 : (Jvm.Cond.methodLink "BracketRoomLaw" (102 : Nat) ({ cls := "BracketRoomModel", name := "take", desc := "(I)Z" } : Jvm.MethodName)) ∈ lw_all := lw_g (lw_at lw_m8 89 rfl) rfl
theorem q1963 : (Jvm.Cond.methodLink "BracketRoomLaw" (106 : Nat) ({ cls := "BracketRoomModel", name := "span", desc := "(III)I" } : Jvm.MethodName)) ∈ lw_all := lw_g (lw_at lw_m8 97 rfl) rfl
theorem q2004 : (Jvm.Cond.methodLink "BracketRoomLaw" (110 : Nat) ({ cls := "BracketRoomModel", name := "derived", desc := "(I)I" } : Jvm.MethodName)) ∈ lw_all := lw_g (lw_at lw_m8 138 rfl) rfl
theorem q2017 : (Jvm.Cond.methodLink "BracketRoomLaw" (114 : Nat) ({ cls := "BracketRoomModel", name := "lower", desc := "(I)I" } : Jvm.MethodName)) ∈ lw_all := lw_g (lw_at lw_m8 151 rfl) rfl
theorem q2021 : (Jvm.Cond.methodLink "BracketRoomLaw" (118 : Nat) ({ cls := "BracketRoomModel", name := "centre", desc := "()I" } : Jvm.MethodName)) ∈ lw_all := lw_g (lw_at lw_m8 155 rfl) rfl
theorem q2041 : (Jvm.Cond.methodLink "BracketRoomLaw" (122 : Nat) ({ cls := "BracketRoomModel", name := "centralizer", desc := "(I)I" } : Jvm.MethodName)) ∈ lw_all := lw_g (lw_at lw_m8 175 rfl) rfl
theorem q2049 : (Jvm.Cond.methodLink "BracketRoomLaw" (143 : Nat) ({ cls := "BracketRoomModel", name := "rank", desc := "(I)I" } : Jvm.MethodName)) ∈ lw_all := lw_g (lw_at lw_m8 183 rfl) rfl
theorem q2053 : (Jvm.Cond.methodLink "BracketRoomLaw" (134 : Nat) ({ cls := "BracketRoomModel", name := "parts", desc := "(II)I" } : Jvm.MethodName)) ∈ lw_all := lw_g (lw_at lw_m8 187 rfl) rfl
theorem q2097 : (Jvm.Cond.methodLink "BracketRoomLaw" (139 : Nat) ({ cls := "BracketRoomModel", name := "share", desc := "()Z" } : Jvm.MethodName)) ∈ lw_all := lw_g (lw_at lw_m8 231 rfl) rfl
theorem q2108 : (Jvm.Cond.methodLink "BracketRoomLaw" (126 : Nat) ({ cls := "BracketRoomModel", name := "is", desc := "(I)I" } : Jvm.MethodName)) ∈ lw_all := lw_g (lw_at lw_m9 2 rfl) rfl
theorem q2129 : (Jvm.Cond.methodLink "BracketRoomLaw" (130 : Nat) ({ cls := "BracketRoomModel", name := "radical", desc := "(I)I" } : Jvm.MethodName)) ∈ lw_all := lw_g (lw_at lw_m9 23 rfl) rfl
theorem q2133 : (Jvm.Cond.methodLink "BracketRoomLaw" (147 : Nat) ({ cls := "BracketRoomModel", name := "power", desc := "(I)I" } : Jvm.MethodName)) ∈ lw_all := lw_g (lw_at lw_m9 27 rfl) rfl
theorem q2149 : (Jvm.Cond.methodLink "BracketRoomLaw" (151 : Nat) ({ cls := "BracketRoomModel", name := "derivations", desc := "(I)I" } : Jvm.MethodName)) ∈ lw_all := lw_g (lw_at lw_m9 43 rfl) rfl
theorem q2157 : (Jvm.Cond.methodLink "BracketRoomLaw" (155 : Nat) ({ cls := "BracketRoomModel", name := "form", desc := "()I" } : Jvm.MethodName)) ∈ lw_all := lw_g (lw_at lw_m9 51 rfl) rfl
theorem q2165 : (Jvm.Cond.methodLink "BracketRoomLaw" (159 : Nat) ({ cls := "BracketRoomModel", name := "classes", desc := "(I)I" } : Jvm.MethodName)) ∈ lw_all := lw_g (lw_at lw_m9 59 rfl) rfl
theorem q2192 : (Jvm.Cond.methodLink "BracketRoomLaw" (163 : Nat) ({ cls := "BracketRoomModel", name := "commuting", desc := "()I" } : Jvm.MethodName)) ∈ lw_all := lw_g (lw_at lw_m9 86 rfl) rfl
theorem q2200 : (Jvm.Cond.methodLink "BracketRoomLaw" (167 : Nat) ({ cls := "BracketRoomModel", name := "maps", desc := "()I" } : Jvm.MethodName)) ∈ lw_all := lw_g (lw_at lw_m9 94 rfl) rfl
theorem q2221 : (Jvm.Cond.methodLink "BracketRoomLaw" (171 : Nat) ({ cls := "BracketRoomModel", name := "sameAs", desc := "(I)I" } : Jvm.MethodName)) ∈ lw_all := lw_g (lw_at lw_m9 115 rfl) rfl
theorem q2233 : (Jvm.Cond.methodLink "BracketRoomLaw" (175 : Nat) ({ cls := "BracketRoomModel", name := "tries", desc := "()I" } : Jvm.MethodName)) ∈ lw_all := lw_g (lw_at lw_m9 127 rfl) rfl
theorem q2237 : (Jvm.Cond.methodLink "BracketRoomLaw" (179 : Nat) ({ cls := "BracketRoomModel", name := "parted", desc := "(I)I" } : Jvm.MethodName)) ∈ lw_all := lw_g (lw_at lw_m9 131 rfl) rfl
theorem q2245 : (Jvm.Cond.methodLink "BracketRoomLaw" (183 : Nat) ({ cls := "BracketRoomModel", name := "change", desc := "(I)Z" } : Jvm.MethodName)) ∈ lw_all := lw_g (lw_at lw_m9 139 rfl) rfl
theorem q2265 : (Jvm.Cond.methodLink "BracketRoomLaw" (187 : Nat) ({ cls := "BracketRoomModel", name := "squeeze", desc := "(I)Z" } : Jvm.MethodName)) ∈ lw_all := lw_g (lw_at lw_m9 159 rfl) rfl
theorem q2270 : (Jvm.Cond.methodLink "BracketRoomLaw" (191 : Nat) ({ cls := "BracketRoomModel", name := "barred", desc := "(I)I" } : Jvm.MethodName)) ∈ lw_all := lw_g (lw_at lw_m9 164 rfl) rfl
theorem q2274 : (Jvm.Cond.methodLink "BracketRoomLaw" (195 : Nat) ({ cls := "BracketRoomModel", name := "cocycle", desc := "(I)I" } : Jvm.MethodName)) ∈ lw_all := lw_g (lw_at lw_m9 168 rfl) rfl
theorem q2302 : (Jvm.Cond.methodLink "BracketRoomLaw" (199 : Nat) ({ cls := "BracketRoomModel", name := "grow", desc := "(I)I" } : Jvm.MethodName)) ∈ lw_all := lw_g (lw_at lw_m9 196 rfl) rfl
theorem q2306 : (Jvm.Cond.methodLink "BracketRoomLaw" (203 : Nat) ({ cls := "BracketRoomModel", name := "sum", desc := "(I)I" } : Jvm.MethodName)) ∈ lw_all := lw_g (lw_at lw_m9 200 rfl) rfl
theorem q2314 : (Jvm.Cond.methodLink "BracketRoomLaw" (207 : Nat) ({ cls := "BracketRoomModel", name := "rest", desc := "(II)I" } : Jvm.MethodName)) ∈ lw_all := lw_g (lw_at lw_m9 208 rfl) rfl
theorem q2322 : (Jvm.Cond.methodLink "BracketRoomLaw" (211 : Nat) ({ cls := "BracketRoomModel", name := "takeOut", desc := "(II)I" } : Jvm.MethodName)) ∈ lw_all := lw_g (lw_at lw_m9 216 rfl) rfl
theorem q2326 : (Jvm.Cond.methodLink "BracketRoomLaw" (215 : Nat) ({ cls := "BracketRoomModel", name := "tables", desc := "(III)I" } : Jvm.MethodName)) ∈ lw_all := lw_g (lw_at lw_m9 220 rfl) rfl
theorem q2346 : (Jvm.Cond.methodLink "BracketRoomLaw" (62 : Nat) ({ cls := "BracketRoomModel", name := "script", desc := "(I)I" } : Jvm.MethodName)) ∈ lw_all := lw_g (lw_at lw_m10 0 rfl) rfl
theorem q2386 : (Jvm.Cond.methodLink "BracketRoomLaw" (219 : Nat) ({ cls := "BracketRoomModel", name := "run", desc := "()I" } : Jvm.MethodName)) ∈ lw_all := lw_g (lw_at lw_m10 40 rfl) rfl
theorem q2414 : (Jvm.Cond.methodLink "BracketRoomLaw" (223 : Nat) ({ cls := "BracketRoomModel", name := "ran", desc := "(I)I" } : Jvm.MethodName)) ∈ lw_all := lw_g (lw_at lw_m10 68 rfl) rfl
theorem q2418 : (Jvm.Cond.methodLink "BracketRoomLaw" (227 : Nat) ({ cls := "BracketRoomModel", name := "mark", desc := "()I" } : Jvm.MethodName)) ∈ lw_all := lw_g (lw_at lw_m10 72 rfl) rfl
theorem q2426 : (Jvm.Cond.methodLink "BracketRoomLaw" (231 : Nat) ({ cls := "BracketRoomModel", name := "back", desc := "()I" } : Jvm.MethodName)) ∈ lw_all := lw_g (lw_at lw_m10 80 rfl) rfl
theorem q2430 : (Jvm.Cond.constantLong "BracketRoomLaw" (32 : Nat) (4294967295 : Int64)) ∈ lw_all := lw_g (lw_at lw_m10 84 rfl) rfl
theorem q204 : (Jvm.Cond.initialized "java/lang/System") ∈ lw_all := lw_g (lw_at lw_m1 18 rfl) rfl
theorem q744 : (Jvm.Cond.static ({ cls := "java/lang/System", name := "arraycopy", desc := "(Ljava/lang/Object;ILjava/lang/Object;II)V" } : Jvm.MethodName)) ∈ lw_all := lw_g (lw_at lw_m3 78 rfl) rfl
theorem q745 : (Jvm.Cond.native ({ cls := "java/lang/System", name := "arraycopy", desc := "(Ljava/lang/Object;ILjava/lang/Object;II)V" } : Jvm.MethodName)) ∈ lw_all := lw_g (lw_at lw_m3 79 rfl) rfl
theorem q220 : (Jvm.Cond.arrayOver (Jvm.ClassFile.FieldType.object "BracketRoom$Tray")) ∈ lw_tbl := lw_at lw_m1 34 rfl
theorem q374 : (Jvm.Cond.arrayClass Jvm.ClassFile.FieldType.byte) ∈ lw_all := lw_g (lw_at lw_m1 188 rfl) rfl
theorem q375 : (Jvm.Cond.arrayClass Jvm.ClassFile.FieldType.int) ∈ lw_all := lw_g (lw_at lw_m1 189 rfl) rfl
theorem q383 : (Jvm.Cond.arrayOver (Jvm.ClassFile.FieldType.array (Jvm.ClassFile.FieldType.array Jvm.ClassFile.FieldType.int))) ∈ lw_tbl := lw_at lw_m1 197 rfl
theorem q384 : (Jvm.Cond.arrayOver (Jvm.ClassFile.FieldType.array Jvm.ClassFile.FieldType.int)) ∈ lw_tbl := lw_at lw_m1 198 rfl
theorem q402 : (Jvm.Cond.arrayOver (Jvm.ClassFile.FieldType.object "BracketRoom$World")) ∈ lw_tbl := lw_at lw_m1 216 rfl
theorem q423 : (Jvm.Cond.arrayClass Jvm.ClassFile.FieldType.boolean) ∈ lw_all := lw_g (lw_at lw_m1 237 rfl) rfl
theorem q425 : (Jvm.Cond.arrayOver (Jvm.ClassFile.FieldType.object "BracketRoom$Span")) ∈ lw_tbl := lw_at lw_m1 239 rfl
theorem q427 : (Jvm.Cond.arrayOver (Jvm.ClassFile.FieldType.object "BracketRoom$Kept")) ∈ lw_tbl := lw_at lw_m2 1 rfl
theorem q667 : (Jvm.Cond.arrayClass Jvm.ClassFile.FieldType.short) ∈ lw_all := lw_g (lw_at lw_m3 1 rfl) rfl
theorem q668 : (Jvm.Cond.arrayClass Jvm.ClassFile.FieldType.long) ∈ lw_all := lw_g (lw_at lw_m3 2 rfl) rfl
theorem q957 : (Jvm.Cond.arrayOver (Jvm.ClassFile.FieldType.object "BracketRoom$Step")) ∈ lw_tbl := lw_at lw_m4 51 rfl
