/-! NAMES, by program (wip/gen/tabok.py) out of claim/names: the fields of the kinds, the methods, the words used -/
set_option maxRecDepth 100000
def T_0 : u_T := fun k => match k with
  | 0 => ("Leafcredit", "accounts", "Ljava/util/List;", true)
  | 1 => ("Leafcredit", "pieces", "Ljava/util/TreeMap;", true)
  | 2 => ("Leafcredit", "journal", "Ljava/util/List;", true)
  | 3 => ("Leafcredit", "bids", "Ljava/util/PriorityQueue;", true)
  | 4 => ("Leafcredit", "transfers", "Ljava/util/List;", true)
  | 5 => ("Leafcredit", "projects", "Ljava/util/List;", true)
  | 6 => ("Leafcredit", "goods", "Ljava/util/List;", true)
  | 7 => ("Leafcredit", "day", "I", false)
  | 8 => ("Leafcredit", "made", "I", false)
  | 9 => ("Leafcredit", "offsets", "I", false)
  | 10 => ("Leafcredit", "cancelled", "I", false)
  | 11 => ("Leafcredit", "surrendered", "[I", true)
  | 12 => ("Leafcredit", "capFirst", "I", false)
  | 13 => ("Leafcredit", "capLess", "I", false)
  | 14 => ("Leafcredit", "lower", "I", false)
  | 15 => ("Leafcredit", "upper", "I", false)
  | 16 => ("Leafcredit", "out", "I", false)
  | 17 => ("Leafcredit", "volume", "I", false)
  | 18 => ("Leafcredit", "reserve", "I", false)
  | 19 => ("Leafcredit", "price", "I", false)
  | _ => ("Leafcredit", "bidNumber", "I", false)
def ty_0 : Nat → FieldType := fun k => match k with
  | 0 => .object "java/util/List"
  | 1 => .object "java/util/TreeMap"
  | 2 => .object "java/util/List"
  | 3 => .object "java/util/PriorityQueue"
  | 4 => .object "java/util/List"
  | 5 => .object "java/util/List"
  | 6 => .object "java/util/List"
  | 7 => .int
  | 8 => .int
  | 9 => .int
  | 10 => .int
  | 11 => .array (.int)
  | 12 => .int
  | 13 => .int
  | 14 => .int
  | 15 => .int
  | 16 => .int
  | 17 => .int
  | 18 => .int
  | 19 => .int
  | _ => .int
def T_1 : u_T := fun k => match k with
  | _ => ("", "", "", false)
def ty_1 : Nat → FieldType := fun k => match k with
  | _ => .int
def T_2 : u_T := fun k => match k with
  | 0 => ("Leafcredit$Account", "number", "I", true)
  | 1 => ("Leafcredit$Account", "cash", "J", false)
  | 2 => ("Leafcredit$Account", "plant", "LLeafcredit$Plant;", false)
  | 3 => ("Leafcredit$Account", "imported", "LLeafcredit$Sum;", true)
  | 4 => ("Leafcredit$Account", "reversed", "LLeafcredit$Sum;", true)
  | 5 => ("Leafcredit$Account", "carried", "LLeafcredit$Sum;", true)
  | 6 => ("Leafcredit$Account", "years", "Ljava/util/TreeMap;", true)
  | 7 => ("Leafcredit$Account", "free", "I", false)
  | _ => ("Leafcredit$Account", "trusted", "I", false)
def ty_2 : Nat → FieldType := fun k => match k with
  | 0 => .int
  | 1 => .long
  | 2 => .object "Leafcredit$Plant"
  | 3 => .object "Leafcredit$Sum"
  | 4 => .object "Leafcredit$Sum"
  | 5 => .object "Leafcredit$Sum"
  | 6 => .object "java/util/TreeMap"
  | 7 => .int
  | _ => .int
def T_3 : u_T := fun k => match k with
  | _ => ("Leafcredit$Sum", "sum", "J", false)
def ty_3 : Nat → FieldType := fun k => match k with
  | _ => .long
def T_4 : u_T := fun k => match k with
  | 0 => ("LeafcreditModel", "accounts", "Ljava/util/ArrayList;", true)
  | 1 => ("LeafcreditModel", "rows", "Ljava/util/ArrayList;", true)
  | 2 => ("LeafcreditModel", "bids", "Ljava/util/ArrayList;", true)
  | 3 => ("LeafcreditModel", "transfers", "Ljava/util/ArrayList;", true)
  | 4 => ("LeafcreditModel", "projects", "Ljava/util/ArrayList;", true)
  | 5 => ("LeafcreditModel", "goods", "Ljava/util/ArrayList;", true)
  | 6 => ("LeafcreditModel", "thrown", "I", false)
  | 7 => ("LeafcreditModel", "day", "I", false)
  | 8 => ("LeafcreditModel", "first", "I", false)
  | 9 => ("LeafcreditModel", "less", "I", false)
  | 10 => ("LeafcreditModel", "lower", "I", false)
  | 11 => ("LeafcreditModel", "upper", "I", false)
  | 12 => ("LeafcreditModel", "out", "I", false)
  | 13 => ("LeafcreditModel", "volume", "I", false)
  | 14 => ("LeafcreditModel", "reserve", "I", false)
  | 15 => ("LeafcreditModel", "price", "I", false)
  | 16 => ("LeafcreditModel", "made", "I", false)
  | 17 => ("LeafcreditModel", "cancelled", "I", false)
  | 18 => ("LeafcreditModel", "entries", "I", false)
  | 19 => ("LeafcreditModel", "allowancesUsed", "I", false)
  | 20 => ("LeafcreditModel", "offsetsUsed", "I", false)
  | 21 => ("LeafcreditModel", "offsetsMade", "I", false)
  | _ => ("LeafcreditModel", "hasCap", "Z", false)
def ty_4 : Nat → FieldType := fun k => match k with
  | 0 => .object "java/util/ArrayList"
  | 1 => .object "java/util/ArrayList"
  | 2 => .object "java/util/ArrayList"
  | 3 => .object "java/util/ArrayList"
  | 4 => .object "java/util/ArrayList"
  | 5 => .object "java/util/ArrayList"
  | 6 => .int
  | 7 => .int
  | 8 => .int
  | 9 => .int
  | 10 => .int
  | 11 => .int
  | 12 => .int
  | 13 => .int
  | 14 => .int
  | 15 => .int
  | 16 => .int
  | 17 => .int
  | 18 => .int
  | 19 => .int
  | 20 => .int
  | 21 => .int
  | _ => .boolean
def T_5 : u_T := fun k => match k with
  | 0 => ("LeafcreditModel$Account", "cash", "J", false)
  | 1 => ("LeafcreditModel$Account", "isPlant", "Z", false)
  | 2 => ("LeafcreditModel$Account", "benchmark", "I", false)
  | 3 => ("LeafcreditModel$Account", "uncertainty", "I", false)
  | 4 => ("LeafcreditModel$Account", "reported", "J", false)
  | 5 => ("LeafcreditModel$Account", "greatest", "J", false)
  | 6 => ("LeafcreditModel$Account", "reports", "I", false)
  | 7 => ("LeafcreditModel$Account", "reportedOn", "I", false)
  | 8 => ("LeafcreditModel$Account", "used", "I", false)
  | 9 => ("LeafcreditModel$Account", "share", "I", false)
  | 10 => ("LeafcreditModel$Account", "imported", "J", false)
  | 11 => ("LeafcreditModel$Account", "reversed", "J", false)
  | 12 => ("LeafcreditModel$Account", "carried", "J", false)
  | 13 => ("LeafcreditModel$Account", "activities", "[I", true)
  | 14 => ("LeafcreditModel$Account", "emissions", "[J", true)
  | 15 => ("LeafcreditModel$Account", "all", "[J", true)
  | 16 => ("LeafcreditModel$Account", "left", "[J", true)
  | 17 => ("LeafcreditModel$Account", "offsets", "[J", true)
  | _ => ("LeafcreditModel$Account", "trusts", "[Z", true)
def ty_5 : Nat → FieldType := fun k => match k with
  | 0 => .long
  | 1 => .boolean
  | 2 => .int
  | 3 => .int
  | 4 => .long
  | 5 => .long
  | 6 => .int
  | 7 => .int
  | 8 => .int
  | 9 => .int
  | 10 => .long
  | 11 => .long
  | 12 => .long
  | 13 => .array (.int)
  | 14 => .array (.long)
  | 15 => .array (.long)
  | 16 => .array (.long)
  | 17 => .array (.long)
  | _ => .array (.boolean)
def T_6 : u_T := fun k => match k with
  | 0 => ("Leafcredit$Plant", "benchmark", "I", false)
  | 1 => ("Leafcredit$Plant", "uncertainty", "I", false)
  | 2 => ("Leafcredit$Plant", "emissions", "Ljava/util/TreeMap;", true)
  | 3 => ("Leafcredit$Plant", "activities", "Ljava/util/TreeMap;", true)
  | 4 => ("Leafcredit$Plant", "used", "I", false)
  | 5 => ("Leafcredit$Plant", "sum", "J", false)
  | 6 => ("Leafcredit$Plant", "greatest", "J", false)
  | 7 => ("Leafcredit$Plant", "reports", "I", false)
  | _ => ("Leafcredit$Plant", "lastReport", "I", false)
def ty_6 : Nat → FieldType := fun k => match k with
  | 0 => .int
  | 1 => .int
  | 2 => .object "java/util/TreeMap"
  | 3 => .object "java/util/TreeMap"
  | 4 => .int
  | 5 => .long
  | 6 => .long
  | 7 => .int
  | _ => .int
def T_7 : u_T := fun k => match k with
  | 0 => ("Leafcredit$Piece", "first", "I", true)
  | 1 => ("Leafcredit$Piece", "last", "I", false)
  | 2 => ("Leafcredit$Piece", "kind", "C", true)
  | 3 => ("Leafcredit$Piece", "vintage", "I", true)
  | 4 => ("Leafcredit$Piece", "project", "I", true)
  | 5 => ("Leafcredit$Piece", "holder", "I", false)
  | 6 => ("Leafcredit$Piece", "lock", "I", false)
  | 7 => ("Leafcredit$Piece", "isFrozen", "Z", false)
  | _ => ("Leafcredit$Piece", "moves", "I", false)
def ty_7 : Nat → FieldType := fun k => match k with
  | 0 => .int
  | 1 => .int
  | 2 => .char
  | 3 => .int
  | 4 => .int
  | 5 => .int
  | 6 => .int
  | 7 => .boolean
  | _ => .int
def T_8 : u_T := fun k => match k with
  | 0 => ("Leafcredit$Entry", "first", "I", true)
  | 1 => ("Leafcredit$Entry", "last", "I", true)
  | _ => ("Leafcredit$Entry", "holder", "I", true)
def ty_8 : Nat → FieldType := fun k => match k with
  | 0 => .int
  | 1 => .int
  | _ => .int
def T_9 : u_T := fun k => match k with
  | 0 => ("LeafcreditModel$Row", "from", "I", true)
  | 1 => ("LeafcreditModel$Row", "to", "I", false)
  | 2 => ("LeafcreditModel$Row", "kind", "C", true)
  | 3 => ("LeafcreditModel$Row", "vintage", "I", true)
  | 4 => ("LeafcreditModel$Row", "project", "I", true)
  | 5 => ("LeafcreditModel$Row", "holder", "I", false)
  | 6 => ("LeafcreditModel$Row", "lock", "I", false)
  | 7 => ("LeafcreditModel$Row", "isFrozen", "Z", false)
  | _ => ("LeafcreditModel$Row", "moves", "I", false)
def ty_9 : Nat → FieldType := fun k => match k with
  | 0 => .int
  | 1 => .int
  | 2 => .char
  | 3 => .int
  | 4 => .int
  | 5 => .int
  | 6 => .int
  | 7 => .boolean
  | _ => .int
def T_10 : u_T := fun k => match k with
  | 0 => ("Leafcredit$Bid", "number", "I", true)
  | 1 => ("Leafcredit$Bid", "account", "LLeafcredit$Account;", true)
  | 2 => ("Leafcredit$Bid", "units", "I", true)
  | _ => ("Leafcredit$Bid", "price", "I", true)
def ty_10 : Nat → FieldType := fun k => match k with
  | 0 => .int
  | 1 => .object "Leafcredit$Account"
  | 2 => .int
  | _ => .int
def T_11 : u_T := fun k => match k with
  | 0 => ("LeafcreditModel$Bid", "account", "I", true)
  | 1 => ("LeafcreditModel$Bid", "units", "I", true)
  | _ => ("LeafcreditModel$Bid", "price", "I", true)
def ty_11 : Nat → FieldType := fun k => match k with
  | 0 => .int
  | 1 => .int
  | _ => .int
def T_12 : u_T := fun k => match k with
  | 0 => ("Leafcredit$Transfer", "from", "LLeafcredit$Account;", true)
  | 1 => ("Leafcredit$Transfer", "to", "LLeafcredit$Account;", true)
  | 2 => ("Leafcredit$Transfer", "kind", "C", true)
  | 3 => ("Leafcredit$Transfer", "units", "I", true)
  | 4 => ("Leafcredit$Transfer", "state", "C", false)
  | _ => ("Leafcredit$Transfer", "rows", "Ljava/util/List;", true)
def ty_12 : Nat → FieldType := fun k => match k with
  | 0 => .object "Leafcredit$Account"
  | 1 => .object "Leafcredit$Account"
  | 2 => .char
  | 3 => .int
  | 4 => .char
  | _ => .object "java/util/List"
def T_13 : u_T := fun k => match k with
  | _ => ("Leafcredit$ByUse", "project", "I", true)
def ty_13 : Nat → FieldType := fun k => match k with
  | _ => .int
def T_14 : u_T := fun k => match k with
  | 0 => ("LeafcreditModel$Transfer", "from", "I", true)
  | 1 => ("LeafcreditModel$Transfer", "to", "I", true)
  | 2 => ("LeafcreditModel$Transfer", "kind", "C", true)
  | 3 => ("LeafcreditModel$Transfer", "units", "I", true)
  | 4 => ("LeafcreditModel$Transfer", "state", "C", false)
  | _ => ("LeafcreditModel$Transfer", "moved", "Ljava/util/ArrayList;", true)
def ty_14 : Nat → FieldType := fun k => match k with
  | 0 => .int
  | 1 => .int
  | 2 => .char
  | 3 => .int
  | 4 => .char
  | _ => .object "java/util/ArrayList"
def T_15 : u_T := fun k => match k with
  | 0 => ("Leafcredit$Project", "account", "LLeafcredit$Account;", true)
  | 1 => ("Leafcredit$Project", "baseline", "I", true)
  | 2 => ("Leafcredit$Project", "leakage", "I", true)
  | 3 => ("Leafcredit$Project", "buffer", "I", true)
  | 4 => ("Leafcredit$Project", "isAdditional", "Z", true)
  | 5 => ("Leafcredit$Project", "verified", "I", false)
  | _ => ("Leafcredit$Project", "times", "I", false)
def ty_15 : Nat → FieldType := fun k => match k with
  | 0 => .object "Leafcredit$Account"
  | 1 => .int
  | 2 => .int
  | 3 => .int
  | 4 => .boolean
  | 5 => .int
  | _ => .int
def T_16 : u_T := fun k => match k with
  | 0 => ("LeafcreditModel$Project", "account", "I", true)
  | 1 => ("LeafcreditModel$Project", "baseline", "I", true)
  | 2 => ("LeafcreditModel$Project", "leakage", "I", true)
  | 3 => ("LeafcreditModel$Project", "buffer", "I", true)
  | 4 => ("LeafcreditModel$Project", "isAdditional", "Z", true)
  | 5 => ("LeafcreditModel$Project", "verified", "I", false)
  | _ => ("LeafcreditModel$Project", "lastYear", "I", false)
def ty_16 : Nat → FieldType := fun k => match k with
  | 0 => .int
  | 1 => .int
  | 2 => .int
  | 3 => .int
  | 4 => .boolean
  | 5 => .int
  | _ => .int
def T_17 : u_T := fun k => match k with
  | 0 => ("Leafcredit$Good", "own", "I", true)
  | 1 => ("Leafcredit$Good", "input", "LLeafcredit$Good;", true)
  | _ => ("Leafcredit$Good", "amount", "I", true)
def ty_17 : Nat → FieldType := fun k => match k with
  | 0 => .int
  | 1 => .object "Leafcredit$Good"
  | _ => .int
def T_18 : u_T := fun k => match k with
  | 0 => ("LeafcreditModel$Good", "own", "I", true)
  | 1 => ("LeafcreditModel$Good", "input", "I", true)
  | _ => ("LeafcreditModel$Good", "amount", "I", true)
def ty_18 : Nat → FieldType := fun k => match k with
  | 0 => .int
  | 1 => .int
  | _ => .int
def T_19 : u_T := fun k => match k with
  | 0 => ("java/util/AbstractList", "modCount", "I", false)
  | 1 => ("java/util/ArrayList", "elementData", "[Ljava/lang/Object;", false)
  | _ => ("java/util/ArrayList", "size", "I", false)
def ty_19 : Nat → FieldType := fun k => match k with
  | 0 => .int
  | 1 => .array (.object "java/lang/Object")
  | _ => .int
def T_20 : u_T := fun k => match k with
  | 0 => ("java/util/AbstractMap", "keySet", "Ljava/util/Set;", false)
  | 1 => ("java/util/AbstractMap", "values", "Ljava/util/Collection;", false)
  | 2 => ("java/util/TreeMap", "comparator", "Ljava/util/Comparator;", true)
  | 3 => ("java/util/TreeMap", "root", "Ljava/util/TreeMap$Entry;", false)
  | 4 => ("java/util/TreeMap", "size", "I", false)
  | 5 => ("java/util/TreeMap", "modCount", "I", false)
  | 6 => ("java/util/TreeMap", "entrySet", "Ljava/util/TreeMap$EntrySet;", false)
  | 7 => ("java/util/TreeMap", "navigableKeySet", "Ljava/util/TreeMap$KeySet;", false)
  | _ => ("java/util/TreeMap", "descendingMap", "Ljava/util/NavigableMap;", false)
def ty_20 : Nat → FieldType := fun k => match k with
  | 0 => .object "java/util/Set"
  | 1 => .object "java/util/Collection"
  | 2 => .object "java/util/Comparator"
  | 3 => .object "java/util/TreeMap$Entry"
  | 4 => .int
  | 5 => .int
  | 6 => .object "java/util/TreeMap$EntrySet"
  | 7 => .object "java/util/TreeMap$KeySet"
  | _ => .object "java/util/NavigableMap"
def T_21 : u_T := fun k => match k with
  | 0 => ("java/util/PriorityQueue", "queue", "[Ljava/lang/Object;", false)
  | 1 => ("java/util/PriorityQueue", "size", "I", false)
  | 2 => ("java/util/PriorityQueue", "comparator", "Ljava/util/Comparator;", true)
  | _ => ("java/util/PriorityQueue", "modCount", "I", false)
def ty_21 : Nat → FieldType := fun k => match k with
  | 0 => .array (.object "java/lang/Object")
  | 1 => .int
  | 2 => .object "java/util/Comparator"
  | _ => .int
def T_22 : u_T := fun k => match k with
  | 0 => ("java/util/ArrayList$Itr", "cursor", "I", false)
  | 1 => ("java/util/ArrayList$Itr", "lastRet", "I", false)
  | 2 => ("java/util/ArrayList$Itr", "expectedModCount", "I", false)
  | _ => ("java/util/ArrayList$Itr", "this$0", "Ljava/util/ArrayList;", true)
def ty_22 : Nat → FieldType := fun k => match k with
  | 0 => .int
  | 1 => .int
  | 2 => .int
  | _ => .object "java/util/ArrayList"
def T_23 : u_T := fun k => match k with
  | _ => ("java/lang/Integer", "value", "I", true)
def ty_23 : Nat → FieldType := fun k => match k with
  | _ => .int
def T_24 : u_T := fun k => match k with
  | _ => ("java/lang/Long", "value", "J", true)
def ty_24 : Nat → FieldType := fun k => match k with
  | _ => .long
def T_25 : u_T := fun k => match k with
  | 0 => ("java/util/TreeMap$Entry", "key", "Ljava/lang/Object;", false)
  | 1 => ("java/util/TreeMap$Entry", "value", "Ljava/lang/Object;", false)
  | 2 => ("java/util/TreeMap$Entry", "left", "Ljava/util/TreeMap$Entry;", false)
  | 3 => ("java/util/TreeMap$Entry", "right", "Ljava/util/TreeMap$Entry;", false)
  | 4 => ("java/util/TreeMap$Entry", "parent", "Ljava/util/TreeMap$Entry;", false)
  | _ => ("java/util/TreeMap$Entry", "color", "Z", false)
def ty_25 : Nat → FieldType := fun k => match k with
  | 0 => .object "java/lang/Object"
  | 1 => .object "java/lang/Object"
  | 2 => .object "java/util/TreeMap$Entry"
  | 3 => .object "java/util/TreeMap$Entry"
  | 4 => .object "java/util/TreeMap$Entry"
  | _ => .boolean
def T_26 : u_T := fun k => match k with
  | _ => ("java/util/TreeMap$Values", "this$0", "Ljava/util/TreeMap;", true)
def ty_26 : Nat → FieldType := fun k => match k with
  | _ => .object "java/util/TreeMap"
def T_27 : u_T := fun k => match k with
  | 0 => ("java/util/AbstractMap$2$1", "i", "Ljava/util/Iterator;", false)
  | _ => ("java/util/AbstractMap$2$1", "this$1", "Ljava/util/AbstractMap$2;", true)
def ty_27 : Nat → FieldType := fun k => match k with
  | 0 => .object "java/util/Iterator"
  | _ => .object "java/util/AbstractMap$2"
def T_28 : u_T := fun k => match k with
  | 0 => ("java/util/TreeMap$NavigableSubMap$EntrySetView", "size", "I", false)
  | 1 => ("java/util/TreeMap$NavigableSubMap$EntrySetView", "sizeModCount", "I", false)
  | 2 => ("java/util/TreeMap$NavigableSubMap$EntrySetView", "this$0", "Ljava/util/TreeMap$NavigableSubMap;", true)
  | _ => ("java/util/TreeMap$AscendingSubMap$AscendingEntrySetView", "this$0", "Ljava/util/TreeMap$AscendingSubMap;", true)
def ty_28 : Nat → FieldType := fun k => match k with
  | 0 => .int
  | 1 => .int
  | 2 => .object "java/util/TreeMap$NavigableSubMap"
  | _ => .object "java/util/TreeMap$AscendingSubMap"
def T_29 : u_T := fun k => match k with
  | 0 => ("java/util/TreeMap$NavigableSubMap$SubMapIterator", "lastReturned", "Ljava/util/TreeMap$Entry;", false)
  | 1 => ("java/util/TreeMap$NavigableSubMap$SubMapIterator", "next", "Ljava/util/TreeMap$Entry;", false)
  | 2 => ("java/util/TreeMap$NavigableSubMap$SubMapIterator", "fenceKey", "Ljava/lang/Object;", true)
  | 3 => ("java/util/TreeMap$NavigableSubMap$SubMapIterator", "expectedModCount", "I", false)
  | _ => ("java/util/TreeMap$NavigableSubMap$SubMapIterator", "this$0", "Ljava/util/TreeMap$NavigableSubMap;", true)
def ty_29 : Nat → FieldType := fun k => match k with
  | 0 => .object "java/util/TreeMap$Entry"
  | 1 => .object "java/util/TreeMap$Entry"
  | 2 => .object "java/lang/Object"
  | 3 => .int
  | _ => .object "java/util/TreeMap$NavigableSubMap"
def T_30 : u_T := fun k => match k with
  | 0 => ("java/util/PriorityQueue$Itr", "cursor", "I", false)
  | 1 => ("java/util/PriorityQueue$Itr", "lastRet", "I", false)
  | 2 => ("java/util/PriorityQueue$Itr", "forgetMeNot", "Ljava/util/ArrayDeque;", false)
  | 3 => ("java/util/PriorityQueue$Itr", "lastRetElt", "Ljava/lang/Object;", false)
  | 4 => ("java/util/PriorityQueue$Itr", "expectedModCount", "I", false)
  | _ => ("java/util/PriorityQueue$Itr", "this$0", "Ljava/util/PriorityQueue;", true)
def ty_30 : Nat → FieldType := fun k => match k with
  | 0 => .int
  | 1 => .int
  | 2 => .object "java/util/ArrayDeque"
  | 3 => .object "java/lang/Object"
  | 4 => .int
  | _ => .object "java/util/PriorityQueue"
def T_31 : u_T := fun k => match k with
  | 0 => ("java/util/TreeMap$PrivateEntryIterator", "next", "Ljava/util/TreeMap$Entry;", false)
  | 1 => ("java/util/TreeMap$PrivateEntryIterator", "lastReturned", "Ljava/util/TreeMap$Entry;", false)
  | 2 => ("java/util/TreeMap$PrivateEntryIterator", "expectedModCount", "I", false)
  | _ => ("java/util/TreeMap$PrivateEntryIterator", "this$0", "Ljava/util/TreeMap;", true)
def ty_31 : Nat → FieldType := fun k => match k with
  | 0 => .object "java/util/TreeMap$Entry"
  | 1 => .object "java/util/TreeMap$Entry"
  | 2 => .int
  | _ => .object "java/util/TreeMap"
def T_32 : u_T := fun k => match k with
  | 0 => ("java/util/TreeMap$NavigableSubMap", "m", "Ljava/util/TreeMap;", true)
  | 1 => ("java/util/TreeMap$NavigableSubMap", "lo", "Ljava/lang/Object;", true)
  | 2 => ("java/util/TreeMap$NavigableSubMap", "hi", "Ljava/lang/Object;", true)
  | 3 => ("java/util/TreeMap$NavigableSubMap", "fromStart", "Z", true)
  | 4 => ("java/util/TreeMap$NavigableSubMap", "toEnd", "Z", true)
  | 5 => ("java/util/TreeMap$NavigableSubMap", "loInclusive", "Z", true)
  | 6 => ("java/util/TreeMap$NavigableSubMap", "hiInclusive", "Z", true)
  | 7 => ("java/util/TreeMap$NavigableSubMap", "descendingMapView", "Ljava/util/NavigableMap;", false)
  | 8 => ("java/util/TreeMap$NavigableSubMap", "entrySetView", "Ljava/util/TreeMap$NavigableSubMap$EntrySetView;", false)
  | 9 => ("java/util/TreeMap$NavigableSubMap", "navigableKeySetView", "Ljava/util/TreeMap$KeySet;", false)
  | 10 => ("java/util/AbstractMap", "keySet", "Ljava/util/Set;", false)
  | _ => ("java/util/AbstractMap", "values", "Ljava/util/Collection;", false)
def ty_32 : Nat → FieldType := fun k => match k with
  | 0 => .object "java/util/TreeMap"
  | 1 => .object "java/lang/Object"
  | 2 => .object "java/lang/Object"
  | 3 => .boolean
  | 4 => .boolean
  | 5 => .boolean
  | 6 => .boolean
  | 7 => .object "java/util/NavigableMap"
  | 8 => .object "java/util/TreeMap$NavigableSubMap$EntrySetView"
  | 9 => .object "java/util/TreeMap$KeySet"
  | 10 => .object "java/util/Set"
  | _ => .object "java/util/Collection"
def T_33 : u_T := fun k => match k with
  | _ => ("java/util/AbstractMap$2", "this$0", "Ljava/util/AbstractMap;", true)
def ty_33 : Nat → FieldType := fun k => match k with
  | _ => .object "java/util/AbstractMap"
def T_34 : u_T := fun k => match k with
  | 0 => ("java/util/AbstractMap$SimpleImmutableEntry", "key", "Ljava/lang/Object;", true)
  | _ => ("java/util/AbstractMap$SimpleImmutableEntry", "value", "Ljava/lang/Object;", true)
def ty_34 : Nat → FieldType := fun k => match k with
  | 0 => .object "java/lang/Object"
  | _ => .object "java/lang/Object"
theorem in_0 : ∀ w ∈ u_ws "Leafcredit" T_0 21, w ∈ lw_all := lw_in (u_ws "Leafcredit" T_0 21) [496, 498, 500, 502, 504, 506, 508, 510, 512, 514, 516, 518, 520, 522, 524, 526, 528, 530, 532, 534, 536] (by decide +kernel) (by decide +kernel)
theorem nm_0 : ∀ a, a < 21 → ∀ b, b < 21 → a ≠ b → (T_0 a).2.1 ≠ (T_0 b).2.1 ∨ ty_0 a ≠ ty_0 b := by decide +kernel
theorem tyk_0 : ∀ j, j < 21 → parseFieldDescriptor (T_0 j).2.2.1 = some (ty_0 j) := by decide +kernel
theorem in_1 : ∀ w ∈ u_ws "Leafcredit$ByPrice" T_1 0, w ∈ lw_all := fun w h => by cases h
theorem nm_1 : ∀ a, a < 0 → ∀ b, b < 0 → a ≠ b → (T_1 a).2.1 ≠ (T_1 b).2.1 ∨ ty_1 a ≠ ty_1 b := by decide +kernel
theorem tyk_1 : ∀ j, j < 0 → parseFieldDescriptor (T_1 j).2.2.1 = some (ty_1 j) := by decide +kernel
theorem in_2 : ∀ w ∈ u_ws "Leafcredit$Account" T_2 9, w ∈ lw_all := lw_in (u_ws "Leafcredit$Account" T_2 9) [355, 357, 359, 361, 363, 365, 367, 369, 371] (by decide +kernel) (by decide +kernel)
theorem nm_2 : ∀ a, a < 9 → ∀ b, b < 9 → a ≠ b → (T_2 a).2.1 ≠ (T_2 b).2.1 ∨ ty_2 a ≠ ty_2 b := by decide +kernel
theorem tyk_2 : ∀ j, j < 9 → parseFieldDescriptor (T_2 j).2.2.1 = some (ty_2 j) := by decide +kernel
theorem in_3 : ∀ w ∈ u_ws "Leafcredit$Sum" T_3 1, w ∈ lw_all := lw_in (u_ws "Leafcredit$Sum" T_3 1) [333] (by decide +kernel) (by decide +kernel)
theorem nm_3 : ∀ a, a < 1 → ∀ b, b < 1 → a ≠ b → (T_3 a).2.1 ≠ (T_3 b).2.1 ∨ ty_3 a ≠ ty_3 b := by decide +kernel
theorem tyk_3 : ∀ j, j < 1 → parseFieldDescriptor (T_3 j).2.2.1 = some (ty_3 j) := by decide +kernel
theorem in_4 : ∀ w ∈ u_ws "LeafcreditModel" T_4 23, w ∈ lw_all := lw_in (u_ws "LeafcreditModel" T_4 23) [3096, 3098, 3100, 3102, 3104, 3106, 3108, 3110, 3112, 3114, 3116, 3118, 3120, 3122, 3124, 3126, 3128, 3130, 3132, 3134, 3136, 3138, 3140] (by decide +kernel) (by decide +kernel)
theorem nm_4 : ∀ a, a < 23 → ∀ b, b < 23 → a ≠ b → (T_4 a).2.1 ≠ (T_4 b).2.1 ∨ ty_4 a ≠ ty_4 b := by decide +kernel
theorem tyk_4 : ∀ j, j < 23 → parseFieldDescriptor (T_4 j).2.2.1 = some (ty_4 j) := by decide +kernel
theorem in_5 : ∀ w ∈ u_ws "LeafcreditModel$Account" T_5 19, w ∈ lw_all := lw_in (u_ws "LeafcreditModel$Account" T_5 19) [3032, 3034, 3036, 3038, 3040, 3042, 3044, 3046, 3048, 3050, 3052, 3054, 3056, 3058, 3060, 3062, 3064, 3066, 3068] (by decide +kernel) (by decide +kernel)
theorem nm_5 : ∀ a, a < 19 → ∀ b, b < 19 → a ≠ b → (T_5 a).2.1 ≠ (T_5 b).2.1 ∨ ty_5 a ≠ ty_5 b := by decide +kernel
theorem tyk_5 : ∀ j, j < 19 → parseFieldDescriptor (T_5 j).2.2.1 = some (ty_5 j) := by decide +kernel
theorem in_6 : ∀ w ∈ u_ws "Leafcredit$Plant" T_6 9, w ∈ lw_all := lw_in (u_ws "Leafcredit$Plant" T_6 9) [1924, 1926, 1928, 1930, 1932, 1934, 1936, 1938, 1940] (by decide +kernel) (by decide +kernel)
theorem nm_6 : ∀ a, a < 9 → ∀ b, b < 9 → a ≠ b → (T_6 a).2.1 ≠ (T_6 b).2.1 ∨ ty_6 a ≠ ty_6 b := by decide +kernel
theorem tyk_6 : ∀ j, j < 9 → parseFieldDescriptor (T_6 j).2.2.1 = some (ty_6 j) := by decide +kernel
theorem in_7 : ∀ w ∈ u_ws "Leafcredit$Piece" T_7 9, w ∈ lw_all := lw_in (u_ws "Leafcredit$Piece" T_7 9) [2153, 2155, 2157, 2159, 2161, 2163, 2165, 2167, 2169] (by decide +kernel) (by decide +kernel)
theorem nm_7 : ∀ a, a < 9 → ∀ b, b < 9 → a ≠ b → (T_7 a).2.1 ≠ (T_7 b).2.1 ∨ ty_7 a ≠ ty_7 b := by decide +kernel
theorem tyk_7 : ∀ j, j < 9 → parseFieldDescriptor (T_7 j).2.2.1 = some (ty_7 j) := by decide +kernel
theorem in_8 : ∀ w ∈ u_ws "Leafcredit$Entry" T_8 3, w ∈ lw_all := lw_in (u_ws "Leafcredit$Entry" T_8 3) [2184, 2186, 2188] (by decide +kernel) (by decide +kernel)
theorem nm_8 : ∀ a, a < 3 → ∀ b, b < 3 → a ≠ b → (T_8 a).2.1 ≠ (T_8 b).2.1 ∨ ty_8 a ≠ ty_8 b := by decide +kernel
theorem tyk_8 : ∀ j, j < 3 → parseFieldDescriptor (T_8 j).2.2.1 = some (ty_8 j) := by decide +kernel
theorem in_9 : ∀ w ∈ u_ws "LeafcreditModel$Row" T_9 9, w ∈ lw_all := lw_in (u_ws "LeafcreditModel$Row" T_9 9) [3306, 3308, 3310, 3312, 3314, 3316, 3318, 3320, 3322] (by decide +kernel) (by decide +kernel)
theorem nm_9 : ∀ a, a < 9 → ∀ b, b < 9 → a ≠ b → (T_9 a).2.1 ≠ (T_9 b).2.1 ∨ ty_9 a ≠ ty_9 b := by decide +kernel
theorem tyk_9 : ∀ j, j < 9 → parseFieldDescriptor (T_9 j).2.2.1 = some (ty_9 j) := by decide +kernel
theorem in_10 : ∀ w ∈ u_ws "Leafcredit$Bid" T_10 4, w ∈ lw_all := lw_in (u_ws "Leafcredit$Bid" T_10 4) [2232, 2234, 2236, 2238] (by decide +kernel) (by decide +kernel)
theorem nm_10 : ∀ a, a < 4 → ∀ b, b < 4 → a ≠ b → (T_10 a).2.1 ≠ (T_10 b).2.1 ∨ ty_10 a ≠ ty_10 b := by decide +kernel
theorem tyk_10 : ∀ j, j < 4 → parseFieldDescriptor (T_10 j).2.2.1 = some (ty_10 j) := by decide +kernel
theorem in_11 : ∀ w ∈ u_ws "LeafcreditModel$Bid" T_11 3, w ∈ lw_all := lw_in (u_ws "LeafcreditModel$Bid" T_11 3) [3524, 3526, 3528] (by decide +kernel) (by decide +kernel)
theorem nm_11 : ∀ a, a < 3 → ∀ b, b < 3 → a ≠ b → (T_11 a).2.1 ≠ (T_11 b).2.1 ∨ ty_11 a ≠ ty_11 b := by decide +kernel
theorem tyk_11 : ∀ j, j < 3 → parseFieldDescriptor (T_11 j).2.2.1 = some (ty_11 j) := by decide +kernel
theorem in_12 : ∀ w ∈ u_ws "Leafcredit$Transfer" T_12 6, w ∈ lw_all := lw_in (u_ws "Leafcredit$Transfer" T_12 6) [2382, 2384, 2386, 2388, 2390, 2392] (by decide +kernel) (by decide +kernel)
theorem nm_12 : ∀ a, a < 6 → ∀ b, b < 6 → a ≠ b → (T_12 a).2.1 ≠ (T_12 b).2.1 ∨ ty_12 a ≠ ty_12 b := by decide +kernel
theorem tyk_12 : ∀ j, j < 6 → parseFieldDescriptor (T_12 j).2.2.1 = some (ty_12 j) := by decide +kernel
theorem in_13 : ∀ w ∈ u_ws "Leafcredit$ByUse" T_13 1, w ∈ lw_all := lw_in (u_ws "Leafcredit$ByUse" T_13 1) [2406] (by decide +kernel) (by decide +kernel)
theorem nm_13 : ∀ a, a < 1 → ∀ b, b < 1 → a ≠ b → (T_13 a).2.1 ≠ (T_13 b).2.1 ∨ ty_13 a ≠ ty_13 b := by decide +kernel
theorem tyk_13 : ∀ j, j < 1 → parseFieldDescriptor (T_13 j).2.2.1 = some (ty_13 j) := by decide +kernel
theorem in_14 : ∀ w ∈ u_ws "LeafcreditModel$Transfer" T_14 6, w ∈ lw_all := lw_in (u_ws "LeafcreditModel$Transfer" T_14 6) [3253, 3255, 3257, 3259, 3261, 3263] (by decide +kernel) (by decide +kernel)
theorem nm_14 : ∀ a, a < 6 → ∀ b, b < 6 → a ≠ b → (T_14 a).2.1 ≠ (T_14 b).2.1 ∨ ty_14 a ≠ ty_14 b := by decide +kernel
theorem tyk_14 : ∀ j, j < 6 → parseFieldDescriptor (T_14 j).2.2.1 = some (ty_14 j) := by decide +kernel
theorem in_15 : ∀ w ∈ u_ws "Leafcredit$Project" T_15 7, w ∈ lw_all := lw_in (u_ws "Leafcredit$Project" T_15 7) [2783, 2785, 2787, 2789, 2791, 2793, 2795] (by decide +kernel) (by decide +kernel)
theorem nm_15 : ∀ a, a < 7 → ∀ b, b < 7 → a ≠ b → (T_15 a).2.1 ≠ (T_15 b).2.1 ∨ ty_15 a ≠ ty_15 b := by decide +kernel
theorem tyk_15 : ∀ j, j < 7 → parseFieldDescriptor (T_15 j).2.2.1 = some (ty_15 j) := by decide +kernel
theorem in_16 : ∀ w ∈ u_ws "LeafcreditModel$Project" T_16 7, w ∈ lw_all := lw_in (u_ws "LeafcreditModel$Project" T_16 7) [3595, 3597, 3599, 3601, 3603, 3605, 3607] (by decide +kernel) (by decide +kernel)
theorem nm_16 : ∀ a, a < 7 → ∀ b, b < 7 → a ≠ b → (T_16 a).2.1 ≠ (T_16 b).2.1 ∨ ty_16 a ≠ ty_16 b := by decide +kernel
theorem tyk_16 : ∀ j, j < 7 → parseFieldDescriptor (T_16 j).2.2.1 = some (ty_16 j) := by decide +kernel
theorem in_17 : ∀ w ∈ u_ws "Leafcredit$Good" T_17 3, w ∈ lw_all := lw_in (u_ws "Leafcredit$Good" T_17 3) [2841, 2843, 2845] (by decide +kernel) (by decide +kernel)
theorem nm_17 : ∀ a, a < 3 → ∀ b, b < 3 → a ≠ b → (T_17 a).2.1 ≠ (T_17 b).2.1 ∨ ty_17 a ≠ ty_17 b := by decide +kernel
theorem tyk_17 : ∀ j, j < 3 → parseFieldDescriptor (T_17 j).2.2.1 = some (ty_17 j) := by decide +kernel
theorem in_18 : ∀ w ∈ u_ws "LeafcreditModel$Good" T_18 3, w ∈ lw_all := lw_in (u_ws "LeafcreditModel$Good" T_18 3) [3642, 3644, 3646] (by decide +kernel) (by decide +kernel)
theorem nm_18 : ∀ a, a < 3 → ∀ b, b < 3 → a ≠ b → (T_18 a).2.1 ≠ (T_18 b).2.1 ∨ ty_18 a ≠ ty_18 b := by decide +kernel
theorem tyk_18 : ∀ j, j < 3 → parseFieldDescriptor (T_18 j).2.2.1 = some (ty_18 j) := by decide +kernel
theorem in_19 : ∀ w ∈ u_ws "java/util/ArrayList" T_19 3, w ∈ lw_all := lw_in (u_ws "java/util/ArrayList" T_19 3) [171, 167, 169] (by decide +kernel) (by decide +kernel)
theorem nm_19 : ∀ a, a < 3 → ∀ b, b < 3 → a ≠ b → (T_19 a).2.1 ≠ (T_19 b).2.1 ∨ ty_19 a ≠ ty_19 b := by decide +kernel
theorem tyk_19 : ∀ j, j < 3 → parseFieldDescriptor (T_19 j).2.2.1 = some (ty_19 j) := by decide +kernel
theorem in_20 : ∀ w ∈ u_ws "java/util/TreeMap" T_20 9, w ∈ lw_all := lw_in (u_ws "java/util/TreeMap" T_20 9) [208, 210, 194, 196, 198, 200, 202, 204, 206] (by decide +kernel) (by decide +kernel)
theorem nm_20 : ∀ a, a < 9 → ∀ b, b < 9 → a ≠ b → (T_20 a).2.1 ≠ (T_20 b).2.1 ∨ ty_20 a ≠ ty_20 b := by decide +kernel
theorem tyk_20 : ∀ j, j < 9 → parseFieldDescriptor (T_20 j).2.2.1 = some (ty_20 j) := by decide +kernel
theorem in_21 : ∀ w ∈ u_ws "java/util/PriorityQueue" T_21 4, w ∈ lw_all := lw_in (u_ws "java/util/PriorityQueue" T_21 4) [309, 311, 313, 315] (by decide +kernel) (by decide +kernel)
theorem nm_21 : ∀ a, a < 4 → ∀ b, b < 4 → a ≠ b → (T_21 a).2.1 ≠ (T_21 b).2.1 ∨ ty_21 a ≠ ty_21 b := by decide +kernel
theorem tyk_21 : ∀ j, j < 4 → parseFieldDescriptor (T_21 j).2.2.1 = some (ty_21 j) := by decide +kernel
theorem in_22 : ∀ w ∈ u_ws "java/util/ArrayList$Itr" T_22 4, w ∈ lw_all := lw_in (u_ws "java/util/ArrayList$Itr" T_22 4) [1050, 1052, 1054, 1056] (by decide +kernel) (by decide +kernel)
theorem nm_22 : ∀ a, a < 4 → ∀ b, b < 4 → a ≠ b → (T_22 a).2.1 ≠ (T_22 b).2.1 ∨ ty_22 a ≠ ty_22 b := by decide +kernel
theorem tyk_22 : ∀ j, j < 4 → parseFieldDescriptor (T_22 j).2.2.1 = some (ty_22 j) := by decide +kernel
theorem in_23 : ∀ w ∈ u_ws "java/lang/Integer" T_23 1, w ∈ lw_all := lw_in (u_ws "java/lang/Integer" T_23 1) [1363] (by decide +kernel) (by decide +kernel)
theorem nm_23 : ∀ a, a < 1 → ∀ b, b < 1 → a ≠ b → (T_23 a).2.1 ≠ (T_23 b).2.1 ∨ ty_23 a ≠ ty_23 b := by decide +kernel
theorem tyk_23 : ∀ j, j < 1 → parseFieldDescriptor (T_23 j).2.2.1 = some (ty_23 j) := by decide +kernel
theorem in_24 : ∀ w ∈ u_ws "java/lang/Long" T_24 1, w ∈ lw_all := lw_in (u_ws "java/lang/Long" T_24 1) [2956] (by decide +kernel) (by decide +kernel)
theorem nm_24 : ∀ a, a < 1 → ∀ b, b < 1 → a ≠ b → (T_24 a).2.1 ≠ (T_24 b).2.1 ∨ ty_24 a ≠ ty_24 b := by decide +kernel
theorem tyk_24 : ∀ j, j < 1 → parseFieldDescriptor (T_24 j).2.2.1 = some (ty_24 j) := by decide +kernel
theorem in_25 : ∀ w ∈ u_ws "java/util/TreeMap$Entry" T_25 6, w ∈ lw_all := lw_in (u_ws "java/util/TreeMap$Entry" T_25 6) [1444, 1446, 1448, 1450, 1452, 1454] (by decide +kernel) (by decide +kernel)
theorem nm_25 : ∀ a, a < 6 → ∀ b, b < 6 → a ≠ b → (T_25 a).2.1 ≠ (T_25 b).2.1 ∨ ty_25 a ≠ ty_25 b := by decide +kernel
theorem tyk_25 : ∀ j, j < 6 → parseFieldDescriptor (T_25 j).2.2.1 = some (ty_25 j) := by decide +kernel
theorem in_26 : ∀ w ∈ u_ws "java/util/TreeMap$Values" T_26 1, w ∈ lw_all := lw_in (u_ws "java/util/TreeMap$Values" T_26 1) [562] (by decide +kernel) (by decide +kernel)
theorem nm_26 : ∀ a, a < 1 → ∀ b, b < 1 → a ≠ b → (T_26 a).2.1 ≠ (T_26 b).2.1 ∨ ty_26 a ≠ ty_26 b := by decide +kernel
theorem tyk_26 : ∀ j, j < 1 → parseFieldDescriptor (T_26 j).2.2.1 = some (ty_26 j) := by decide +kernel
theorem in_27 : ∀ w ∈ u_ws "java/util/AbstractMap$2$1" T_27 2, w ∈ lw_all := lw_in (u_ws "java/util/AbstractMap$2$1" T_27 2) [997, 999] (by decide +kernel) (by decide +kernel)
theorem nm_27 : ∀ a, a < 2 → ∀ b, b < 2 → a ≠ b → (T_27 a).2.1 ≠ (T_27 b).2.1 ∨ ty_27 a ≠ ty_27 b := by decide +kernel
theorem tyk_27 : ∀ j, j < 2 → parseFieldDescriptor (T_27 j).2.2.1 = some (ty_27 j) := by decide +kernel
theorem in_28 : ∀ w ∈ u_ws "java/util/TreeMap$AscendingSubMap$AscendingEntrySetView" T_28 4, w ∈ lw_all := lw_in (u_ws "java/util/TreeMap$AscendingSubMap$AscendingEntrySetView" T_28 4) [618, 620, 622, 616] (by decide +kernel) (by decide +kernel)
theorem nm_28 : ∀ a, a < 4 → ∀ b, b < 4 → a ≠ b → (T_28 a).2.1 ≠ (T_28 b).2.1 ∨ ty_28 a ≠ ty_28 b := by decide +kernel
theorem tyk_28 : ∀ j, j < 4 → parseFieldDescriptor (T_28 j).2.2.1 = some (ty_28 j) := by decide +kernel
theorem in_29 : ∀ w ∈ u_ws "java/util/TreeMap$NavigableSubMap$SubMapEntryIterator" T_29 5, w ∈ lw_all := lw_in (u_ws "java/util/TreeMap$NavigableSubMap$SubMapEntryIterator" T_29 5) [955, 957, 959, 961, 963] (by decide +kernel) (by decide +kernel)
theorem nm_29 : ∀ a, a < 5 → ∀ b, b < 5 → a ≠ b → (T_29 a).2.1 ≠ (T_29 b).2.1 ∨ ty_29 a ≠ ty_29 b := by decide +kernel
theorem tyk_29 : ∀ j, j < 5 → parseFieldDescriptor (T_29 j).2.2.1 = some (ty_29 j) := by decide +kernel
theorem in_30 : ∀ w ∈ u_ws "java/util/PriorityQueue$Itr" T_30 6, w ∈ lw_all := lw_in (u_ws "java/util/PriorityQueue$Itr" T_30 6) [1077, 1079, 1081, 1083, 1085, 1087] (by decide +kernel) (by decide +kernel)
theorem nm_30 : ∀ a, a < 6 → ∀ b, b < 6 → a ≠ b → (T_30 a).2.1 ≠ (T_30 b).2.1 ∨ ty_30 a ≠ ty_30 b := by decide +kernel
theorem tyk_30 : ∀ j, j < 6 → parseFieldDescriptor (T_30 j).2.2.1 = some (ty_30 j) := by decide +kernel
theorem in_31 : ∀ w ∈ u_ws "java/util/TreeMap$ValueIterator" T_31 4, w ∈ lw_all := lw_in (u_ws "java/util/TreeMap$ValueIterator" T_31 4) [1107, 1108, 1109, 1110] (by decide +kernel) (by decide +kernel)
theorem nm_31 : ∀ a, a < 4 → ∀ b, b < 4 → a ≠ b → (T_31 a).2.1 ≠ (T_31 b).2.1 ∨ ty_31 a ≠ ty_31 b := by decide +kernel
theorem tyk_31 : ∀ j, j < 4 → parseFieldDescriptor (T_31 j).2.2.1 = some (ty_31 j) := by decide +kernel
theorem in_32 : ∀ w ∈ u_ws "java/util/TreeMap$AscendingSubMap" T_32 12, w ∈ lw_all := lw_in (u_ws "java/util/TreeMap$AscendingSubMap" T_32 12) [1535, 1537, 1539, 1541, 1543, 1545, 1547, 1549, 1551, 1553, 1555, 1556] (by decide +kernel) (by decide +kernel)
theorem nm_32 : ∀ a, a < 12 → ∀ b, b < 12 → a ≠ b → (T_32 a).2.1 ≠ (T_32 b).2.1 ∨ ty_32 a ≠ ty_32 b := by decide +kernel
theorem tyk_32 : ∀ j, j < 12 → parseFieldDescriptor (T_32 j).2.2.1 = some (ty_32 j) := by decide +kernel
theorem in_33 : ∀ w ∈ u_ws "java/util/AbstractMap$2" T_33 1, w ∈ lw_all := lw_in (u_ws "java/util/AbstractMap$2" T_33 1) [2689] (by decide +kernel) (by decide +kernel)
theorem nm_33 : ∀ a, a < 1 → ∀ b, b < 1 → a ≠ b → (T_33 a).2.1 ≠ (T_33 b).2.1 ∨ ty_33 a ≠ ty_33 b := by decide +kernel
theorem tyk_33 : ∀ j, j < 1 → parseFieldDescriptor (T_33 j).2.2.1 = some (ty_33 j) := by decide +kernel
theorem in_34 : ∀ w ∈ u_ws "java/util/AbstractMap$SimpleImmutableEntry" T_34 2, w ∈ lw_all := lw_in (u_ws "java/util/AbstractMap$SimpleImmutableEntry" T_34 2) [1401, 1403] (by decide +kernel) (by decide +kernel)
theorem nm_34 : ∀ a, a < 2 → ∀ b, b < 2 → a ≠ b → (T_34 a).2.1 ≠ (T_34 b).2.1 ∨ ty_34 a ≠ ty_34 b := by decide +kernel
theorem tyk_34 : ∀ j, j < 2 → parseFieldDescriptor (T_34 j).2.2.1 = some (ty_34 j) := by decide +kernel
def kcl : List vw_C := [("Leafcredit", T_0, 21), ("Leafcredit$ByPrice", T_1, 0), ("Leafcredit$Account", T_2, 9), ("Leafcredit$Sum", T_3, 1), ("LeafcreditModel", T_4, 23), ("LeafcreditModel$Account", T_5, 19), ("Leafcredit$Plant", T_6, 9), ("Leafcredit$Piece", T_7, 9), ("Leafcredit$Entry", T_8, 3), ("LeafcreditModel$Row", T_9, 9), ("Leafcredit$Bid", T_10, 4), ("LeafcreditModel$Bid", T_11, 3), ("Leafcredit$Transfer", T_12, 6), ("Leafcredit$ByUse", T_13, 1), ("LeafcreditModel$Transfer", T_14, 6), ("Leafcredit$Project", T_15, 7), ("LeafcreditModel$Project", T_16, 7), ("Leafcredit$Good", T_17, 3), ("LeafcreditModel$Good", T_18, 3), ("java/util/ArrayList", T_19, 3), ("java/util/TreeMap", T_20, 9), ("java/util/PriorityQueue", T_21, 4), ("java/util/ArrayList$Itr", T_22, 4), ("java/lang/Integer", T_23, 1), ("java/lang/Long", T_24, 1), ("java/util/TreeMap$Entry", T_25, 6), ("java/util/TreeMap$Values", T_26, 1), ("java/util/AbstractMap$2$1", T_27, 2), ("java/util/TreeMap$AscendingSubMap$AscendingEntrySetView", T_28, 4), ("java/util/TreeMap$NavigableSubMap$SubMapEntryIterator", T_29, 5), ("java/util/PriorityQueue$Itr", T_30, 6), ("java/util/TreeMap$ValueIterator", T_31, 4), ("java/util/TreeMap$AscendingSubMap", T_32, 12), ("java/util/AbstractMap$2", T_33, 1), ("java/util/AbstractMap$SimpleImmutableEntry", T_34, 2), ("java/lang/Integer", T_23, 1), ("java/lang/Long", T_24, 1)]
def mX0_addAccount : MD := (0, ⟨"LeafcreditLaw", "addAccount", "(LLeafcredit;I[J)I"⟩, method_3_code, 4, (Option.some Jvm.ClassFile.FieldType.int), [((0 : Nat), (9 : Nat), (12 : Nat), (13 : Nat)), ((0 : Nat), (9 : Nat), (15 : Nat), (15 : Nat))])
def mX0_makePlant : MD := (0, ⟨"LeafcreditLaw", "makePlant", "(LLeafcredit;III[J)I"⟩, method_4_code, 6, (Option.some Jvm.ClassFile.FieldType.int), [((0 : Nat), (12 : Nat), (15 : Nat), (21 : Nat)), ((0 : Nat), (12 : Nat), (19 : Nat), (13 : Nat))])
def mX0_report : MD := (0, ⟨"LeafcreditLaw", "report", "(LLeafcredit;III[J)I"⟩, method_5_code, 6, (Option.some Jvm.ClassFile.FieldType.int), [((0 : Nat), (12 : Nat), (15 : Nat), (21 : Nat)), ((0 : Nat), (12 : Nat), (19 : Nat), (13 : Nat)), ((0 : Nat), (12 : Nat), (23 : Nat), (26 : Nat)), ((0 : Nat), (12 : Nat), (27 : Nat), (15 : Nat))])
def mX0_tellActivity : MD := (0, ⟨"LeafcreditLaw", "tellActivity", "(LLeafcredit;II[J)I"⟩, method_6_code, 5, (Option.some Jvm.ClassFile.FieldType.int), [((0 : Nat), (10 : Nat), (13 : Nat), (21 : Nat)), ((0 : Nat), (10 : Nat), (17 : Nat), (13 : Nat)), ((0 : Nat), (10 : Nat), (21 : Nat), (26 : Nat))])
def mX0_emissionOf : MD := (0, ⟨"LeafcreditLaw", "emissionOf", "(LLeafcredit;II[J)I"⟩, method_7_code, 5, (Option.some Jvm.ClassFile.FieldType.int), [((0 : Nat), (9 : Nat), (12 : Nat), (21 : Nat)), ((0 : Nat), (9 : Nat), (16 : Nat), (26 : Nat)), ((0 : Nat), (9 : Nat), (20 : Nat), (36 : Nat))])
def mX0_owed : MD := (0, ⟨"LeafcreditLaw", "owed", "(LLeafcredit;II[J)I"⟩, method_8_code, 5, (Option.some Jvm.ClassFile.FieldType.int), [((0 : Nat), (9 : Nat), (12 : Nat), (21 : Nat)), ((0 : Nat), (9 : Nat), (16 : Nat), (36 : Nat))])
def mX0_freeShare : MD := (0, ⟨"LeafcreditLaw", "freeShare", "(LLeafcredit;I[J)I"⟩, method_9_code, 4, (Option.some Jvm.ClassFile.FieldType.int), [((0 : Nat), (9 : Nat), (12 : Nat), (21 : Nat))])
def mX0_cash : MD := (0, ⟨"LeafcreditLaw", "cash", "(LLeafcredit;I[J)I"⟩, method_10_code, 4, (Option.some Jvm.ClassFile.FieldType.int), [((0 : Nat), (8 : Nat), (11 : Nat), (21 : Nat))])
def mX0_setCap : MD := (0, ⟨"LeafcreditLaw", "setCap", "(LLeafcredit;II[J)I"⟩, method_11_code, 5, (Option.some Jvm.ClassFile.FieldType.int), [((0 : Nat), (10 : Nat), (13 : Nat), (13 : Nat))])
def mX0_setBounds : MD := (0, ⟨"LeafcreditLaw", "setBounds", "(LLeafcredit;III[J)I"⟩, method_12_code, 6, (Option.some Jvm.ClassFile.FieldType.int), [((0 : Nat), (12 : Nat), (15 : Nat), (13 : Nat))])
def mX0_bid : MD := (0, ⟨"LeafcreditLaw", "bid", "(LLeafcredit;III[J)I"⟩, method_13_code, 6, (Option.some Jvm.ClassFile.FieldType.int), [((0 : Nat), (12 : Nat), (15 : Nat), (21 : Nat)), ((0 : Nat), (12 : Nat), (19 : Nat), (13 : Nat)), ((0 : Nat), (12 : Nat), (23 : Nat), (26 : Nat)), ((0 : Nat), (12 : Nat), (27 : Nat), (15 : Nat))])
def mX0_auction : MD := (0, ⟨"LeafcreditLaw", "auction", "(LLeafcredit;II[J)I"⟩, method_14_code, 5, (Option.some Jvm.ClassFile.FieldType.int), [((0 : Nat), (10 : Nat), (13 : Nat), (13 : Nat)), ((0 : Nat), (10 : Nat), (17 : Nat), (26 : Nat))])
def mX0_price : MD := (0, ⟨"LeafcreditLaw", "price", "(LLeafcredit;[J)I"⟩, method_15_code, 3, (Option.some Jvm.ClassFile.FieldType.int), [((0 : Nat), (8 : Nat), (11 : Nat), (36 : Nat))])
def mX0_transfer : MD := (0, ⟨"LeafcreditLaw", "transfer", "(LLeafcredit;IICI[J)I"⟩, method_16_code, 7, (Option.some Jvm.ClassFile.FieldType.int), [((0 : Nat), (14 : Nat), (17 : Nat), (21 : Nat)), ((0 : Nat), (14 : Nat), (21 : Nat), (13 : Nat)), ((0 : Nat), (14 : Nat), (25 : Nat), (26 : Nat)), ((0 : Nat), (14 : Nat), (29 : Nat), (15 : Nat))])
def mX0_confirm : MD := (0, ⟨"LeafcreditLaw", "confirm", "(LLeafcredit;I[J)I"⟩, method_17_code, 4, (Option.some Jvm.ClassFile.FieldType.int), [((0 : Nat), (9 : Nat), (12 : Nat), (21 : Nat)), ((0 : Nat), (9 : Nat), (15 : Nat), (26 : Nat))])
def mX0_trust : MD := (0, ⟨"LeafcreditLaw", "trust", "(LLeafcredit;II[J)I"⟩, method_18_code, 5, (Option.some Jvm.ClassFile.FieldType.int), [((0 : Nat), (17 : Nat), (20 : Nat), (21 : Nat)), ((0 : Nat), (17 : Nat), (24 : Nat), (13 : Nat))])
def mX0_freeze : MD := (0, ⟨"LeafcreditLaw", "freeze", "(LLeafcredit;I[J)I"⟩, method_19_code, 4, (Option.some Jvm.ClassFile.FieldType.int), [((0 : Nat), (9 : Nat), (12 : Nat), (21 : Nat)), ((0 : Nat), (9 : Nat), (15 : Nat), (26 : Nat))])
def mX0_release : MD := (0, ⟨"LeafcreditLaw", "release", "(LLeafcredit;I[J)I"⟩, method_20_code, 4, (Option.some Jvm.ClassFile.FieldType.int), [((0 : Nat), (9 : Nat), (12 : Nat), (21 : Nat)), ((0 : Nat), (9 : Nat), (15 : Nat), (26 : Nat))])
def mX0_stateOf : MD := (0, ⟨"LeafcreditLaw", "stateOf", "(LLeafcredit;I[J)I"⟩, method_21_code, 4, (Option.some Jvm.ClassFile.FieldType.int), [((0 : Nat), (9 : Nat), (12 : Nat), (21 : Nat))])
def mX0_units : MD := (0, ⟨"LeafcreditLaw", "units", "(LLeafcredit;IC[J)I"⟩, method_22_code, 5, (Option.some Jvm.ClassFile.FieldType.int), [((0 : Nat), (10 : Nat), (13 : Nat), (21 : Nat)), ((0 : Nat), (10 : Nat), (17 : Nat), (13 : Nat))])
def mX0_usable : MD := (0, ⟨"LeafcreditLaw", "usable", "(LLeafcredit;IC[J)I"⟩, method_23_code, 5, (Option.some Jvm.ClassFile.FieldType.int), [((0 : Nat), (10 : Nat), (13 : Nat), (21 : Nat)), ((0 : Nat), (10 : Nat), (17 : Nat), (13 : Nat))])
def mX0_holderOf : MD := (0, ⟨"LeafcreditLaw", "holderOf", "(LLeafcredit;I[J)I"⟩, method_24_code, 4, (Option.some Jvm.ClassFile.FieldType.int), [((0 : Nat), (9 : Nat), (12 : Nat), (21 : Nat))])
def mX0_vintageOf : MD := (0, ⟨"LeafcreditLaw", "vintageOf", "(LLeafcredit;I[J)I"⟩, method_25_code, 4, (Option.some Jvm.ClassFile.FieldType.int), [((0 : Nat), (9 : Nat), (12 : Nat), (21 : Nat))])
def mX0_isFrozen : MD := (0, ⟨"LeafcreditLaw", "isFrozen", "(LLeafcredit;I[J)I"⟩, method_26_code, 4, (Option.some Jvm.ClassFile.FieldType.int), [((0 : Nat), (16 : Nat), (19 : Nat), (21 : Nat))])
def mX0_surrender : MD := (0, ⟨"LeafcreditLaw", "surrender", "(LLeafcredit;IICI[J)I"⟩, method_27_code, 7, (Option.some Jvm.ClassFile.FieldType.int), [((0 : Nat), (13 : Nat), (16 : Nat), (21 : Nat)), ((0 : Nat), (13 : Nat), (20 : Nat), (13 : Nat)), ((0 : Nat), (13 : Nat), (24 : Nat), (36 : Nat)), ((0 : Nat), (13 : Nat), (28 : Nat), (26 : Nat))])
def mX0_surrendered : MD := (0, ⟨"LeafcreditLaw", "surrendered", "(LLeafcredit;C[J)I"⟩, method_28_code, 4, (Option.some Jvm.ClassFile.FieldType.int), [((0 : Nat), (9 : Nat), (12 : Nat), (13 : Nat))])
def mX0_addProject : MD := (0, ⟨"LeafcreditLaw", "addProject", "(LLeafcredit;IIIIZ[J)I"⟩, method_29_code, 8, (Option.some Jvm.ClassFile.FieldType.int), [((0 : Nat), (16 : Nat), (19 : Nat), (21 : Nat)), ((0 : Nat), (16 : Nat), (23 : Nat), (13 : Nat)), ((0 : Nat), (16 : Nat), (27 : Nat), (15 : Nat))])
def mX0_verify : MD := (0, ⟨"LeafcreditLaw", "verify", "(LLeafcredit;II[J)I"⟩, method_30_code, 5, (Option.some Jvm.ClassFile.FieldType.int), [((0 : Nat), (10 : Nat), (13 : Nat), (21 : Nat)), ((0 : Nat), (10 : Nat), (17 : Nat), (13 : Nat)), ((0 : Nat), (10 : Nat), (21 : Nat), (15 : Nat))])
def mX0_reverse : MD := (0, ⟨"LeafcreditLaw", "reverse", "(LLeafcredit;II[J)I"⟩, method_31_code, 5, (Option.some Jvm.ClassFile.FieldType.int), [((0 : Nat), (10 : Nat), (13 : Nat), (21 : Nat)), ((0 : Nat), (10 : Nat), (17 : Nat), (13 : Nat))])
def mX0_addGood : MD := (0, ⟨"LeafcreditLaw", "addGood", "(LLeafcredit;III[J)I"⟩, method_32_code, 6, (Option.some Jvm.ClassFile.FieldType.int), [((0 : Nat), (12 : Nat), (15 : Nat), (21 : Nat)), ((0 : Nat), (12 : Nat), (19 : Nat), (13 : Nat)), ((0 : Nat), (12 : Nat), (23 : Nat), (15 : Nat))])
def mX0_embedded : MD := (0, ⟨"LeafcreditLaw", "embedded", "(LLeafcredit;I[J)I"⟩, method_33_code, 4, (Option.some Jvm.ClassFile.FieldType.int), [((0 : Nat), (8 : Nat), (11 : Nat), (21 : Nat))])
def mX0_importGood : MD := (0, ⟨"LeafcreditLaw", "importGood", "(LLeafcredit;IIII[J)I"⟩, method_34_code, 7, (Option.some Jvm.ClassFile.FieldType.int), [((0 : Nat), (13 : Nat), (16 : Nat), (21 : Nat)), ((0 : Nat), (13 : Nat), (20 : Nat), (13 : Nat))])
def mX0_advance : MD := (0, ⟨"LeafcreditLaw", "advance", "(LLeafcredit;I[J)I"⟩, method_35_code, 4, (Option.some Jvm.ClassFile.FieldType.int), [((0 : Nat), (9 : Nat), (12 : Nat), (13 : Nat))])
def mX0_offsetShare : MD := (0, ⟨"LeafcreditLaw", "offsetShare", "(LLeafcredit;[D)I"⟩, method_36_code, 3, (Option.some Jvm.ClassFile.FieldType.int), [((0 : Nat), (8 : Nat), (11 : Nat), (36 : Nat))])
def mX0_meanVintage : MD := (0, ⟨"LeafcreditLaw", "meanVintage", "(LLeafcredit;[D)I"⟩, method_37_code, 3, (Option.some Jvm.ClassFile.FieldType.int), [((0 : Nat), (7 : Nat), (10 : Nat), (36 : Nat))])
def mX1_init : MD := (1, ⟨"Leafcredit", "<init>", "()V"⟩, prog_1_method_3_code, 1, (Option.none : Option Jvm.ClassFile.FieldType), [])
def mX1_volume : MD := (1, ⟨"Leafcredit", "volume", "()I"⟩, prog_1_method_32_code, 1, (Option.some Jvm.ClassFile.FieldType.int), [])
def mX1_reserve : MD := (1, ⟨"Leafcredit", "reserve", "()I"⟩, prog_1_method_33_code, 1, (Option.some Jvm.ClassFile.FieldType.int), [])
def mX1_circulation : MD := (1, ⟨"Leafcredit", "circulation", "()I"⟩, prog_1_method_34_code, 4, (Option.some Jvm.ClassFile.FieldType.int), [])
def mX1_made : MD := (1, ⟨"Leafcredit", "made", "()I"⟩, prog_1_method_46_code, 1, (Option.some Jvm.ClassFile.FieldType.int), [])
def mX1_blocks : MD := (1, ⟨"Leafcredit", "blocks", "()I"⟩, prog_1_method_51_code, 6, (Option.some Jvm.ClassFile.FieldType.int), [])
def mX1_cancelled : MD := (1, ⟨"Leafcredit", "cancelled", "()I"⟩, prog_1_method_54_code, 1, (Option.some Jvm.ClassFile.FieldType.int), [])
def mX1_entries : MD := (1, ⟨"Leafcredit", "entries", "()I"⟩, prog_1_method_55_code, 1, (Option.some Jvm.ClassFile.FieldType.int), [])
def mX1_day : MD := (1, ⟨"Leafcredit", "day", "()I"⟩, prog_1_method_66_code, 1, (Option.some Jvm.ClassFile.FieldType.int), [])
def mX1_isSound : MD := (1, ⟨"Leafcredit", "isSound", "()Z"⟩, prog_1_method_71_code, 8, (Option.some Jvm.ClassFile.FieldType.boolean), [])
def mX1_byJournal : MD := (1, ⟨"Leafcredit", "byJournal", "()Ljava/util/TreeMap;"⟩, prog_1_method_69_code, 4, (Option.some (Jvm.ClassFile.FieldType.object "java/util/TreeMap")), [])
def mX1_cut : MD := (1, ⟨"Leafcredit", "cut", "(Ljava/util/TreeMap;I)V"⟩, prog_1_method_70_code, 3, (Option.none : Option Jvm.ClassFile.FieldType), [])
def mX1_addAccount : MD := (1, ⟨"Leafcredit", "addAccount", "(I)I"⟩, prog_1_method_16_code, 2, (Option.some Jvm.ClassFile.FieldType.int), [])
def mX1_isBetween : MD := (1, ⟨"Leafcredit", "isBetween", "(III)Z"⟩, prog_1_method_1_code, 3, (Option.some Jvm.ClassFile.FieldType.boolean), [])
def mX1_checkArgument : MD := (1, ⟨"Leafcredit", "checkArgument", "(Z)V"⟩, prog_1_method_4_code, 1, (Option.none : Option Jvm.ClassFile.FieldType), [])
def mX1_checkState : MD := (1, ⟨"Leafcredit", "checkState", "(Z)V"⟩, prog_1_method_5_code, 1, (Option.none : Option Jvm.ClassFile.FieldType), [])
def mX1_makePlant : MD := (1, ⟨"Leafcredit", "makePlant", "(III)I"⟩, prog_1_method_17_code, 8, (Option.some Jvm.ClassFile.FieldType.int), [])
def mX1_accountFrom : MD := (1, ⟨"Leafcredit", "accountFrom", "(II)LLeafcredit$Account;"⟩, prog_1_method_9_code, 3, (Option.some (Jvm.ClassFile.FieldType.object "Leafcredit$Account")), [])
def mX1_checkIndex : MD := (1, ⟨"Leafcredit", "checkIndex", "(Z)V"⟩, prog_1_method_8_code, 1, (Option.none : Option Jvm.ClassFile.FieldType), [])
def mX1_report : MD := (1, ⟨"Leafcredit", "report", "(III)I"⟩, prog_1_method_18_code, 7, (Option.some Jvm.ClassFile.FieldType.int), [])
def mX1_checkPossible : MD := (1, ⟨"Leafcredit", "checkPossible", "(Z)V"⟩, prog_1_method_7_code, 1, (Option.none : Option Jvm.ClassFile.FieldType), [])
def mX1_tellActivity : MD := (1, ⟨"Leafcredit", "tellActivity", "(II)I"⟩, prog_1_method_19_code, 5, (Option.some Jvm.ClassFile.FieldType.int), [])
def mX1_year : MD := (1, ⟨"Leafcredit", "year", "()I"⟩, prog_1_method_11_code, 1, (Option.some Jvm.ClassFile.FieldType.int), [])
def mX1_emissionOf : MD := (1, ⟨"Leafcredit", "emissionOf", "(II)J"⟩, prog_1_method_20_code, 4, (Option.some Jvm.ClassFile.FieldType.long), [])
def mX1_checkElement : MD := (1, ⟨"Leafcredit", "checkElement", "(Z)V"⟩, prog_1_method_6_code, 1, (Option.none : Option Jvm.ClassFile.FieldType), [])
def mX1_owed : MD := (1, ⟨"Leafcredit", "owed", "(II)J"⟩, prog_1_method_22_code, 4, (Option.some Jvm.ClassFile.FieldType.long), [])
def mX1_hasEnded : MD := (1, ⟨"Leafcredit", "hasEnded", "(I)Z"⟩, prog_1_method_21_code, 2, (Option.some Jvm.ClassFile.FieldType.boolean), [])
def mX1_freeShare : MD := (1, ⟨"Leafcredit", "freeShare", "(I)I"⟩, prog_1_method_23_code, 2, (Option.some Jvm.ClassFile.FieldType.int), [])
def mX1_cash : MD := (1, ⟨"Leafcredit", "cash", "(I)J"⟩, prog_1_method_24_code, 2, (Option.some Jvm.ClassFile.FieldType.long), [])
def mX1_setCap : MD := (1, ⟨"Leafcredit", "setCap", "(II)I"⟩, prog_1_method_26_code, 4, (Option.some Jvm.ClassFile.FieldType.int), [])
def mX1_begin : MD := (1, ⟨"Leafcredit", "begin", "()V"⟩, prog_1_method_28_code, 11, (Option.none : Option Jvm.ClassFile.FieldType), [])
def mX1_cap : MD := (1, ⟨"Leafcredit", "cap", "()I"⟩, prog_1_method_25_code, 1, (Option.some Jvm.ClassFile.FieldType.int), [])
def mX1_make : MD := (1, ⟨"Leafcredit", "make", "(ICII)V"⟩, prog_1_method_12_code, 5, (Option.none : Option Jvm.ClassFile.FieldType), [])
def mX1_setBounds : MD := (1, ⟨"Leafcredit", "setBounds", "(III)I"⟩, prog_1_method_27_code, 4, (Option.some Jvm.ClassFile.FieldType.int), [])
def mX1_bid : MD := (1, ⟨"Leafcredit", "bid", "(III)I"⟩, prog_1_method_29_code, 9, (Option.some Jvm.ClassFile.FieldType.int), [])
def mX1_auction : MD := (1, ⟨"Leafcredit", "auction", "(II)I"⟩, prog_1_method_30_code, 10, (Option.some Jvm.ClassFile.FieldType.int), [])
def mX1_price : MD := (1, ⟨"Leafcredit", "price", "()I"⟩, prog_1_method_31_code, 1, (Option.some Jvm.ClassFile.FieldType.int), [])
def mX1_transfer : MD := (1, ⟨"Leafcredit", "transfer", "(IICI)I"⟩, prog_1_method_35_code, 8, (Option.some Jvm.ClassFile.FieldType.int), [])
def mX1_isKind : MD := (1, ⟨"Leafcredit", "isKind", "(C)Z"⟩, prog_1_method_10_code, 1, (Option.some Jvm.ClassFile.FieldType.boolean), [])
def mX1_usableOf : MD := (1, ⟨"Leafcredit", "usableOf", "(IC)I"⟩, prog_1_method_13_code, 6, (Option.some Jvm.ClassFile.FieldType.int), [])
def mX1_move : MD := (1, ⟨"Leafcredit", "move", "(LLeafcredit$Transfer;)V"⟩, prog_1_method_36_code, 6, (Option.none : Option Jvm.ClassFile.FieldType), [])
def mX1_taken : MD := (1, ⟨"Leafcredit", "taken", "(ICILjava/util/Comparator;)Ljava/util/List;"⟩, prog_1_method_14_code, 11, (Option.some (Jvm.ClassFile.FieldType.object "java/util/List")), [])
def mX1_write : MD := (1, ⟨"Leafcredit", "write", "(Ljava/util/List;I)V"⟩, prog_1_method_15_code, 6, (Option.none : Option Jvm.ClassFile.FieldType), [])
def mX1_confirm : MD := (1, ⟨"Leafcredit", "confirm", "(I)I"⟩, prog_1_method_38_code, 3, (Option.some Jvm.ClassFile.FieldType.int), [])
def mX1_transferWith : MD := (1, ⟨"Leafcredit", "transferWith", "(I)LLeafcredit$Transfer;"⟩, prog_1_method_37_code, 2, (Option.some (Jvm.ClassFile.FieldType.object "Leafcredit$Transfer")), [])
def mX1_trust : MD := (1, ⟨"Leafcredit", "trust", "(II)Z"⟩, prog_1_method_39_code, 5, (Option.some Jvm.ClassFile.FieldType.boolean), [])
def mX1_freeze : MD := (1, ⟨"Leafcredit", "freeze", "(I)I"⟩, prog_1_method_41_code, 8, (Option.some Jvm.ClassFile.FieldType.int), [])
def mX1_piecesOf : MD := (1, ⟨"Leafcredit", "piecesOf", "([I)Ljava/util/Map;"⟩, prog_1_method_40_code, 2, (Option.some (Jvm.ClassFile.FieldType.object "java/util/Map")), [])
def mX1_release : MD := (1, ⟨"Leafcredit", "release", "(I)I"⟩, prog_1_method_42_code, 8, (Option.some Jvm.ClassFile.FieldType.int), [])
def mX1_stateOf : MD := (1, ⟨"Leafcredit", "stateOf", "(I)C"⟩, prog_1_method_43_code, 2, (Option.some Jvm.ClassFile.FieldType.char), [])
def mX1_units : MD := (1, ⟨"Leafcredit", "units", "(IC)I"⟩, prog_1_method_44_code, 6, (Option.some Jvm.ClassFile.FieldType.int), [])
def mX1_usable : MD := (1, ⟨"Leafcredit", "usable", "(IC)I"⟩, prog_1_method_45_code, 3, (Option.some Jvm.ClassFile.FieldType.int), [])
def mX1_holderOf : MD := (1, ⟨"Leafcredit", "holderOf", "(I)I"⟩, prog_1_method_48_code, 2, (Option.some Jvm.ClassFile.FieldType.int), [])
def mX1_pieceWith : MD := (1, ⟨"Leafcredit", "pieceWith", "(I)LLeafcredit$Piece;"⟩, prog_1_method_47_code, 2, (Option.some (Jvm.ClassFile.FieldType.object "Leafcredit$Piece")), [])
def mX1_vintageOf : MD := (1, ⟨"Leafcredit", "vintageOf", "(I)I"⟩, prog_1_method_49_code, 2, (Option.some Jvm.ClassFile.FieldType.int), [])
def mX1_isFrozen : MD := (1, ⟨"Leafcredit", "isFrozen", "(I)Z"⟩, prog_1_method_50_code, 2, (Option.some Jvm.ClassFile.FieldType.boolean), [])
def mX1_surrender : MD := (1, ⟨"Leafcredit", "surrender", "(IICI)J"⟩, prog_1_method_52_code, 8, (Option.some Jvm.ClassFile.FieldType.long), [])
def mX1_surrendered : MD := (1, ⟨"Leafcredit", "surrendered", "(C)I"⟩, prog_1_method_53_code, 2, (Option.some Jvm.ClassFile.FieldType.int), [])
def mX1_addProject : MD := (1, ⟨"Leafcredit", "addProject", "(IIIIZ)I"⟩, prog_1_method_56_code, 7, (Option.some Jvm.ClassFile.FieldType.int), [])
def mX1_verify : MD := (1, ⟨"Leafcredit", "verify", "(II)I"⟩, prog_1_method_58_code, 6, (Option.some Jvm.ClassFile.FieldType.int), [])
def mX1_projectWith : MD := (1, ⟨"Leafcredit", "projectWith", "(I)LLeafcredit$Project;"⟩, prog_1_method_57_code, 2, (Option.some (Jvm.ClassFile.FieldType.object "Leafcredit$Project")), [])
def mX1_up : MD := (1, ⟨"Leafcredit", "up", "(JJ)J"⟩, prog_1_method_2_code, 4, (Option.some Jvm.ClassFile.FieldType.long), [])
def mX1_reverse : MD := (1, ⟨"Leafcredit", "reverse", "(II)I"⟩, prog_1_method_59_code, 5, (Option.some Jvm.ClassFile.FieldType.int), [])
def mX1_addGood : MD := (1, ⟨"Leafcredit", "addGood", "(III)I"⟩, prog_1_method_60_code, 4, (Option.some Jvm.ClassFile.FieldType.int), [])
def mX1_embedded : MD := (1, ⟨"Leafcredit", "embedded", "(I)J"⟩, prog_1_method_61_code, 2, (Option.some Jvm.ClassFile.FieldType.long), [])
def mX1_importGood : MD := (1, ⟨"Leafcredit", "importGood", "(IIII)J"⟩, prog_1_method_62_code, 8, (Option.some Jvm.ClassFile.FieldType.long), [])
def mX1_advance : MD := (1, ⟨"Leafcredit", "advance", "(I)I"⟩, prog_1_method_63_code, 3, (Option.some Jvm.ClassFile.FieldType.int), [])
def mX1_end : MD := (1, ⟨"Leafcredit", "end", "(I)V"⟩, prog_1_method_64_code, 3, (Option.none : Option Jvm.ClassFile.FieldType), [])
def mX1_demand : MD := (1, ⟨"Leafcredit", "demand", "(I)V"⟩, prog_1_method_65_code, 5, (Option.none : Option Jvm.ClassFile.FieldType), [])
def mX1_offsetShare : MD := (1, ⟨"Leafcredit", "offsetShare", "()F"⟩, prog_1_method_67_code, 1, (Option.some Jvm.ClassFile.FieldType.float), [])
def mX1_meanVintage : MD := (1, ⟨"Leafcredit", "meanVintage", "()D"⟩, prog_1_method_68_code, 6, (Option.some Jvm.ClassFile.FieldType.double), [])
def mX2_init : MD := (2, ⟨"Leafcredit$ByPrice", "<init>", "()V"⟩, prog_4_method_1_code, 1, (Option.none : Option Jvm.ClassFile.FieldType), [])
def mX2_compare : MD := (2, ⟨"Leafcredit$ByPrice", "compare", "(Ljava/lang/Object;Ljava/lang/Object;)I"⟩, prog_4_method_3_code, 3, (Option.some Jvm.ClassFile.FieldType.int), [])
def mX2_compare_2 : MD := (2, ⟨"Leafcredit$ByPrice", "compare", "(LLeafcredit$Bid;LLeafcredit$Bid;)I"⟩, prog_4_method_2_code, 3, (Option.some Jvm.ClassFile.FieldType.int), [])
def mX3_init : MD := (3, ⟨"Leafcredit$Account", "<init>", "(IJ)V"⟩, prog_2_method_1_code, 4, (Option.none : Option Jvm.ClassFile.FieldType), [])
def mX3_end : MD := (3, ⟨"Leafcredit$Account", "end", "(I)V"⟩, prog_2_method_2_code, 6, (Option.none : Option Jvm.ClassFile.FieldType), [])
def mX4_init : MD := (4, ⟨"Leafcredit$Sum", "<init>", "()V"⟩, prog_12_method_1_code, 1, (Option.none : Option Jvm.ClassFile.FieldType), [])
def mX4_owed : MD := (4, ⟨"Leafcredit$Sum", "owed", "()J"⟩, prog_12_method_2_code, 1, (Option.some Jvm.ClassFile.FieldType.long), [])
def mX4_clear : MD := (4, ⟨"Leafcredit$Sum", "clear", "()V"⟩, prog_12_method_3_code, 1, (Option.none : Option Jvm.ClassFile.FieldType), [])
def mX5_init : MD := (5, ⟨"LeafcreditModel", "<init>", "()V"⟩, prog_15_method_1_code, 1, (Option.none : Option Jvm.ClassFile.FieldType), [])
def mX5_thrown : MD := (5, ⟨"LeafcreditModel", "thrown", "()I"⟩, prog_15_method_2_code, 1, (Option.some Jvm.ClassFile.FieldType.int), [])
def mX5_addAccount : MD := (5, ⟨"LeafcreditModel", "addAccount", "(I)I"⟩, prog_15_method_9_code, 2, (Option.some Jvm.ClassFile.FieldType.int), [])
def mX5_in : MD := (5, ⟨"LeafcreditModel", "in", "(JJJ)Z"⟩, prog_15_method_3_code, 6, (Option.some Jvm.ClassFile.FieldType.boolean), [])
def mX5_makePlant : MD := (5, ⟨"LeafcreditModel", "makePlant", "(III)I"⟩, prog_15_method_10_code, 8, (Option.some Jvm.ClassFile.FieldType.int), [])
def mX5_isOther : MD := (5, ⟨"LeafcreditModel", "isOther", "(I)Z"⟩, prog_15_method_6_code, 2, (Option.some Jvm.ClassFile.FieldType.boolean), [])
def mX5_report : MD := (5, ⟨"LeafcreditModel", "report", "(III)I"⟩, prog_15_method_11_code, 7, (Option.some Jvm.ClassFile.FieldType.int), [])
def mX5_tellActivity : MD := (5, ⟨"LeafcreditModel", "tellActivity", "(II)I"⟩, prog_15_method_12_code, 4, (Option.some Jvm.ClassFile.FieldType.int), [])
def mX5_year : MD := (5, ⟨"LeafcreditModel", "year", "()I"⟩, prog_15_method_5_code, 1, (Option.some Jvm.ClassFile.FieldType.int), [])
def mX5_emissionOf : MD := (5, ⟨"LeafcreditModel", "emissionOf", "(II)J"⟩, prog_15_method_14_code, 3, (Option.some Jvm.ClassFile.FieldType.long), [])
def mX5_hasEnded : MD := (5, ⟨"LeafcreditModel", "hasEnded", "(I)Z"⟩, prog_15_method_13_code, 2, (Option.some Jvm.ClassFile.FieldType.boolean), [])
def mX5_owed : MD := (5, ⟨"LeafcreditModel", "owed", "(II)J"⟩, prog_15_method_15_code, 3, (Option.some Jvm.ClassFile.FieldType.long), [])
def mX5_freeShare : MD := (5, ⟨"LeafcreditModel", "freeShare", "(I)I"⟩, prog_15_method_16_code, 2, (Option.some Jvm.ClassFile.FieldType.int), [])
def mX5_cash : MD := (5, ⟨"LeafcreditModel", "cash", "(I)J"⟩, prog_15_method_17_code, 2, (Option.some Jvm.ClassFile.FieldType.long), [])
def mX5_transfer : MD := (5, ⟨"LeafcreditModel", "transfer", "(IICI)I"⟩, prog_15_method_25_code, 6, (Option.some Jvm.ClassFile.FieldType.int), [])
def mX5_isKind : MD := (5, ⟨"LeafcreditModel", "isKind", "(C)Z"⟩, prog_15_method_7_code, 1, (Option.some Jvm.ClassFile.FieldType.boolean), [])
def mX5_usableOf : MD := (5, ⟨"LeafcreditModel", "usableOf", "(IC)I"⟩, prog_15_method_20_code, 6, (Option.some Jvm.ClassFile.FieldType.int), [])
def mX5_isUsable : MD := (5, ⟨"LeafcreditModel", "isUsable", "(LLeafcreditModel$Row;IC)Z"⟩, prog_15_method_19_code, 4, (Option.some Jvm.ClassFile.FieldType.boolean), [])
def mX5_move : MD := (5, ⟨"LeafcreditModel", "move", "(LLeafcreditModel$Transfer;)V"⟩, prog_15_method_24_code, 5, (Option.none : Option Jvm.ClassFile.FieldType), [])
def mX5_take : MD := (5, ⟨"LeafcreditModel", "take", "(ICIII)Ljava/util/ArrayList;"⟩, prog_15_method_23_code, 10, (Option.some (Jvm.ClassFile.FieldType.object "java/util/ArrayList")), [])
def mX5_next : MD := (5, ⟨"LeafcreditModel", "next", "(ICI)LLeafcreditModel$Row;"⟩, prog_15_method_22_code, 8, (Option.some (Jvm.ClassFile.FieldType.object "LeafcreditModel$Row")), [])
def mX5_cut : MD := (5, ⟨"LeafcreditModel", "cut", "(LLeafcreditModel$Row;I)V"⟩, prog_15_method_21_code, 4, (Option.none : Option Jvm.ClassFile.FieldType), [])
def mX5_confirm : MD := (5, ⟨"LeafcreditModel", "confirm", "(I)I"⟩, prog_15_method_27_code, 3, (Option.some Jvm.ClassFile.FieldType.int), [])
def mX5_isTransfer : MD := (5, ⟨"LeafcreditModel", "isTransfer", "(I)Z"⟩, prog_15_method_26_code, 2, (Option.some Jvm.ClassFile.FieldType.boolean), [])
def mX5_trust : MD := (5, ⟨"LeafcreditModel", "trust", "(II)Z"⟩, prog_15_method_28_code, 4, (Option.some Jvm.ClassFile.FieldType.boolean), [])
def mX5_freeze : MD := (5, ⟨"LeafcreditModel", "freeze", "(I)I"⟩, prog_15_method_30_code, 2, (Option.some Jvm.ClassFile.FieldType.int), [])
def mX5_freeze_2 : MD := (5, ⟨"LeafcreditModel", "freeze", "(IZ)I"⟩, prog_15_method_29_code, 8, (Option.some Jvm.ClassFile.FieldType.int), [])
def mX5_release : MD := (5, ⟨"LeafcreditModel", "release", "(I)I"⟩, prog_15_method_31_code, 2, (Option.some Jvm.ClassFile.FieldType.int), [])
def mX5_stateOf : MD := (5, ⟨"LeafcreditModel", "stateOf", "(I)C"⟩, prog_15_method_32_code, 2, (Option.some Jvm.ClassFile.FieldType.char), [])
def mX5_units : MD := (5, ⟨"LeafcreditModel", "units", "(IC)I"⟩, prog_15_method_34_code, 6, (Option.some Jvm.ClassFile.FieldType.int), [])
def mX5_wrongHolder : MD := (5, ⟨"LeafcreditModel", "wrongHolder", "(IC)I"⟩, prog_15_method_33_code, 3, (Option.some Jvm.ClassFile.FieldType.int), [])
def mX5_usable : MD := (5, ⟨"LeafcreditModel", "usable", "(IC)I"⟩, prog_15_method_35_code, 3, (Option.some Jvm.ClassFile.FieldType.int), [])
def mX5_made : MD := (5, ⟨"LeafcreditModel", "made", "()I"⟩, prog_15_method_36_code, 1, (Option.some Jvm.ClassFile.FieldType.int), [])
def mX5_plain : MD := (5, ⟨"LeafcreditModel", "plain", "(I)I"⟩, prog_15_method_4_code, 2, (Option.some Jvm.ClassFile.FieldType.int), [])
def mX5_holderOf : MD := (5, ⟨"LeafcreditModel", "holderOf", "(I)I"⟩, prog_15_method_38_code, 3, (Option.some Jvm.ClassFile.FieldType.int), [])
def mX5_rowOf : MD := (5, ⟨"LeafcreditModel", "rowOf", "(I)LLeafcreditModel$Row;"⟩, prog_15_method_37_code, 4, (Option.some (Jvm.ClassFile.FieldType.object "LeafcreditModel$Row")), [])
def mX5_vintageOf : MD := (5, ⟨"LeafcreditModel", "vintageOf", "(I)I"⟩, prog_15_method_39_code, 3, (Option.some Jvm.ClassFile.FieldType.int), [])
def mX5_isFrozen : MD := (5, ⟨"LeafcreditModel", "isFrozen", "(I)Z"⟩, prog_15_method_40_code, 3, (Option.some Jvm.ClassFile.FieldType.boolean), [])
def mX5_blocks : MD := (5, ⟨"LeafcreditModel", "blocks", "()I"⟩, prog_15_method_41_code, 3, (Option.some Jvm.ClassFile.FieldType.int), [])
def mX5_surrender : MD := (5, ⟨"LeafcreditModel", "surrender", "(IICI)J"⟩, prog_15_method_42_code, 7, (Option.some Jvm.ClassFile.FieldType.long), [])
def mX5_surrendered : MD := (5, ⟨"LeafcreditModel", "surrendered", "(C)I"⟩, prog_15_method_43_code, 2, (Option.some Jvm.ClassFile.FieldType.int), [])
def mX5_cancelled : MD := (5, ⟨"LeafcreditModel", "cancelled", "()I"⟩, prog_15_method_44_code, 1, (Option.some Jvm.ClassFile.FieldType.int), [])
def mX5_entries : MD := (5, ⟨"LeafcreditModel", "entries", "()I"⟩, prog_15_method_45_code, 1, (Option.some Jvm.ClassFile.FieldType.int), [])
def mX5_setCap : MD := (5, ⟨"LeafcreditModel", "setCap", "(II)I"⟩, prog_15_method_49_code, 3, (Option.some Jvm.ClassFile.FieldType.int), [])
def mX5_beginYear : MD := (5, ⟨"LeafcreditModel", "beginYear", "()V"⟩, prog_15_method_48_code, 10, (Option.none : Option Jvm.ClassFile.FieldType), [])
def mX5_cap : MD := (5, ⟨"LeafcreditModel", "cap", "()I"⟩, prog_15_method_46_code, 1, (Option.some Jvm.ClassFile.FieldType.int), [])
def mX5_make : MD := (5, ⟨"LeafcreditModel", "make", "(CIII)V"⟩, prog_15_method_18_code, 5, (Option.none : Option Jvm.ClassFile.FieldType), [])
def mX5_circulating : MD := (5, ⟨"LeafcreditModel", "circulating", "()I"⟩, prog_15_method_47_code, 4, (Option.some Jvm.ClassFile.FieldType.int), [])
def mX5_setBounds : MD := (5, ⟨"LeafcreditModel", "setBounds", "(III)I"⟩, prog_15_method_50_code, 4, (Option.some Jvm.ClassFile.FieldType.int), [])
def mX5_bid : MD := (5, ⟨"LeafcreditModel", "bid", "(III)I"⟩, prog_15_method_51_code, 9, (Option.some Jvm.ClassFile.FieldType.int), [])
def mX5_auction : MD := (5, ⟨"LeafcreditModel", "auction", "(II)I"⟩, prog_15_method_52_code, 9, (Option.some Jvm.ClassFile.FieldType.int), [])
def mX5_price : MD := (5, ⟨"LeafcreditModel", "price", "()I"⟩, prog_15_method_53_code, 1, (Option.some Jvm.ClassFile.FieldType.int), [])
def mX5_volume : MD := (5, ⟨"LeafcreditModel", "volume", "()I"⟩, prog_15_method_54_code, 1, (Option.some Jvm.ClassFile.FieldType.int), [])
def mX5_reserve : MD := (5, ⟨"LeafcreditModel", "reserve", "()I"⟩, prog_15_method_55_code, 1, (Option.some Jvm.ClassFile.FieldType.int), [])
def mX5_circulation : MD := (5, ⟨"LeafcreditModel", "circulation", "()I"⟩, prog_15_method_56_code, 1, (Option.some Jvm.ClassFile.FieldType.int), [])
def mX5_addProject : MD := (5, ⟨"LeafcreditModel", "addProject", "(IIIIZ)I"⟩, prog_15_method_58_code, 6, (Option.some Jvm.ClassFile.FieldType.int), [])
def mX5_verify : MD := (5, ⟨"LeafcreditModel", "verify", "(II)I"⟩, prog_15_method_59_code, 6, (Option.some Jvm.ClassFile.FieldType.int), [])
def mX5_isProject : MD := (5, ⟨"LeafcreditModel", "isProject", "(I)Z"⟩, prog_15_method_57_code, 2, (Option.some Jvm.ClassFile.FieldType.boolean), [])
def mX5_up : MD := (5, ⟨"LeafcreditModel", "up", "(JJ)J"⟩, prog_15_method_8_code, 4, (Option.some Jvm.ClassFile.FieldType.long), [])
def mX5_reverse : MD := (5, ⟨"LeafcreditModel", "reverse", "(II)I"⟩, prog_15_method_60_code, 4, (Option.some Jvm.ClassFile.FieldType.int), [])
def mX5_addGood : MD := (5, ⟨"LeafcreditModel", "addGood", "(III)I"⟩, prog_15_method_62_code, 4, (Option.some Jvm.ClassFile.FieldType.int), [])
def mX5_isGood : MD := (5, ⟨"LeafcreditModel", "isGood", "(I)Z"⟩, prog_15_method_61_code, 2, (Option.some Jvm.ClassFile.FieldType.boolean), [])
def mX5_embedded : MD := (5, ⟨"LeafcreditModel", "embedded", "(I)J"⟩, prog_15_method_64_code, 2, (Option.some Jvm.ClassFile.FieldType.long), [])
def mX5_embeddedIn : MD := (5, ⟨"LeafcreditModel", "embeddedIn", "(I)J"⟩, prog_15_method_63_code, 3, (Option.some Jvm.ClassFile.FieldType.long), [])
def mX5_importGood : MD := (5, ⟨"LeafcreditModel", "importGood", "(IIII)J"⟩, prog_15_method_65_code, 7, (Option.some Jvm.ClassFile.FieldType.long), [])
def mX5_advance : MD := (5, ⟨"LeafcreditModel", "advance", "(I)I"⟩, prog_15_method_69_code, 3, (Option.some Jvm.ClassFile.FieldType.int), [])
def mX5_endYear : MD := (5, ⟨"LeafcreditModel", "endYear", "(I)V"⟩, prog_15_method_67_code, 4, (Option.none : Option Jvm.ClassFile.FieldType), [])
def mX5_emitted : MD := (5, ⟨"LeafcreditModel", "emitted", "(LLeafcreditModel$Account;I)J"⟩, prog_15_method_66_code, 5, (Option.some Jvm.ClassFile.FieldType.long), [])
def mX5_fallDue : MD := (5, ⟨"LeafcreditModel", "fallDue", "(I)V"⟩, prog_15_method_68_code, 4, (Option.none : Option Jvm.ClassFile.FieldType), [])
def mX5_day : MD := (5, ⟨"LeafcreditModel", "day", "()I"⟩, prog_15_method_70_code, 1, (Option.some Jvm.ClassFile.FieldType.int), [])
def mX5_offsetShare : MD := (5, ⟨"LeafcreditModel", "offsetShare", "()F"⟩, prog_15_method_71_code, 1, (Option.some Jvm.ClassFile.FieldType.float), [])
def mX5_meanVintage : MD := (5, ⟨"LeafcreditModel", "meanVintage", "()D"⟩, prog_15_method_72_code, 6, (Option.some Jvm.ClassFile.FieldType.double), [])
def mX5_isSound : MD := (5, ⟨"LeafcreditModel", "isSound", "()Z"⟩, prog_15_method_73_code, 1, (Option.some Jvm.ClassFile.FieldType.boolean), [])
def mX6_init : MD := (6, ⟨"LeafcreditModel$Account", "<init>", "(J)V"⟩, prog_16_method_1_code, 4, (Option.none : Option Jvm.ClassFile.FieldType), [])
def mX7_init : MD := (7, ⟨"Leafcredit$Plant", "<init>", "()V"⟩, prog_10_method_1_code, 1, (Option.none : Option Jvm.ClassFile.FieldType), [])
def mX7_average : MD := (7, ⟨"Leafcredit$Plant", "average", "(I)I"⟩, prog_10_method_4_code, 4, (Option.some Jvm.ClassFile.FieldType.int), [])
def mX7_owed : MD := (7, ⟨"Leafcredit$Plant", "owed", "()J"⟩, prog_10_method_2_code, 3, (Option.some Jvm.ClassFile.FieldType.long), [])
def mX7_clear : MD := (7, ⟨"Leafcredit$Plant", "clear", "()V"⟩, prog_10_method_3_code, 1, (Option.none : Option Jvm.ClassFile.FieldType), [])
def mX8_size : MD := (8, ⟨"Leafcredit$Piece", "size", "()I"⟩, prog_9_method_2_code, 1, (Option.some Jvm.ClassFile.FieldType.int), [])
def mX8_isAlike : MD := (8, ⟨"Leafcredit$Piece", "isAlike", "(LLeafcredit$Piece;I)Z"⟩, prog_9_method_4_code, 4, (Option.some Jvm.ClassFile.FieldType.boolean), [])
def mX8_init : MD := (8, ⟨"Leafcredit$Piece", "<init>", "(IICIII)V"⟩, prog_9_method_1_code, 7, (Option.none : Option Jvm.ClassFile.FieldType), [])
def mX8_isUsable : MD := (8, ⟨"Leafcredit$Piece", "isUsable", "(ICI)Z"⟩, prog_9_method_3_code, 4, (Option.some Jvm.ClassFile.FieldType.boolean), [])
def mX8_part : MD := (8, ⟨"Leafcredit$Piece", "part", "(I)LLeafcredit$Piece;"⟩, prog_9_method_5_code, 3, (Option.some (Jvm.ClassFile.FieldType.object "Leafcredit$Piece")), [])
def mX9_init : MD := (9, ⟨"Leafcredit$Entry", "<init>", "(III)V"⟩, prog_7_method_1_code, 4, (Option.none : Option Jvm.ClassFile.FieldType), [])
def mX10_isLocked : MD := (10, ⟨"LeafcreditModel$Row", "isLocked", "(I)Z"⟩, prog_20_method_3_code, 2, (Option.some Jvm.ClassFile.FieldType.boolean), [])
def mX10_size : MD := (10, ⟨"LeafcreditModel$Row", "size", "()I"⟩, prog_20_method_2_code, 1, (Option.some Jvm.ClassFile.FieldType.int), [])
def mX10_init : MD := (10, ⟨"LeafcreditModel$Row", "<init>", "(IICIII)V"⟩, prog_20_method_1_code, 7, (Option.none : Option Jvm.ClassFile.FieldType), [])
def mX10_isLike : MD := (10, ⟨"LeafcreditModel$Row", "isLike", "(LLeafcreditModel$Row;I)Z"⟩, prog_20_method_4_code, 5, (Option.some Jvm.ClassFile.FieldType.boolean), [])
def mX11_init : MD := (11, ⟨"Leafcredit$Bid", "<init>", "(ILLeafcredit$Account;II)V"⟩, prog_3_method_1_code, 5, (Option.none : Option Jvm.ClassFile.FieldType), [])
def mX12_init : MD := (12, ⟨"LeafcreditModel$Bid", "<init>", "(III)V"⟩, prog_17_method_1_code, 4, (Option.none : Option Jvm.ClassFile.FieldType), [])
def mX12_cost : MD := (12, ⟨"LeafcreditModel$Bid", "cost", "()J"⟩, prog_17_method_2_code, 1, (Option.some Jvm.ClassFile.FieldType.long), [])
def mX12_account : MD := (12, ⟨"LeafcreditModel$Bid", "account", "()I"⟩, prog_17_method_6_code, 1, (Option.some Jvm.ClassFile.FieldType.int), [])
def mX12_price : MD := (12, ⟨"LeafcreditModel$Bid", "price", "()I"⟩, prog_17_method_8_code, 1, (Option.some Jvm.ClassFile.FieldType.int), [])
def mX12_units : MD := (12, ⟨"LeafcreditModel$Bid", "units", "()I"⟩, prog_17_method_7_code, 1, (Option.some Jvm.ClassFile.FieldType.int), [])
def mX13_init : MD := (13, ⟨"Leafcredit$Transfer", "<init>", "(LLeafcredit$Account;LLeafcredit$Account;CI)V"⟩, prog_13_method_1_code, 5, (Option.none : Option Jvm.ClassFile.FieldType), [])
def mX14_compare : MD := (14, ⟨"Leafcredit$ByUse", "compare", "(Ljava/lang/Object;Ljava/lang/Object;)I"⟩, prog_5_method_3_code, 3, (Option.some Jvm.ClassFile.FieldType.int), [])
def mX14_compare_2 : MD := (14, ⟨"Leafcredit$ByUse", "compare", "(LLeafcredit$Piece;LLeafcredit$Piece;)I"⟩, prog_5_method_2_code, 4, (Option.some Jvm.ClassFile.FieldType.int), [])
def mX14_init : MD := (14, ⟨"Leafcredit$ByUse", "<init>", "(I)V"⟩, prog_5_method_1_code, 2, (Option.none : Option Jvm.ClassFile.FieldType), [])
def mX15_init : MD := (15, ⟨"LeafcreditModel$Transfer", "<init>", "(IICI)V"⟩, prog_21_method_1_code, 5, (Option.none : Option Jvm.ClassFile.FieldType), [])
def mX16_init : MD := (16, ⟨"Leafcredit$Project", "<init>", "(LLeafcredit$Account;IIIZ)V"⟩, prog_11_method_1_code, 6, (Option.none : Option Jvm.ClassFile.FieldType), [])
def mX16_offsets : MD := (16, ⟨"Leafcredit$Project", "offsets", "(I)I"⟩, prog_11_method_2_code, 2, (Option.some Jvm.ClassFile.FieldType.int), [])
def mX17_init : MD := (17, ⟨"LeafcreditModel$Project", "<init>", "(IIIIZ)V"⟩, prog_19_method_1_code, 6, (Option.none : Option Jvm.ClassFile.FieldType), [])
def mX18_init : MD := (18, ⟨"Leafcredit$Good", "<init>", "(ILLeafcredit$Good;I)V"⟩, prog_8_method_1_code, 4, (Option.none : Option Jvm.ClassFile.FieldType), [])
def mX18_embedded : MD := (18, ⟨"Leafcredit$Good", "embedded", "()J"⟩, prog_8_method_2_code, 1, (Option.some Jvm.ClassFile.FieldType.long), [])
def mX19_init : MD := (19, ⟨"LeafcreditModel$Good", "<init>", "(III)V"⟩, prog_18_method_1_code, 4, (Option.none : Option Jvm.ClassFile.FieldType), [])
def mX19_own : MD := (19, ⟨"LeafcreditModel$Good", "own", "()I"⟩, prog_18_method_5_code, 1, (Option.some Jvm.ClassFile.FieldType.int), [])
def mX19_input : MD := (19, ⟨"LeafcreditModel$Good", "input", "()I"⟩, prog_18_method_6_code, 1, (Option.some Jvm.ClassFile.FieldType.int), [])
def mX19_amount : MD := (19, ⟨"LeafcreditModel$Good", "amount", "()I"⟩, prog_18_method_7_code, 1, (Option.some Jvm.ClassFile.FieldType.int), [])
def mX20_ended : MD := (20, ⟨"Leafcredit$Duty", "ended", "()J"⟩, prog_6_method_2_code, 3, (Option.some Jvm.ClassFile.FieldType.long), [])
def mJ0_init : MD := (100, ⟨"java/util/AbstractCollection", "<init>", "()V"⟩, prog_51_method_1_code, 1, (Option.none : Option Jvm.ClassFile.FieldType), [])
def mJ0_clear : MD := (100, ⟨"java/util/AbstractCollection", "clear", "()V"⟩, prog_51_method_15_code, 2, (Option.none : Option Jvm.ClassFile.FieldType), [])
def mJ0_isEmpty : MD := (100, ⟨"java/util/AbstractCollection", "isEmpty", "()Z"⟩, prog_51_method_4_code, 1, (Option.some Jvm.ClassFile.FieldType.boolean), [])
def mJ1_init : MD := (101, ⟨"java/util/AbstractList", "<init>", "()V"⟩, prog_52_method_1_code, 1, (Option.none : Option Jvm.ClassFile.FieldType), [])
def mJ2_init : MD := (102, ⟨"java/util/ArrayList", "<init>", "()V"⟩, prog_61_method_2_code, 1, (Option.none : Option Jvm.ClassFile.FieldType), [])
def mJ2_add : MD := (102, ⟨"java/util/ArrayList", "add", "(Ljava/lang/Object;)Z"⟩, prog_61_method_25_code, 2, (Option.some Jvm.ClassFile.FieldType.boolean), [])
def mJ2_add_2 : MD := (102, ⟨"java/util/ArrayList", "add", "(Ljava/lang/Object;[Ljava/lang/Object;I)V"⟩, prog_61_method_24_code, 4, (Option.none : Option Jvm.ClassFile.FieldType), [])
def mJ2_grow : MD := (102, ⟨"java/util/ArrayList", "grow", "()[Ljava/lang/Object;"⟩, prog_61_method_7_code, 1, (Option.some (Jvm.ClassFile.FieldType.array (Jvm.ClassFile.FieldType.object "java/lang/Object"))), [])
def mJ2_grow_2 : MD := (102, ⟨"java/util/ArrayList", "grow", "(I)[Ljava/lang/Object;"⟩, prog_61_method_6_code, 4, (Option.some (Jvm.ClassFile.FieldType.array (Jvm.ClassFile.FieldType.object "java/lang/Object"))), [])
def mJ2_iterator : MD := (102, ⟨"java/util/ArrayList", "iterator", "()Ljava/util/Iterator;"⟩, prog_61_method_55_code, 1, (Option.some (Jvm.ClassFile.FieldType.object "java/util/Iterator")), [])
def mJ2_size : MD := (102, ⟨"java/util/ArrayList", "size", "()I"⟩, prog_61_method_8_code, 1, (Option.some Jvm.ClassFile.FieldType.int), [])
def mJ2_remove : MD := (102, ⟨"java/util/ArrayList", "remove", "(I)Ljava/lang/Object;"⟩, prog_61_method_29_code, 4, (Option.some (Jvm.ClassFile.FieldType.object "java/lang/Object")), [])
def mJ2_fastRemove : MD := (102, ⟨"java/util/ArrayList", "fastRemove", "([Ljava/lang/Object;I)V"⟩, prog_61_method_39_code, 4, (Option.none : Option Jvm.ClassFile.FieldType), [])
def mJ2_get : MD := (102, ⟨"java/util/ArrayList", "get", "(I)Ljava/lang/Object;"⟩, prog_61_method_20_code, 2, (Option.some (Jvm.ClassFile.FieldType.object "java/lang/Object")), [])
def mJ2_elementData : MD := (102, ⟨"java/util/ArrayList", "elementData", "(I)Ljava/lang/Object;"⟩, prog_61_method_18_code, 2, (Option.some (Jvm.ClassFile.FieldType.object "java/lang/Object")), [])
def mJ2_isEmpty : MD := (102, ⟨"java/util/ArrayList", "isEmpty", "()Z"⟩, prog_61_method_9_code, 1, (Option.some Jvm.ClassFile.FieldType.boolean), [])
def mJ2_add_3 : MD := (102, ⟨"java/util/ArrayList", "add", "(ILjava/lang/Object;)V"⟩, prog_61_method_26_code, 5, (Option.none : Option Jvm.ClassFile.FieldType), [])
def mJ2_rangeCheckForAdd : MD := (102, ⟨"java/util/ArrayList", "rangeCheckForAdd", "(I)V"⟩, prog_61_method_45_code, 2, (Option.none : Option Jvm.ClassFile.FieldType), [])
def mJ2_indexOf : MD := (102, ⟨"java/util/ArrayList", "indexOf", "(Ljava/lang/Object;)I"⟩, prog_61_method_11_code, 2, (Option.some Jvm.ClassFile.FieldType.int), [])
def mJ2_indexOfRange : MD := (102, ⟨"java/util/ArrayList", "indexOfRange", "(Ljava/lang/Object;II)I"⟩, prog_61_method_12_code, 6, (Option.some Jvm.ClassFile.FieldType.int), [])
def mJ2_clear : MD := (102, ⟨"java/util/ArrayList", "clear", "()V"⟩, prog_61_method_40_code, 4, (Option.none : Option Jvm.ClassFile.FieldType), [])
def mJ3_init : MD := (103, ⟨"java/util/AbstractMap", "<init>", "()V"⟩, prog_53_method_1_code, 1, (Option.none : Option Jvm.ClassFile.FieldType), [])
def mJ3_clear : MD := (103, ⟨"java/util/AbstractMap", "clear", "()V"⟩, prog_53_method_10_code, 1, (Option.none : Option Jvm.ClassFile.FieldType), [])
def mJ3_values : MD := (103, ⟨"java/util/AbstractMap", "values", "()Ljava/util/Collection;"⟩, prog_53_method_12_code, 2, (Option.some (Jvm.ClassFile.FieldType.object "java/util/Collection")), [])
def mJ3_isEmpty : MD := (103, ⟨"java/util/AbstractMap", "isEmpty", "()Z"⟩, prog_53_method_3_code, 1, (Option.some Jvm.ClassFile.FieldType.boolean), [])
def mJ4_init : MD := (104, ⟨"java/util/TreeMap", "<init>", "()V"⟩, prog_83_method_1_code, 1, (Option.none : Option Jvm.ClassFile.FieldType), [])
def mJ4_values : MD := (104, ⟨"java/util/TreeMap", "values", "()Ljava/util/Collection;"⟩, prog_83_method_52_code, 2, (Option.some (Jvm.ClassFile.FieldType.object "java/util/Collection")), [])
def mJ4_entrySet : MD := (104, ⟨"java/util/TreeMap", "entrySet", "()Ljava/util/Set;"⟩, prog_83_method_53_code, 2, (Option.some (Jvm.ClassFile.FieldType.object "java/util/Set")), [])
def mJ4_getFirstEntry : MD := (104, ⟨"java/util/TreeMap", "getFirstEntry", "()Ljava/util/TreeMap$Entry;"⟩, prog_83_method_72_code, 2, (Option.some (Jvm.ClassFile.FieldType.object "java/util/TreeMap$Entry")), [])
def mJ4_getCeilingEntry : MD := (104, ⟨"java/util/TreeMap", "getCeilingEntry", "(Ljava/lang/Object;)Ljava/util/TreeMap$Entry;"⟩, prog_83_method_17_code, 6, (Option.some (Jvm.ClassFile.FieldType.object "java/util/TreeMap$Entry")), [])
def mJ4_compare : MD := (104, ⟨"java/util/TreeMap", "compare", "(Ljava/lang/Object;Ljava/lang/Object;)I"⟩, prog_83_method_67_code, 3, (Option.some Jvm.ClassFile.FieldType.int), [])
def mJ4_getHigherEntry : MD := (104, ⟨"java/util/TreeMap", "getHigherEntry", "(Ljava/lang/Object;)Ljava/util/TreeMap$Entry;"⟩, prog_83_method_19_code, 6, (Option.some (Jvm.ClassFile.FieldType.object "java/util/TreeMap$Entry")), [])
def mJ4_successor : MD := (104, ⟨"java/util/TreeMap", "successor", "(Ljava/util/TreeMap$Entry;)Ljava/util/TreeMap$Entry;"⟩, prog_83_method_74_code, 3, (Option.some (Jvm.ClassFile.FieldType.object "java/util/TreeMap$Entry")), [])
def mJ4_lowerEntry : MD := (104, ⟨"java/util/TreeMap", "lowerEntry", "(Ljava/lang/Object;)Ljava/util/Map$Entry;"⟩, prog_83_method_41_code, 2, (Option.some (Jvm.ClassFile.FieldType.object "java/util/Map$Entry")), [])
def mJ4_getLowerEntry : MD := (104, ⟨"java/util/TreeMap", "getLowerEntry", "(Ljava/lang/Object;)Ljava/util/TreeMap$Entry;"⟩, prog_83_method_20_code, 6, (Option.some (Jvm.ClassFile.FieldType.object "java/util/TreeMap$Entry")), [])
def mJ4_exportEntry : MD := (104, ⟨"java/util/TreeMap", "exportEntry", "(Ljava/util/TreeMap$Entry;)Ljava/util/Map$Entry;"⟩, prog_83_method_69_code, 1, (Option.some (Jvm.ClassFile.FieldType.object "java/util/Map$Entry")), [])
def mJ4_put : MD := (104, ⟨"java/util/TreeMap", "put", "(Ljava/lang/Object;Ljava/lang/Object;)Ljava/lang/Object;"⟩, prog_83_method_21_code, 3, (Option.some (Jvm.ClassFile.FieldType.object "java/lang/Object")), [])
def mJ4_put_2 : MD := (104, ⟨"java/util/TreeMap", "put", "(Ljava/lang/Object;Ljava/lang/Object;Z)Ljava/lang/Object;"⟩, prog_83_method_31_code, 10, (Option.some (Jvm.ClassFile.FieldType.object "java/lang/Object")), [])
def mJ4_addEntryToEmptyMap : MD := (104, ⟨"java/util/TreeMap", "addEntryToEmptyMap", "(Ljava/lang/Object;Ljava/lang/Object;)V"⟩, prog_83_method_30_code, 3, (Option.none : Option Jvm.ClassFile.FieldType), [])
def mJ4_addEntry : MD := (104, ⟨"java/util/TreeMap", "addEntry", "(Ljava/lang/Object;Ljava/lang/Object;Ljava/util/TreeMap$Entry;Z)V"⟩, prog_83_method_29_code, 6, (Option.none : Option Jvm.ClassFile.FieldType), [])
def mJ4_fixAfterInsertion : MD := (104, ⟨"java/util/TreeMap", "fixAfterInsertion", "(Ljava/util/TreeMap$Entry;)V"⟩, prog_83_method_83_code, 3, (Option.none : Option Jvm.ClassFile.FieldType), [])
def mJ4_parentOf : MD := (104, ⟨"java/util/TreeMap", "parentOf", "(Ljava/util/TreeMap$Entry;)Ljava/util/TreeMap$Entry;"⟩, prog_83_method_77_code, 1, (Option.some (Jvm.ClassFile.FieldType.object "java/util/TreeMap$Entry")), [])
def mJ4_leftOf : MD := (104, ⟨"java/util/TreeMap", "leftOf", "(Ljava/util/TreeMap$Entry;)Ljava/util/TreeMap$Entry;"⟩, prog_83_method_79_code, 1, (Option.some (Jvm.ClassFile.FieldType.object "java/util/TreeMap$Entry")), [])
def mJ4_rightOf : MD := (104, ⟨"java/util/TreeMap", "rightOf", "(Ljava/util/TreeMap$Entry;)Ljava/util/TreeMap$Entry;"⟩, prog_83_method_80_code, 1, (Option.some (Jvm.ClassFile.FieldType.object "java/util/TreeMap$Entry")), [])
def mJ4_colorOf : MD := (104, ⟨"java/util/TreeMap", "colorOf", "(Ljava/util/TreeMap$Entry;)Z"⟩, prog_83_method_76_code, 1, (Option.some Jvm.ClassFile.FieldType.boolean), [])
def mJ4_setColor : MD := (104, ⟨"java/util/TreeMap", "setColor", "(Ljava/util/TreeMap$Entry;Z)V"⟩, prog_83_method_78_code, 2, (Option.none : Option Jvm.ClassFile.FieldType), [])
def mJ4_rotateLeft : MD := (104, ⟨"java/util/TreeMap", "rotateLeft", "(Ljava/util/TreeMap$Entry;)V"⟩, prog_83_method_81_code, 3, (Option.none : Option Jvm.ClassFile.FieldType), [])
def mJ4_rotateRight : MD := (104, ⟨"java/util/TreeMap", "rotateRight", "(Ljava/util/TreeMap$Entry;)V"⟩, prog_83_method_82_code, 3, (Option.none : Option Jvm.ClassFile.FieldType), [])
def mJ4_subMap : MD := (104, ⟨"java/util/TreeMap", "subMap", "(Ljava/lang/Object;Ljava/lang/Object;)Ljava/util/SortedMap;"⟩, prog_83_method_58_code, 3, (Option.some (Jvm.ClassFile.FieldType.object "java/util/SortedMap")), [])
def mJ4_subMap_2 : MD := (104, ⟨"java/util/TreeMap", "subMap", "(Ljava/lang/Object;ZLjava/lang/Object;Z)Ljava/util/NavigableMap;"⟩, prog_83_method_55_code, 5, (Option.some (Jvm.ClassFile.FieldType.object "java/util/NavigableMap")), [])
def mJ4_clear : MD := (104, ⟨"java/util/TreeMap", "clear", "()V"⟩, prog_83_method_35_code, 1, (Option.none : Option Jvm.ClassFile.FieldType), [])
def mJ4_deleteEntry : MD := (104, ⟨"java/util/TreeMap", "deleteEntry", "(Ljava/util/TreeMap$Entry;)V"⟩, prog_83_method_84_code, 3, (Option.none : Option Jvm.ClassFile.FieldType), [])
def mJ4_fixAfterDeletion : MD := (104, ⟨"java/util/TreeMap", "fixAfterDeletion", "(Ljava/util/TreeMap$Entry;)V"⟩, prog_83_method_85_code, 3, (Option.none : Option Jvm.ClassFile.FieldType), [])
def mJ4_floorEntry : MD := (104, ⟨"java/util/TreeMap", "floorEntry", "(Ljava/lang/Object;)Ljava/util/Map$Entry;"⟩, prog_83_method_43_code, 2, (Option.some (Jvm.ClassFile.FieldType.object "java/util/Map$Entry")), [])
def mJ4_getFloorEntry : MD := (104, ⟨"java/util/TreeMap", "getFloorEntry", "(Ljava/lang/Object;)Ljava/util/TreeMap$Entry;"⟩, prog_83_method_18_code, 6, (Option.some (Jvm.ClassFile.FieldType.object "java/util/TreeMap$Entry")), [])
def mJ4_containsKey : MD := (104, ⟨"java/util/TreeMap", "containsKey", "(Ljava/lang/Object;)Z"⟩, prog_83_method_6_code, 2, (Option.some Jvm.ClassFile.FieldType.boolean), [])
def mJ4_getEntry : MD := (104, ⟨"java/util/TreeMap", "getEntry", "(Ljava/lang/Object;)Ljava/util/TreeMap$Entry;"⟩, prog_83_method_15_code, 5, (Option.some (Jvm.ClassFile.FieldType.object "java/util/TreeMap$Entry")), [])
def mJ4_get : MD := (104, ⟨"java/util/TreeMap", "get", "(Ljava/lang/Object;)Ljava/lang/Object;"⟩, prog_83_method_8_code, 3, (Option.some (Jvm.ClassFile.FieldType.object "java/lang/Object")), [])
def mJ4_size : MD := (104, ⟨"java/util/TreeMap", "size", "()I"⟩, prog_83_method_5_code, 1, (Option.some Jvm.ClassFile.FieldType.int), [])
def mJ4_lastEntry : MD := (104, ⟨"java/util/TreeMap", "lastEntry", "()Ljava/util/Map$Entry;"⟩, prog_83_method_38_code, 1, (Option.some (Jvm.ClassFile.FieldType.object "java/util/Map$Entry")), [])
def mJ4_getLastEntry : MD := (104, ⟨"java/util/TreeMap", "getLastEntry", "()Ljava/util/TreeMap$Entry;"⟩, prog_83_method_73_code, 2, (Option.some (Jvm.ClassFile.FieldType.object "java/util/TreeMap$Entry")), [])
def mJ5_init : MD := (105, ⟨"java/util/AbstractQueue", "<init>", "()V"⟩, prog_57_method_1_code, 1, (Option.none : Option Jvm.ClassFile.FieldType), [])
def mJ6_init : MD := (106, ⟨"java/util/PriorityQueue", "<init>", "(Ljava/util/Comparator;)V"⟩, prog_75_method_3_code, 2, (Option.none : Option Jvm.ClassFile.FieldType), [])
def mJ6_init_2 : MD := (106, ⟨"java/util/PriorityQueue", "<init>", "(ILjava/util/Comparator;)V"⟩, prog_75_method_4_code, 3, (Option.none : Option Jvm.ClassFile.FieldType), [])
def mJ6_iterator : MD := (106, ⟨"java/util/PriorityQueue", "iterator", "()Ljava/util/Iterator;"⟩, prog_75_method_22_code, 1, (Option.some (Jvm.ClassFile.FieldType.object "java/util/Iterator")), [])
def mJ6_removeAt : MD := (106, ⟨"java/util/PriorityQueue", "removeAt", "(I)Ljava/lang/Object;"⟩, prog_75_method_26_code, 5, (Option.some (Jvm.ClassFile.FieldType.object "java/lang/Object")), [])
def mJ6_siftDown : MD := (106, ⟨"java/util/PriorityQueue", "siftDown", "(ILjava/lang/Object;)V"⟩, prog_75_method_30_code, 3, (Option.none : Option Jvm.ClassFile.FieldType), [])
def mJ6_siftDownUsingComparator : MD := (106, ⟨"java/util/PriorityQueue", "siftDownUsingComparator", "(ILjava/lang/Object;[Ljava/lang/Object;ILjava/util/Comparator;)V"⟩, prog_75_method_32_code, 9, (Option.none : Option Jvm.ClassFile.FieldType), [])
def mJ6_siftUp : MD := (106, ⟨"java/util/PriorityQueue", "siftUp", "(ILjava/lang/Object;)V"⟩, prog_75_method_27_code, 3, (Option.none : Option Jvm.ClassFile.FieldType), [])
def mJ6_siftUpUsingComparator : MD := (106, ⟨"java/util/PriorityQueue", "siftUpUsingComparator", "(ILjava/lang/Object;[Ljava/lang/Object;Ljava/util/Comparator;)V"⟩, prog_75_method_29_code, 6, (Option.none : Option Jvm.ClassFile.FieldType), [])
def mJ6_removeEq : MD := (106, ⟨"java/util/PriorityQueue", "removeEq", "(Ljava/lang/Object;)V"⟩, prog_75_method_18_code, 5, (Option.none : Option Jvm.ClassFile.FieldType), [])
def mJ6_size : MD := (106, ⟨"java/util/PriorityQueue", "size", "()I"⟩, prog_75_method_23_code, 1, (Option.some Jvm.ClassFile.FieldType.int), [])
def mJ6_add : MD := (106, ⟨"java/util/PriorityQueue", "add", "(Ljava/lang/Object;)Z"⟩, prog_75_method_13_code, 2, (Option.some Jvm.ClassFile.FieldType.boolean), [])
def mJ6_offer : MD := (106, ⟨"java/util/PriorityQueue", "offer", "(Ljava/lang/Object;)Z"⟩, prog_75_method_14_code, 3, (Option.some Jvm.ClassFile.FieldType.boolean), [])
def mJ6_grow : MD := (106, ⟨"java/util/PriorityQueue", "grow", "(I)V"⟩, prog_75_method_12_code, 4, (Option.none : Option Jvm.ClassFile.FieldType), [])
def mJ6_poll : MD := (106, ⟨"java/util/PriorityQueue", "poll", "()Ljava/lang/Object;"⟩, prog_75_method_25_code, 6, (Option.some (Jvm.ClassFile.FieldType.object "java/lang/Object")), [])
def mJ6_clear : MD := (106, ⟨"java/util/PriorityQueue", "clear", "()V"⟩, prog_75_method_24_code, 4, (Option.none : Option Jvm.ClassFile.FieldType), [])
def mJ11_newLength : MD := (111, ⟨"jdk/internal/util/ArraysSupport", "newLength", "(III)I"⟩, prog_98_method_27_code, 4, (Option.some Jvm.ClassFile.FieldType.int), [])
def mJ12_max : MD := (112, ⟨"java/lang/Math", "max", "(II)I"⟩, prog_38_method_65_code, 2, (Option.some Jvm.ClassFile.FieldType.int), [])
def mJ12_min : MD := (112, ⟨"java/lang/Math", "min", "(II)I"⟩, prog_38_method_69_code, 2, (Option.some Jvm.ClassFile.FieldType.int), [])
def mJ12_max_2 : MD := (112, ⟨"java/lang/Math", "max", "(JJ)J"⟩, prog_38_method_66_code, 4, (Option.some Jvm.ClassFile.FieldType.long), [])
def mJ12_abs : MD := (112, ⟨"java/lang/Math", "abs", "(I)I"⟩, prog_38_method_59_code, 1, (Option.some Jvm.ClassFile.FieldType.int), [])
def mJ12_min_2 : MD := (112, ⟨"java/lang/Math", "min", "(JJ)J"⟩, prog_38_method_70_code, 4, (Option.some Jvm.ClassFile.FieldType.long), [])
def mJ12_abs_2 : MD := (112, ⟨"java/lang/Math", "abs", "(J)J"⟩, prog_38_method_61_code, 2, (Option.some Jvm.ClassFile.FieldType.long), [])
def mJ13_copyOf : MD := (113, ⟨"java/util/Arrays", "copyOf", "([Ljava/lang/Object;I)[Ljava/lang/Object;"⟩, prog_63_method_119_code, 2, (Option.some (Jvm.ClassFile.FieldType.array (Jvm.ClassFile.FieldType.object "java/lang/Object"))), [])
def mJ13_copyOf_2 : MD := (113, ⟨"java/util/Arrays", "copyOf", "([Ljava/lang/Object;ILjava/lang/Class;)[Ljava/lang/Object;"⟩, prog_63_method_120_code, 4, (Option.some (Jvm.ClassFile.FieldType.array (Jvm.ClassFile.FieldType.object "java/lang/Object"))), [])
def mJ18_requireNonNull : MD := (118, ⟨"java/util/Objects", "requireNonNull", "(Ljava/lang/Object;)Ljava/lang/Object;"⟩, prog_74_method_10_code, 1, (Option.some (Jvm.ClassFile.FieldType.object "java/lang/Object")), [])
def mJ18_checkIndex : MD := (118, ⟨"java/util/Objects", "checkIndex", "(II)I"⟩, prog_74_method_17_code, 2, (Option.some Jvm.ClassFile.FieldType.int), [])
def mJ19_checkIndex : MD := (119, ⟨"jdk/internal/util/Preconditions", "checkIndex", "(IILjava/util/function/BiFunction;)I"⟩, prog_99_method_11_code, 3, (Option.some Jvm.ClassFile.FieldType.int), [])
def mJ20_init : MD := (120, ⟨"java/util/ArrayList$Itr", "<init>", "(Ljava/util/ArrayList;)V"⟩, prog_62_method_1_code, 2, (Option.none : Option Jvm.ClassFile.FieldType), [])
def mJ20_hasNext : MD := (120, ⟨"java/util/ArrayList$Itr", "hasNext", "()Z"⟩, prog_62_method_2_code, 1, (Option.some Jvm.ClassFile.FieldType.boolean), [])
def mJ20_next : MD := (120, ⟨"java/util/ArrayList$Itr", "next", "()Ljava/lang/Object;"⟩, prog_62_method_3_code, 3, (Option.some (Jvm.ClassFile.FieldType.object "java/lang/Object")), [])
def mJ20_checkForComodification : MD := (120, ⟨"java/util/ArrayList$Itr", "checkForComodification", "()V"⟩, prog_62_method_6_code, 1, (Option.none : Option Jvm.ClassFile.FieldType), [])
def mJ20_remove : MD := (120, ⟨"java/util/ArrayList$Itr", "remove", "()V"⟩, prog_62_method_4_code, 2, (Option.none : Option Jvm.ClassFile.FieldType), [((19 : Nat), (55 : Nat), (58 : Nat), (51 : Nat))])
def mJ24_init : MD := (124, ⟨"java/lang/Number", "<init>", "()V"⟩, prog_39_method_1_code, 1, (Option.none : Option Jvm.ClassFile.FieldType), [])
def mJ25_compareTo : MD := (125, ⟨"java/lang/Integer", "compareTo", "(Ljava/lang/Object;)I"⟩, prog_33_method_63_code, 2, (Option.some Jvm.ClassFile.FieldType.int), [])
def mJ25_compareTo_2 : MD := (125, ⟨"java/lang/Integer", "compareTo", "(Ljava/lang/Integer;)I"⟩, prog_33_method_39_code, 2, (Option.some Jvm.ClassFile.FieldType.int), [])
def mJ25_compare : MD := (125, ⟨"java/lang/Integer", "compare", "(II)I"⟩, prog_33_method_40_code, 2, (Option.some Jvm.ClassFile.FieldType.int), [])
def mJ25_valueOf : MD := (125, ⟨"java/lang/Integer", "valueOf", "(I)Ljava/lang/Integer;"⟩, prog_33_method_22_code, 1, (Option.some (Jvm.ClassFile.FieldType.object "java/lang/Integer")), [])
def mJ25_init : MD := (125, ⟨"java/lang/Integer", "<init>", "(I)V"⟩, prog_33_method_23_code, 2, (Option.none : Option Jvm.ClassFile.FieldType), [])
def mJ25_intValue : MD := (125, ⟨"java/lang/Integer", "intValue", "()I"⟩, prog_33_method_27_code, 1, (Option.some Jvm.ClassFile.FieldType.int), [])
def mJ26_compareTo : MD := (126, ⟨"java/lang/Long", "compareTo", "(Ljava/lang/Object;)I"⟩, prog_36_method_64_code, 2, (Option.some Jvm.ClassFile.FieldType.int), [])
def mJ26_compareTo_2 : MD := (126, ⟨"java/lang/Long", "compareTo", "(Ljava/lang/Long;)I"⟩, prog_36_method_41_code, 2, (Option.some Jvm.ClassFile.FieldType.int), [])
def mJ26_compare : MD := (126, ⟨"java/lang/Long", "compare", "(JJ)I"⟩, prog_36_method_42_code, 4, (Option.some Jvm.ClassFile.FieldType.int), [])
def mJ26_longValue : MD := (126, ⟨"java/lang/Long", "longValue", "()J"⟩, prog_36_method_31_code, 1, (Option.some Jvm.ClassFile.FieldType.long), [])
def mJ26_valueOf : MD := (126, ⟨"java/lang/Long", "valueOf", "(J)Ljava/lang/Long;"⟩, prog_36_method_24_code, 3, (Option.some (Jvm.ClassFile.FieldType.object "java/lang/Long")), [])
def mJ26_init : MD := (126, ⟨"java/lang/Long", "<init>", "(J)V"⟩, prog_36_method_26_code, 3, (Option.none : Option Jvm.ClassFile.FieldType), [])
def mJ30_getValue : MD := (130, ⟨"java/util/TreeMap$Entry", "getValue", "()Ljava/lang/Object;"⟩, prog_86_method_3_code, 1, (Option.some (Jvm.ClassFile.FieldType.object "java/lang/Object")), [])
def mJ30_getKey : MD := (130, ⟨"java/util/TreeMap$Entry", "getKey", "()Ljava/lang/Object;"⟩, prog_86_method_2_code, 1, (Option.some (Jvm.ClassFile.FieldType.object "java/lang/Object")), [])
def mJ30_init : MD := (130, ⟨"java/util/TreeMap$Entry", "<init>", "(Ljava/lang/Object;Ljava/lang/Object;Ljava/util/TreeMap$Entry;)V"⟩, prog_86_method_1_code, 4, (Option.none : Option Jvm.ClassFile.FieldType), [])
def mJ31_init : MD := (131, ⟨"java/util/TreeMap$Values", "<init>", "(Ljava/util/TreeMap;)V"⟩, prog_95_method_1_code, 2, (Option.none : Option Jvm.ClassFile.FieldType), [])
def mJ31_iterator : MD := (131, ⟨"java/util/TreeMap$Values", "iterator", "()Ljava/util/Iterator;"⟩, prog_95_method_2_code, 1, (Option.some (Jvm.ClassFile.FieldType.object "java/util/Iterator")), [])
def mJ31_size : MD := (131, ⟨"java/util/TreeMap$Values", "size", "()I"⟩, prog_95_method_3_code, 1, (Option.some Jvm.ClassFile.FieldType.int), [])
def mJ32_init : MD := (132, ⟨"java/util/AbstractMap$2$1", "<init>", "(Ljava/util/AbstractMap$2;)V"⟩, prog_55_method_1_code, 2, (Option.none : Option Jvm.ClassFile.FieldType), [])
def mJ32_hasNext : MD := (132, ⟨"java/util/AbstractMap$2$1", "hasNext", "()Z"⟩, prog_55_method_2_code, 1, (Option.some Jvm.ClassFile.FieldType.boolean), [])
def mJ32_next : MD := (132, ⟨"java/util/AbstractMap$2$1", "next", "()Ljava/lang/Object;"⟩, prog_55_method_3_code, 1, (Option.some (Jvm.ClassFile.FieldType.object "java/lang/Object")), [])
def mJ32_remove : MD := (132, ⟨"java/util/AbstractMap$2$1", "remove", "()V"⟩, prog_55_method_4_code, 1, (Option.none : Option Jvm.ClassFile.FieldType), [])
def mJ33_init : MD := (133, ⟨"java/util/AbstractSet", "<init>", "()V"⟩, prog_58_method_1_code, 1, (Option.none : Option Jvm.ClassFile.FieldType), [])
def mJ34_init : MD := (134, ⟨"java/util/TreeMap$EntrySet", "<init>", "(Ljava/util/TreeMap;)V"⟩, prog_88_method_1_code, 2, (Option.none : Option Jvm.ClassFile.FieldType), [])
def mJ34_iterator : MD := (134, ⟨"java/util/TreeMap$EntrySet", "iterator", "()Ljava/util/Iterator;"⟩, prog_88_method_2_code, 1, (Option.some (Jvm.ClassFile.FieldType.object "java/util/Iterator")), [])
def mJ34_clear : MD := (134, ⟨"java/util/TreeMap$EntrySet", "clear", "()V"⟩, prog_88_method_6_code, 1, (Option.none : Option Jvm.ClassFile.FieldType), [])
def mJ34_size : MD := (134, ⟨"java/util/TreeMap$EntrySet", "size", "()I"⟩, prog_88_method_5_code, 1, (Option.some Jvm.ClassFile.FieldType.int), [])
def mJ35_init : MD := (135, ⟨"java/util/TreeMap$NavigableSubMap$EntrySetView", "<init>", "(Ljava/util/TreeMap$NavigableSubMap;)V"⟩, prog_90_method_1_code, 2, (Option.none : Option Jvm.ClassFile.FieldType), [])
def mJ35_size : MD := (135, ⟨"java/util/TreeMap$NavigableSubMap$EntrySetView", "size", "()I"⟩, prog_90_method_2_code, 2, (Option.some Jvm.ClassFile.FieldType.int), [])
def mJ36_init : MD := (136, ⟨"java/util/TreeMap$AscendingSubMap$AscendingEntrySetView", "<init>", "(Ljava/util/TreeMap$AscendingSubMap;)V"⟩, prog_85_method_1_code, 2, (Option.none : Option Jvm.ClassFile.FieldType), [])
def mJ36_iterator : MD := (136, ⟨"java/util/TreeMap$AscendingSubMap$AscendingEntrySetView", "iterator", "()Ljava/util/Iterator;"⟩, prog_85_method_2_code, 1, (Option.some (Jvm.ClassFile.FieldType.object "java/util/Iterator")), [])
def mJ37_init : MD := (137, ⟨"java/util/TreeMap$NavigableSubMap$SubMapIterator", "<init>", "(Ljava/util/TreeMap$NavigableSubMap;Ljava/util/TreeMap$Entry;Ljava/util/TreeMap$Entry;)V"⟩, prog_92_method_1_code, 4, (Option.none : Option Jvm.ClassFile.FieldType), [])
def mJ37_hasNext : MD := (137, ⟨"java/util/TreeMap$NavigableSubMap$SubMapIterator", "hasNext", "()Z"⟩, prog_92_method_2_code, 1, (Option.some Jvm.ClassFile.FieldType.boolean), [])
def mJ37_nextEntry : MD := (137, ⟨"java/util/TreeMap$NavigableSubMap$SubMapIterator", "nextEntry", "()Ljava/util/TreeMap$Entry;"⟩, prog_92_method_3_code, 2, (Option.some (Jvm.ClassFile.FieldType.object "java/util/TreeMap$Entry")), [])
def mJ37_removeAscending : MD := (137, ⟨"java/util/TreeMap$NavigableSubMap$SubMapIterator", "removeAscending", "()V"⟩, prog_92_method_5_code, 1, (Option.none : Option Jvm.ClassFile.FieldType), [])
def mJ38_init : MD := (138, ⟨"java/util/TreeMap$NavigableSubMap$SubMapEntryIterator", "<init>", "(Ljava/util/TreeMap$NavigableSubMap;Ljava/util/TreeMap$Entry;Ljava/util/TreeMap$Entry;)V"⟩, prog_91_method_1_code, 4, (Option.none : Option Jvm.ClassFile.FieldType), [])
def mJ38_next : MD := (138, ⟨"java/util/TreeMap$NavigableSubMap$SubMapEntryIterator", "next", "()Ljava/lang/Object;"⟩, prog_91_method_4_code, 1, (Option.some (Jvm.ClassFile.FieldType.object "java/lang/Object")), [])
def mJ38_next_2 : MD := (138, ⟨"java/util/TreeMap$NavigableSubMap$SubMapEntryIterator", "next", "()Ljava/util/Map$Entry;"⟩, prog_91_method_2_code, 1, (Option.some (Jvm.ClassFile.FieldType.object "java/util/Map$Entry")), [])
def mJ38_remove : MD := (138, ⟨"java/util/TreeMap$NavigableSubMap$SubMapEntryIterator", "remove", "()V"⟩, prog_91_method_3_code, 1, (Option.none : Option Jvm.ClassFile.FieldType), [])
def mJ39_init : MD := (139, ⟨"java/util/TreeMap$PrivateEntryIterator", "<init>", "(Ljava/util/TreeMap;Ljava/util/TreeMap$Entry;)V"⟩, prog_93_method_1_code, 3, (Option.none : Option Jvm.ClassFile.FieldType), [])
def mJ39_hasNext : MD := (139, ⟨"java/util/TreeMap$PrivateEntryIterator", "hasNext", "()Z"⟩, prog_93_method_2_code, 1, (Option.some Jvm.ClassFile.FieldType.boolean), [])
def mJ39_nextEntry : MD := (139, ⟨"java/util/TreeMap$PrivateEntryIterator", "nextEntry", "()Ljava/util/TreeMap$Entry;"⟩, prog_93_method_3_code, 2, (Option.some (Jvm.ClassFile.FieldType.object "java/util/TreeMap$Entry")), [])
def mJ39_remove : MD := (139, ⟨"java/util/TreeMap$PrivateEntryIterator", "remove", "()V"⟩, prog_93_method_5_code, 1, (Option.none : Option Jvm.ClassFile.FieldType), [])
def mJ40_init : MD := (140, ⟨"java/util/TreeMap$EntryIterator", "<init>", "(Ljava/util/TreeMap;Ljava/util/TreeMap$Entry;)V"⟩, prog_87_method_1_code, 3, (Option.none : Option Jvm.ClassFile.FieldType), [])
def mJ40_next : MD := (140, ⟨"java/util/TreeMap$EntryIterator", "next", "()Ljava/lang/Object;"⟩, prog_87_method_3_code, 1, (Option.some (Jvm.ClassFile.FieldType.object "java/lang/Object")), [])
def mJ40_next_2 : MD := (140, ⟨"java/util/TreeMap$EntryIterator", "next", "()Ljava/util/Map$Entry;"⟩, prog_87_method_2_code, 1, (Option.some (Jvm.ClassFile.FieldType.object "java/util/Map$Entry")), [])
def mJ42_init : MD := (142, ⟨"java/util/PriorityQueue$Itr", "<init>", "(Ljava/util/PriorityQueue;)V"⟩, prog_76_method_1_code, 2, (Option.none : Option Jvm.ClassFile.FieldType), [])
def mJ42_hasNext : MD := (142, ⟨"java/util/PriorityQueue$Itr", "hasNext", "()Z"⟩, prog_76_method_2_code, 1, (Option.some Jvm.ClassFile.FieldType.boolean), [])
def mJ42_next : MD := (142, ⟨"java/util/PriorityQueue$Itr", "next", "()Ljava/lang/Object;"⟩, prog_76_method_3_code, 1, (Option.some (Jvm.ClassFile.FieldType.object "java/lang/Object")), [])
def mJ42_remove : MD := (142, ⟨"java/util/PriorityQueue$Itr", "remove", "()V"⟩, prog_76_method_4_code, 2, (Option.none : Option Jvm.ClassFile.FieldType), [])
def mJ43_init : MD := (143, ⟨"java/util/TreeMap$ValueIterator", "<init>", "(Ljava/util/TreeMap;Ljava/util/TreeMap$Entry;)V"⟩, prog_94_method_1_code, 3, (Option.none : Option Jvm.ClassFile.FieldType), [])
def mJ43_next : MD := (143, ⟨"java/util/TreeMap$ValueIterator", "next", "()Ljava/lang/Object;"⟩, prog_94_method_2_code, 1, (Option.some (Jvm.ClassFile.FieldType.object "java/lang/Object")), [])
def mJ44_init : MD := (144, ⟨"java/lang/Record", "<init>", "()V"⟩, prog_40_method_1_code, 1, (Option.none : Option Jvm.ClassFile.FieldType), [])
def mJ47_absLowest : MD := (147, ⟨"java/util/TreeMap$NavigableSubMap", "absLowest", "()Ljava/util/TreeMap$Entry;"⟩, prog_89_method_7_code, 2, (Option.some (Jvm.ClassFile.FieldType.object "java/util/TreeMap$Entry")), [])
def mJ47_tooHigh : MD := (147, ⟨"java/util/TreeMap$NavigableSubMap", "tooHigh", "(Ljava/lang/Object;)Z"⟩, prog_89_method_3_code, 3, (Option.some Jvm.ClassFile.FieldType.boolean), [])
def mJ47_absHighFence : MD := (147, ⟨"java/util/TreeMap$NavigableSubMap", "absHighFence", "()Ljava/util/TreeMap$Entry;"⟩, prog_89_method_13_code, 1, (Option.some (Jvm.ClassFile.FieldType.object "java/util/TreeMap$Entry")), [])
def mJ47_init : MD := (147, ⟨"java/util/TreeMap$NavigableSubMap", "<init>", "(Ljava/util/TreeMap;ZLjava/lang/Object;ZZLjava/lang/Object;Z)V"⟩, prog_89_method_1_code, 8, (Option.none : Option Jvm.ClassFile.FieldType), [])
def mJ47_get : MD := (147, ⟨"java/util/TreeMap$NavigableSubMap", "get", "(Ljava/lang/Object;)Ljava/lang/Object;"⟩, prog_89_method_33_code, 2, (Option.some (Jvm.ClassFile.FieldType.object "java/lang/Object")), [])
def mJ47_inRange : MD := (147, ⟨"java/util/TreeMap$NavigableSubMap", "inRange", "(Ljava/lang/Object;)Z"⟩, prog_89_method_4_code, 2, (Option.some Jvm.ClassFile.FieldType.boolean), [])
def mJ47_tooLow : MD := (147, ⟨"java/util/TreeMap$NavigableSubMap", "tooLow", "(Ljava/lang/Object;)Z"⟩, prog_89_method_2_code, 3, (Option.some Jvm.ClassFile.FieldType.boolean), [])
def mJ47_containsKey : MD := (147, ⟨"java/util/TreeMap$NavigableSubMap", "containsKey", "(Ljava/lang/Object;)Z"⟩, prog_89_method_26_code, 2, (Option.some Jvm.ClassFile.FieldType.boolean), [])
def mJ47_size : MD := (147, ⟨"java/util/TreeMap$NavigableSubMap", "size", "()I"⟩, prog_89_method_25_code, 1, (Option.some Jvm.ClassFile.FieldType.int), [])
def mJ48_entrySet : MD := (148, ⟨"java/util/TreeMap$AscendingSubMap", "entrySet", "()Ljava/util/Set;"⟩, prog_84_method_10_code, 2, (Option.some (Jvm.ClassFile.FieldType.object "java/util/Set")), [])
def mJ48_init : MD := (148, ⟨"java/util/TreeMap$AscendingSubMap", "<init>", "(Ljava/util/TreeMap;ZLjava/lang/Object;ZZLjava/lang/Object;Z)V"⟩, prog_84_method_1_code, 8, (Option.none : Option Jvm.ClassFile.FieldType), [])
def mJ49_iterator : MD := (149, ⟨"java/util/AbstractMap$2", "iterator", "()Ljava/util/Iterator;"⟩, prog_54_method_2_code, 1, (Option.some (Jvm.ClassFile.FieldType.object "java/util/Iterator")), [])
def mJ49_size : MD := (149, ⟨"java/util/AbstractMap$2", "size", "()I"⟩, prog_54_method_3_code, 1, (Option.some Jvm.ClassFile.FieldType.int), [])
def mJ49_init : MD := (149, ⟨"java/util/AbstractMap$2", "<init>", "(Ljava/util/AbstractMap;)V"⟩, prog_54_method_1_code, 2, (Option.none : Option Jvm.ClassFile.FieldType), [])
def mJ50_getValue : MD := (150, ⟨"java/util/AbstractMap$SimpleImmutableEntry", "getValue", "()Ljava/lang/Object;"⟩, prog_56_method_4_code, 1, (Option.some (Jvm.ClassFile.FieldType.object "java/lang/Object")), [])
def mJ50_init : MD := (150, ⟨"java/util/AbstractMap$SimpleImmutableEntry", "<init>", "(Ljava/util/Map$Entry;)V"⟩, prog_56_method_2_code, 2, (Option.none : Option Jvm.ClassFile.FieldType), [])
def mJ50_getKey : MD := (150, ⟨"java/util/AbstractMap$SimpleImmutableEntry", "getKey", "()Ljava/lang/Object;"⟩, prog_56_method_3_code, 1, (Option.some (Jvm.ClassFile.FieldType.object "java/lang/Object")), [])
def mJ52_init : MD := (152, ⟨"java/lang/Object", "<init>", "()V"⟩, object_method_1_code, 1, (Option.none : Option Jvm.ClassFile.FieldType), [])
def mJ52_equals : MD := (152, ⟨"java/lang/Object", "equals", "(Ljava/lang/Object;)Z"⟩, object_method_4_code, 2, (Option.some Jvm.ClassFile.FieldType.boolean), [])
def mJ53_getOrDefault : MD := (153, ⟨"java/util/Map", "getOrDefault", "(Ljava/lang/Object;Ljava/lang/Object;)Ljava/lang/Object;"⟩, prog_70_method_15_code, 4, (Option.some (Jvm.ClassFile.FieldType.object "java/lang/Object")), [])
def onm (o : Nat) : String := match o with
  | 0 => "LeafcreditLaw"
  | 1 => "Leafcredit"
  | 2 => "Leafcredit$ByPrice"
  | 3 => "Leafcredit$Account"
  | 4 => "Leafcredit$Sum"
  | 5 => "LeafcreditModel"
  | 6 => "LeafcreditModel$Account"
  | 7 => "Leafcredit$Plant"
  | 8 => "Leafcredit$Piece"
  | 9 => "Leafcredit$Entry"
  | 10 => "LeafcreditModel$Row"
  | 11 => "Leafcredit$Bid"
  | 12 => "LeafcreditModel$Bid"
  | 13 => "Leafcredit$Transfer"
  | 14 => "Leafcredit$ByUse"
  | 15 => "LeafcreditModel$Transfer"
  | 16 => "Leafcredit$Project"
  | 17 => "LeafcreditModel$Project"
  | 18 => "Leafcredit$Good"
  | 19 => "LeafcreditModel$Good"
  | 20 => "Leafcredit$Duty"
  | 100 => "java/util/AbstractCollection"
  | 101 => "java/util/AbstractList"
  | 102 => "java/util/ArrayList"
  | 103 => "java/util/AbstractMap"
  | 104 => "java/util/TreeMap"
  | 105 => "java/util/AbstractQueue"
  | 106 => "java/util/PriorityQueue"
  | 107 => "java/lang/Throwable"
  | 108 => "java/lang/Exception"
  | 109 => "java/lang/RuntimeException"
  | 110 => "java/lang/IllegalArgumentException"
  | 111 => "jdk/internal/util/ArraysSupport"
  | 112 => "java/lang/Math"
  | 113 => "java/util/Arrays"
  | 114 => "java/lang/IllegalStateException"
  | 115 => "java/lang/IndexOutOfBoundsException"
  | 116 => "java/lang/ArrayIndexOutOfBoundsException"
  | 117 => "java/lang/String"
  | 118 => "java/util/Objects"
  | 119 => "jdk/internal/util/Preconditions"
  | 120 => "java/util/ArrayList$Itr"
  | 121 => "java/util/NoSuchElementException"
  | 122 => "java/util/ArrayDeque"
  | 123 => "java/lang/UnsupportedOperationException"
  | 124 => "java/lang/Number"
  | 125 => "java/lang/Integer"
  | 126 => "java/lang/Long"
  | 127 => "java/lang/StringLatin1"
  | 128 => "jdk/internal/misc/Unsafe"
  | 129 => "java/lang/StringUTF16"
  | 130 => "java/util/TreeMap$Entry"
  | 131 => "java/util/TreeMap$Values"
  | 132 => "java/util/AbstractMap$2$1"
  | 133 => "java/util/AbstractSet"
  | 134 => "java/util/TreeMap$EntrySet"
  | 135 => "java/util/TreeMap$NavigableSubMap$EntrySetView"
  | 136 => "java/util/TreeMap$AscendingSubMap$AscendingEntrySetView"
  | 137 => "java/util/TreeMap$NavigableSubMap$SubMapIterator"
  | 138 => "java/util/TreeMap$NavigableSubMap$SubMapEntryIterator"
  | 139 => "java/util/TreeMap$PrivateEntryIterator"
  | 140 => "java/util/TreeMap$EntryIterator"
  | 141 => "java/util/ArrayDeque$DeqIterator"
  | 142 => "java/util/PriorityQueue$Itr"
  | 143 => "java/util/TreeMap$ValueIterator"
  | 144 => "java/lang/Record"
  | 145 => "java/lang/AbstractStringBuilder"
  | 146 => "java/lang/StringBuilder"
  | 147 => "java/util/TreeMap$NavigableSubMap"
  | 148 => "java/util/TreeMap$AscendingSubMap"
  | 149 => "java/util/AbstractMap$2"
  | 150 => "java/util/AbstractMap$SimpleImmutableEntry"
  | 151 => "java/util/ConcurrentModificationException"
  | 152 => "java/lang/Object"
  | 153 => "java/util/Map"
  | _ => ""
def exn (e : Nat) : String := match e with
  | 110 => "java/lang/IllegalArgumentException"
  | 114 => "java/lang/IllegalStateException"
  | 115 => "java/lang/IndexOutOfBoundsException"
  | 121 => "java/util/NoSuchElementException"
  | 123 => "java/lang/UnsupportedOperationException"
  | _ => ""
theorem q61 : (Jvm.Cond.initialized "LeafcreditLaw") ∈ lw_all := lw_g (lw_at lw_m1 0 rfl) rfl
theorem q62 : (Jvm.Cond.initialized "Leafcredit") ∈ lw_all := lw_g (lw_at lw_m1 1 rfl) rfl
theorem q63 : (Jvm.Cond.initialized "java/util/AbstractCollection") ∈ lw_all := lw_g (lw_at lw_m1 2 rfl) rfl
theorem q64 : (Jvm.Cond.initialized "java/util/AbstractList") ∈ lw_all := lw_g (lw_at lw_m1 3 rfl) rfl
theorem q65 : (Jvm.Cond.initialized "java/util/ArrayList") ∈ lw_all := lw_g (lw_at lw_m1 4 rfl) rfl
theorem q66 : (Jvm.Cond.initialized "java/util/AbstractMap") ∈ lw_all := lw_g (lw_at lw_m1 5 rfl) rfl
theorem q67 : (Jvm.Cond.initialized "java/util/TreeMap") ∈ lw_all := lw_g (lw_at lw_m1 6 rfl) rfl
theorem q68 : (Jvm.Cond.initialized "java/util/AbstractQueue") ∈ lw_all := lw_g (lw_at lw_m1 7 rfl) rfl
theorem q69 : (Jvm.Cond.initialized "java/util/PriorityQueue") ∈ lw_all := lw_g (lw_at lw_m1 8 rfl) rfl
theorem q70 : (Jvm.Cond.initialized "Leafcredit$ByPrice") ∈ lw_all := lw_g (lw_at lw_m1 9 rfl) rfl
theorem q71 : (Jvm.Cond.initialized "java/lang/Throwable") ∈ lw_all := lw_g (lw_at lw_m1 10 rfl) rfl
theorem q74 : (Jvm.Cond.initialized "java/lang/IllegalArgumentException") ∈ lw_all := lw_g (lw_at lw_m1 13 rfl) rfl
theorem q75 : (Jvm.Cond.initialized "Leafcredit$Account") ∈ lw_all := lw_g (lw_at lw_m1 14 rfl) rfl
theorem q76 : (Jvm.Cond.initialized "Leafcredit$Sum") ∈ lw_all := lw_g (lw_at lw_m1 15 rfl) rfl
theorem q77 : (Jvm.Cond.initialized "jdk/internal/util/ArraysSupport") ∈ lw_all := lw_g (lw_at lw_m1 16 rfl) rfl
theorem q78 : (Jvm.Cond.initialized "java/lang/Math") ∈ lw_all := lw_g (lw_at lw_m1 17 rfl) rfl
theorem q79 : (Jvm.Cond.initialized "java/util/Arrays") ∈ lw_all := lw_g (lw_at lw_m1 18 rfl) rfl
theorem q80 : (Jvm.Cond.initialized "java/lang/System") ∈ lw_all := lw_g (lw_at lw_m1 19 rfl) rfl
theorem q81 : (Jvm.Cond.initialized "LeafcreditModel") ∈ lw_all := lw_g (lw_at lw_m1 20 rfl) rfl
theorem q82 : (Jvm.Cond.initialized "LeafcreditModel$Account") ∈ lw_all := lw_g (lw_at lw_m1 21 rfl) rfl
theorem q83 : (Jvm.Cond.initialized "java/lang/IllegalStateException") ∈ lw_all := lw_g (lw_at lw_m1 22 rfl) rfl
theorem q84 : (Jvm.Cond.initialized "java/lang/IndexOutOfBoundsException") ∈ lw_all := lw_g (lw_at lw_m1 23 rfl) rfl
theorem q87 : (Jvm.Cond.initialized "java/util/Objects") ∈ lw_all := lw_g (lw_at lw_m1 26 rfl) rfl
theorem q88 : (Jvm.Cond.initialized "jdk/internal/util/Preconditions") ∈ lw_all := lw_g (lw_at lw_m1 27 rfl) rfl
theorem q89 : (Jvm.Cond.initialized "Leafcredit$Plant") ∈ lw_all := lw_g (lw_at lw_m1 28 rfl) rfl
theorem q90 : (Jvm.Cond.initialized "java/util/ArrayList$Itr") ∈ lw_all := lw_g (lw_at lw_m1 29 rfl) rfl
theorem q91 : (Jvm.Cond.initialized "java/util/NoSuchElementException") ∈ lw_all := lw_g (lw_at lw_m1 30 rfl) rfl
theorem q93 : (Jvm.Cond.initialized "java/lang/UnsupportedOperationException") ∈ lw_all := lw_g (lw_at lw_m1 32 rfl) rfl
theorem q94 : (Jvm.Cond.initialized "java/lang/Number") ∈ lw_all := lw_g (lw_at lw_m1 33 rfl) rfl
theorem q95 : (Jvm.Cond.initialized "java/lang/Integer") ∈ lw_all := lw_g (lw_at lw_m1 34 rfl) rfl
theorem q97 : (Jvm.Cond.initialized "java/lang/Long") ∈ lw_all := lw_g (lw_at lw_m1 36 rfl) rfl
theorem q102 : (Jvm.Cond.initialized "java/util/TreeMap$Entry") ∈ lw_all := lw_g (lw_at lw_m1 41 rfl) rfl
theorem q103 : (Jvm.Cond.initialized "Leafcredit$Piece") ∈ lw_all := lw_g (lw_at lw_m1 42 rfl) rfl
theorem q104 : (Jvm.Cond.initialized "Leafcredit$Entry") ∈ lw_all := lw_g (lw_at lw_m1 43 rfl) rfl
theorem q105 : (Jvm.Cond.initialized "java/util/TreeMap$Values") ∈ lw_all := lw_g (lw_at lw_m1 44 rfl) rfl
theorem q106 : (Jvm.Cond.initialized "java/util/AbstractMap$2$1") ∈ lw_all := lw_g (lw_at lw_m1 45 rfl) rfl
theorem q107 : (Jvm.Cond.initialized "java/util/AbstractSet") ∈ lw_all := lw_g (lw_at lw_m1 46 rfl) rfl
theorem q108 : (Jvm.Cond.initialized "java/util/TreeMap$EntrySet") ∈ lw_all := lw_g (lw_at lw_m1 47 rfl) rfl
theorem q109 : (Jvm.Cond.initialized "java/util/TreeMap$NavigableSubMap$EntrySetView") ∈ lw_all := lw_g (lw_at lw_m1 48 rfl) rfl
theorem q110 : (Jvm.Cond.initialized "java/util/TreeMap$AscendingSubMap$AscendingEntrySetView") ∈ lw_all := lw_g (lw_at lw_m1 49 rfl) rfl
theorem q111 : (Jvm.Cond.initialized "java/util/TreeMap$NavigableSubMap$SubMapIterator") ∈ lw_all := lw_g (lw_at lw_m1 50 rfl) rfl
theorem q112 : (Jvm.Cond.initialized "java/util/TreeMap$NavigableSubMap$SubMapEntryIterator") ∈ lw_all := lw_g (lw_at lw_m1 51 rfl) rfl
theorem q113 : (Jvm.Cond.initialized "java/util/TreeMap$PrivateEntryIterator") ∈ lw_all := lw_g (lw_at lw_m1 52 rfl) rfl
theorem q114 : (Jvm.Cond.initialized "java/util/TreeMap$EntryIterator") ∈ lw_all := lw_g (lw_at lw_m1 53 rfl) rfl
theorem q116 : (Jvm.Cond.initialized "java/util/PriorityQueue$Itr") ∈ lw_all := lw_g (lw_at lw_m1 55 rfl) rfl
theorem q117 : (Jvm.Cond.initialized "java/util/TreeMap$ValueIterator") ∈ lw_all := lw_g (lw_at lw_m1 56 rfl) rfl
theorem q118 : (Jvm.Cond.initialized "LeafcreditModel$Row") ∈ lw_all := lw_g (lw_at lw_m1 57 rfl) rfl
theorem q119 : (Jvm.Cond.initialized "Leafcredit$Bid") ∈ lw_all := lw_g (lw_at lw_m1 58 rfl) rfl
theorem q120 : (Jvm.Cond.initialized "java/lang/Record") ∈ lw_all := lw_g (lw_at lw_m1 59 rfl) rfl
theorem q121 : (Jvm.Cond.initialized "LeafcreditModel$Bid") ∈ lw_all := lw_g (lw_at lw_m1 60 rfl) rfl
theorem q124 : (Jvm.Cond.initialized "Leafcredit$Transfer") ∈ lw_all := lw_g (lw_at lw_m1 63 rfl) rfl
theorem q125 : (Jvm.Cond.initialized "Leafcredit$ByUse") ∈ lw_all := lw_g (lw_at lw_m1 64 rfl) rfl
theorem q126 : (Jvm.Cond.initialized "LeafcreditModel$Transfer") ∈ lw_all := lw_g (lw_at lw_m1 65 rfl) rfl
theorem q127 : (Jvm.Cond.initialized "java/util/TreeMap$NavigableSubMap") ∈ lw_all := lw_g (lw_at lw_m1 66 rfl) rfl
theorem q128 : (Jvm.Cond.initialized "java/util/TreeMap$AscendingSubMap") ∈ lw_all := lw_g (lw_at lw_m1 67 rfl) rfl
theorem q129 : (Jvm.Cond.initialized "java/util/AbstractMap$2") ∈ lw_all := lw_g (lw_at lw_m1 68 rfl) rfl
theorem q130 : (Jvm.Cond.initialized "java/util/AbstractMap$SimpleImmutableEntry") ∈ lw_all := lw_g (lw_at lw_m1 69 rfl) rfl
theorem q131 : (Jvm.Cond.initialized "Leafcredit$Project") ∈ lw_all := lw_g (lw_at lw_m1 70 rfl) rfl
theorem q132 : (Jvm.Cond.initialized "LeafcreditModel$Project") ∈ lw_all := lw_g (lw_at lw_m1 71 rfl) rfl
theorem q133 : (Jvm.Cond.initialized "Leafcredit$Good") ∈ lw_all := lw_g (lw_at lw_m1 72 rfl) rfl
theorem q134 : (Jvm.Cond.initialized "LeafcreditModel$Good") ∈ lw_all := lw_g (lw_at lw_m1 73 rfl) rfl
theorem q137 : (Jvm.Cond.classLink "LeafcreditLaw" (8 : Nat) "Leafcredit") ∈ lw_all := lw_g (lw_at lw_m1 76 rfl) rfl
theorem q138 : (Jvm.Cond.instantiable "Leafcredit" (21 : Nat)) ∈ lw_all := lw_g (lw_at lw_m1 77 rfl) rfl
theorem q139 : (Jvm.Cond.methodLink "LeafcreditLaw" (141 : Nat) ({ cls := "Leafcredit", name := "<init>", desc := "()V" } : Jvm.MethodName)) ∈ lw_all := lw_g (lw_at lw_m1 78 rfl) rfl
theorem q140 : (Jvm.Cond.instanceMethod ({ cls := "Leafcredit", name := "<init>", desc := "()V" } : Jvm.MethodName)) ∈ lw_all := lw_g (lw_at lw_m1 79 rfl) rfl
theorem q141 : (Jvm.Cond.code ({ cls := "Leafcredit", name := "<init>", desc := "()V" } : Jvm.MethodName) prog_1_method_3_code (1 : Nat) (Option.none : Option Jvm.ClassFile.FieldType)) ∈ lw_all := lw_g (lw_at lw_m1 80 rfl) rfl
theorem q142 : (Jvm.Cond.methodLink "Leafcredit" (1 : Nat) ({ cls := "java/lang/Object", name := "<init>", desc := "()V" } : Jvm.MethodName)) ∈ lw_all := lw_g (lw_at lw_m1 81 rfl) rfl
theorem q143 : (Jvm.Cond.instanceMethod ({ cls := "java/lang/Object", name := "<init>", desc := "()V" } : Jvm.MethodName)) ∈ lw_all := lw_g (lw_at lw_m1 82 rfl) rfl
theorem q144 : (Jvm.Cond.code ({ cls := "java/lang/Object", name := "<init>", desc := "()V" } : Jvm.MethodName) object_method_1_code (1 : Nat) (Option.none : Option Jvm.ClassFile.FieldType)) ∈ lw_all := lw_g (lw_at lw_m1 83 rfl) rfl
theorem q145 : (Jvm.Cond.classLink "Leafcredit" (7 : Nat) "java/util/ArrayList") ∈ lw_all := lw_g (lw_at lw_m1 84 rfl) rfl
theorem q146 : (Jvm.Cond.instantiable "java/util/ArrayList" (3 : Nat)) ∈ lw_all := lw_g (lw_at lw_m1 85 rfl) rfl
theorem q147 : (Jvm.Cond.methodLink "Leafcredit" (9 : Nat) ({ cls := "java/util/ArrayList", name := "<init>", desc := "()V" } : Jvm.MethodName)) ∈ lw_all := lw_g (lw_at lw_m1 86 rfl) rfl
theorem q148 : (Jvm.Cond.instanceMethod ({ cls := "java/util/ArrayList", name := "<init>", desc := "()V" } : Jvm.MethodName)) ∈ lw_all := lw_g (lw_at lw_m1 87 rfl) rfl
theorem q149 : (Jvm.Cond.code ({ cls := "java/util/ArrayList", name := "<init>", desc := "()V" } : Jvm.MethodName) prog_61_method_2_code (1 : Nat) (Option.none : Option Jvm.ClassFile.FieldType)) ∈ lw_all := lw_g (lw_at lw_m1 88 rfl) rfl
theorem q150 : (Jvm.Cond.methodLink "java/util/ArrayList" (1 : Nat) ({ cls := "java/util/AbstractList", name := "<init>", desc := "()V" } : Jvm.MethodName)) ∈ lw_all := lw_g (lw_at lw_m1 89 rfl) rfl
theorem q151 : (Jvm.Cond.instanceMethod ({ cls := "java/util/AbstractList", name := "<init>", desc := "()V" } : Jvm.MethodName)) ∈ lw_all := lw_g (lw_at lw_m1 90 rfl) rfl
theorem q152 : (Jvm.Cond.code ({ cls := "java/util/AbstractList", name := "<init>", desc := "()V" } : Jvm.MethodName) prog_52_method_1_code (1 : Nat) (Option.none : Option Jvm.ClassFile.FieldType)) ∈ lw_all := lw_g (lw_at lw_m1 91 rfl) rfl
theorem q153 : (Jvm.Cond.methodLink "java/util/AbstractList" (1 : Nat) ({ cls := "java/util/AbstractCollection", name := "<init>", desc := "()V" } : Jvm.MethodName)) ∈ lw_all := lw_g (lw_at lw_m1 92 rfl) rfl
theorem q154 : (Jvm.Cond.instanceMethod ({ cls := "java/util/AbstractCollection", name := "<init>", desc := "()V" } : Jvm.MethodName)) ∈ lw_all := lw_g (lw_at lw_m1 93 rfl) rfl
theorem q155 : (Jvm.Cond.code ({ cls := "java/util/AbstractCollection", name := "<init>", desc := "()V" } : Jvm.MethodName) prog_51_method_1_code (1 : Nat) (Option.none : Option Jvm.ClassFile.FieldType)) ∈ lw_all := lw_g (lw_at lw_m1 94 rfl) rfl
theorem q156 : (Jvm.Cond.methodLink "java/util/AbstractCollection" (1 : Nat) ({ cls := "java/lang/Object", name := "<init>", desc := "()V" } : Jvm.MethodName)) ∈ lw_all := lw_g (lw_at lw_m1 95 rfl) rfl
theorem q157 : (Jvm.Cond.fieldLink "java/util/ArrayList" (39 : Nat) "java/util/ArrayList" "DEFAULTCAPACITY_EMPTY_ELEMENTDATA" "[Ljava/lang/Object;") ∈ lw_all := lw_g (lw_at lw_m1 96 rfl) rfl
theorem q159 : (Jvm.Cond.fieldLink "java/util/ArrayList" (9 : Nat) "java/util/ArrayList" "elementData" "[Ljava/lang/Object;") ∈ lw_all := lw_g (lw_at lw_m1 98 rfl) rfl
theorem q160 : (Jvm.Cond.fieldLink "java/util/ArrayList$Itr" (37 : Nat) "java/util/ArrayList" "elementData" "[Ljava/lang/Object;") ∈ lw_all := lw_g (lw_at lw_m1 99 rfl) rfl
theorem q161 : (Jvm.Cond.fieldLinkNest "java/util/ArrayList$Itr" (28 : Nat) "java/util/ArrayList" "size" "I" "java/util/ArrayList") ∈ lw_tbl := lw_at lw_m1 100 rfl
theorem q162 : (Jvm.Cond.fieldLink "java/util/ArrayList" (48 : Nat) "java/util/ArrayList" "size" "I") ∈ lw_all := lw_g (lw_at lw_m1 101 rfl) rfl
theorem q163 : (Jvm.Cond.fieldLink "java/util/AbstractList" (7 : Nat) "java/util/AbstractList" "modCount" "I") ∈ lw_all := lw_g (lw_at lw_m1 102 rfl) rfl
theorem q164 : (Jvm.Cond.fieldLink "java/util/ArrayList$Itr" (17 : Nat) "java/util/ArrayList" "modCount" "I") ∈ lw_all := lw_g (lw_at lw_m1 103 rfl) rfl
theorem q165 : (Jvm.Cond.sameField "java/util/ArrayList" "java/util/AbstractList" "modCount" "I") ∈ lw_all := lw_g (lw_at lw_m1 104 rfl) rfl
theorem q166 : (Jvm.Cond.fieldLink "java/util/ArrayList" (63 : Nat) "java/util/ArrayList" "modCount" "I") ∈ lw_all := lw_g (lw_at lw_m1 105 rfl) rfl
theorem q174 : (Jvm.Cond.classLink "Leafcredit" (16 : Nat) "java/util/TreeMap") ∈ lw_all := lw_g (lw_at lw_m1 113 rfl) rfl
theorem q175 : (Jvm.Cond.instantiable "java/util/TreeMap" (9 : Nat)) ∈ lw_all := lw_g (lw_at lw_m1 114 rfl) rfl
theorem q176 : (Jvm.Cond.methodLink "Leafcredit" (18 : Nat) ({ cls := "java/util/TreeMap", name := "<init>", desc := "()V" } : Jvm.MethodName)) ∈ lw_all := lw_g (lw_at lw_m1 115 rfl) rfl
theorem q177 : (Jvm.Cond.instanceMethod ({ cls := "java/util/TreeMap", name := "<init>", desc := "()V" } : Jvm.MethodName)) ∈ lw_all := lw_g (lw_at lw_m1 116 rfl) rfl
theorem q178 : (Jvm.Cond.code ({ cls := "java/util/TreeMap", name := "<init>", desc := "()V" } : Jvm.MethodName) prog_83_method_1_code (1 : Nat) (Option.none : Option Jvm.ClassFile.FieldType)) ∈ lw_all := lw_g (lw_at lw_m1 117 rfl) rfl
theorem q179 : (Jvm.Cond.methodLink "java/util/TreeMap" (1 : Nat) ({ cls := "java/util/AbstractMap", name := "<init>", desc := "()V" } : Jvm.MethodName)) ∈ lw_all := lw_g (lw_at lw_m1 118 rfl) rfl
theorem q180 : (Jvm.Cond.instanceMethod ({ cls := "java/util/AbstractMap", name := "<init>", desc := "()V" } : Jvm.MethodName)) ∈ lw_all := lw_g (lw_at lw_m1 119 rfl) rfl
theorem q181 : (Jvm.Cond.code ({ cls := "java/util/AbstractMap", name := "<init>", desc := "()V" } : Jvm.MethodName) prog_53_method_1_code (1 : Nat) (Option.none : Option Jvm.ClassFile.FieldType)) ∈ lw_all := lw_g (lw_at lw_m1 120 rfl) rfl
theorem q182 : (Jvm.Cond.methodLink "java/util/AbstractMap" (1 : Nat) ({ cls := "java/lang/Object", name := "<init>", desc := "()V" } : Jvm.MethodName)) ∈ lw_all := lw_g (lw_at lw_m1 121 rfl) rfl
theorem q183 : (Jvm.Cond.fieldLink "java/util/TreeMap" (16 : Nat) "java/util/TreeMap" "comparator" "Ljava/util/Comparator;") ∈ lw_all := lw_g (lw_at lw_m1 122 rfl) rfl
theorem q184 : (Jvm.Cond.fieldLink "java/util/TreeMap" (101 : Nat) "java/util/TreeMap" "root" "Ljava/util/TreeMap$Entry;") ∈ lw_all := lw_g (lw_at lw_m1 123 rfl) rfl
theorem q185 : (Jvm.Cond.fieldLink "java/util/TreeMap" (7 : Nat) "java/util/TreeMap" "size" "I") ∈ lw_all := lw_g (lw_at lw_m1 124 rfl) rfl
theorem q186 : (Jvm.Cond.fieldLink "java/util/TreeMap" (13 : Nat) "java/util/TreeMap" "modCount" "I") ∈ lw_all := lw_g (lw_at lw_m1 125 rfl) rfl
theorem q187 : (Jvm.Cond.fieldLinkNest "java/util/TreeMap$PrivateEntryIterator" (13 : Nat) "java/util/TreeMap" "modCount" "I" "java/util/TreeMap") ∈ lw_tbl := lw_at lw_m1 126 rfl
theorem q188 : (Jvm.Cond.fieldLinkNest "java/util/TreeMap$NavigableSubMap$SubMapIterator" (19 : Nat) "java/util/TreeMap" "modCount" "I" "java/util/TreeMap") ∈ lw_tbl := lw_at lw_m1 127 rfl
theorem q189 : (Jvm.Cond.fieldLinkNest "java/util/TreeMap$NavigableSubMap$EntrySetView" (38 : Nat) "java/util/TreeMap" "modCount" "I" "java/util/TreeMap") ∈ lw_tbl := lw_at lw_m1 128 rfl
theorem q190 : (Jvm.Cond.fieldLink "java/util/TreeMap" (188 : Nat) "java/util/TreeMap" "entrySet" "Ljava/util/TreeMap$EntrySet;") ∈ lw_all := lw_g (lw_at lw_m1 129 rfl) rfl
theorem q191 : (Jvm.Cond.fieldLink "java/util/AbstractMap" (71 : Nat) "java/util/AbstractMap" "values" "Ljava/util/Collection;") ∈ lw_all := lw_g (lw_at lw_m1 130 rfl) rfl
theorem q192 : (Jvm.Cond.fieldLink "java/util/TreeMap" (233 : Nat) "java/util/TreeMap" "values" "Ljava/util/Collection;") ∈ lw_all := lw_g (lw_at lw_m1 131 rfl) rfl
theorem q193 : (Jvm.Cond.sameField "java/util/TreeMap" "java/util/AbstractMap" "values" "Ljava/util/Collection;") ∈ lw_all := lw_g (lw_at lw_m1 132 rfl) rfl
theorem q213 : (Jvm.Cond.classLink "Leafcredit" (26 : Nat) "java/util/PriorityQueue") ∈ lw_all := lw_g (lw_at lw_m1 152 rfl) rfl
theorem q214 : (Jvm.Cond.instantiable "java/util/PriorityQueue" (4 : Nat)) ∈ lw_all := lw_g (lw_at lw_m1 153 rfl) rfl
theorem q215 : (Jvm.Cond.classLink "Leafcredit" (28 : Nat) "Leafcredit$ByPrice") ∈ lw_all := lw_g (lw_at lw_m1 154 rfl) rfl
theorem q216 : (Jvm.Cond.instantiable "Leafcredit$ByPrice" (0 : Nat)) ∈ lw_all := lw_g (lw_at lw_m1 155 rfl) rfl
theorem q217 : (Jvm.Cond.methodLinkNest "Leafcredit" (30 : Nat) ({ cls := "Leafcredit$ByPrice", name := "<init>", desc := "()V" } : Jvm.MethodName) "Leafcredit") ∈ lw_tbl := lw_at lw_m1 156 rfl
theorem q218 : (Jvm.Cond.instanceMethod ({ cls := "Leafcredit$ByPrice", name := "<init>", desc := "()V" } : Jvm.MethodName)) ∈ lw_all := lw_g (lw_at lw_m1 157 rfl) rfl
theorem q219 : (Jvm.Cond.code ({ cls := "Leafcredit$ByPrice", name := "<init>", desc := "()V" } : Jvm.MethodName) prog_4_method_1_code (1 : Nat) (Option.none : Option Jvm.ClassFile.FieldType)) ∈ lw_all := lw_g (lw_at lw_m1 158 rfl) rfl
theorem q220 : (Jvm.Cond.methodLink "Leafcredit$ByPrice" (1 : Nat) ({ cls := "java/lang/Object", name := "<init>", desc := "()V" } : Jvm.MethodName)) ∈ lw_all := lw_g (lw_at lw_m1 159 rfl) rfl
theorem q222 : (Jvm.Cond.methodLink "Leafcredit" (31 : Nat) ({ cls := "java/util/PriorityQueue", name := "<init>", desc := "(Ljava/util/Comparator;)V" } : Jvm.MethodName)) ∈ lw_all := lw_g (lw_at lw_m1 161 rfl) rfl
theorem q223 : (Jvm.Cond.instanceMethod ({ cls := "java/util/PriorityQueue", name := "<init>", desc := "(Ljava/util/Comparator;)V" } : Jvm.MethodName)) ∈ lw_all := lw_g (lw_at lw_m1 162 rfl) rfl
theorem q224 : (Jvm.Cond.code ({ cls := "java/util/PriorityQueue", name := "<init>", desc := "(Ljava/util/Comparator;)V" } : Jvm.MethodName) prog_75_method_3_code (2 : Nat) (Option.none : Option Jvm.ClassFile.FieldType)) ∈ lw_all := lw_g (lw_at lw_m1 163 rfl) rfl
theorem q225 : (Jvm.Cond.methodLink "java/util/PriorityQueue" (3 : Nat) ({ cls := "java/util/PriorityQueue", name := "<init>", desc := "(ILjava/util/Comparator;)V" } : Jvm.MethodName)) ∈ lw_all := lw_g (lw_at lw_m1 164 rfl) rfl
theorem q226 : (Jvm.Cond.instanceMethod ({ cls := "java/util/PriorityQueue", name := "<init>", desc := "(ILjava/util/Comparator;)V" } : Jvm.MethodName)) ∈ lw_all := lw_g (lw_at lw_m1 165 rfl) rfl
theorem q227 : (Jvm.Cond.code ({ cls := "java/util/PriorityQueue", name := "<init>", desc := "(ILjava/util/Comparator;)V" } : Jvm.MethodName) prog_75_method_4_code (3 : Nat) (Option.none : Option Jvm.ClassFile.FieldType)) ∈ lw_all := lw_g (lw_at lw_m1 166 rfl) rfl
theorem q228 : (Jvm.Cond.methodLink "java/util/PriorityQueue" (7 : Nat) ({ cls := "java/util/AbstractQueue", name := "<init>", desc := "()V" } : Jvm.MethodName)) ∈ lw_all := lw_g (lw_at lw_m1 167 rfl) rfl
theorem q229 : (Jvm.Cond.instanceMethod ({ cls := "java/util/AbstractQueue", name := "<init>", desc := "()V" } : Jvm.MethodName)) ∈ lw_all := lw_g (lw_at lw_m1 168 rfl) rfl
theorem q230 : (Jvm.Cond.code ({ cls := "java/util/AbstractQueue", name := "<init>", desc := "()V" } : Jvm.MethodName) prog_57_method_1_code (1 : Nat) (Option.none : Option Jvm.ClassFile.FieldType)) ∈ lw_all := lw_g (lw_at lw_m1 169 rfl) rfl
theorem q231 : (Jvm.Cond.methodLink "java/util/AbstractQueue" (1 : Nat) ({ cls := "java/util/AbstractCollection", name := "<init>", desc := "()V" } : Jvm.MethodName)) ∈ lw_all := lw_g (lw_at lw_m1 170 rfl) rfl
theorem q233 : (Jvm.Cond.instantiable "java/lang/IllegalArgumentException" (6 : Nat)) ∈ lw_all := lw_g (lw_at lw_m1 172 rfl) rfl
theorem q234 : (Jvm.Cond.castable "java/lang/IllegalArgumentException" "java/lang/IllegalArgumentException") ∈ lw_tbl := lw_at lw_m1 173 rfl
theorem q235 : (Jvm.Cond.declares ({ cls := "java/lang/RuntimeException", name := "<init>", desc := "()V" } : Jvm.MethodName)) ∈ lw_tbl := lw_at lw_m1 174 rfl
theorem q237 : (Jvm.Cond.declares ({ cls := "java/lang/Exception", name := "<init>", desc := "()V" } : Jvm.MethodName)) ∈ lw_tbl := lw_at lw_m1 176 rfl
theorem q239 : (Jvm.Cond.declares ({ cls := "java/lang/Throwable", name := "<init>", desc := "()V" } : Jvm.MethodName)) ∈ lw_tbl := lw_at lw_m1 178 rfl
theorem q241 : (Jvm.Cond.selects "java/lang/IllegalArgumentException" ({ cls := "java/lang/Throwable", name := "fillInStackTrace", desc := "(I)Ljava/lang/Throwable;" } : Jvm.MethodName) ({ cls := "java/lang/Throwable", name := "fillInStackTrace", desc := "(I)Ljava/lang/Throwable;" } : Jvm.MethodName)) ∈ lw_all := lw_g (lw_at lw_m1 180 rfl) rfl
theorem q242 : (Jvm.Cond.selects "java/lang/IllegalArgumentException" ({ cls := "java/lang/Throwable", name := "fillInStackTrace", desc := "()Ljava/lang/Throwable;" } : Jvm.MethodName) ({ cls := "java/lang/Throwable", name := "fillInStackTrace", desc := "()Ljava/lang/Throwable;" } : Jvm.MethodName)) ∈ lw_all := lw_g (lw_at lw_m1 181 rfl) rfl
theorem q243 : (Jvm.Cond.lays "java/lang/IllegalArgumentException" "java/lang/Throwable" "cause" "Ljava/lang/Throwable;") ∈ lw_all := lw_g (lw_at lw_m1 182 rfl) rfl
theorem q244 : (Jvm.Cond.lays "java/lang/Throwable" "java/lang/Throwable" "cause" "Ljava/lang/Throwable;") ∈ lw_all := lw_g (lw_at lw_m1 183 rfl) rfl
theorem q245 : (Jvm.Cond.lays "java/lang/IllegalArgumentException" "java/lang/Throwable" "stackTrace" "[Ljava/lang/StackTraceElement;") ∈ lw_all := lw_g (lw_at lw_m1 184 rfl) rfl
theorem q246 : (Jvm.Cond.lays "java/lang/Throwable" "java/lang/Throwable" "stackTrace" "[Ljava/lang/StackTraceElement;") ∈ lw_all := lw_g (lw_at lw_m1 185 rfl) rfl
theorem q247 : (Jvm.Cond.lays "java/lang/IllegalArgumentException" "java/lang/Throwable" "suppressedExceptions" "Ljava/util/List;") ∈ lw_all := lw_g (lw_at lw_m1 186 rfl) rfl
theorem q248 : (Jvm.Cond.lays "java/lang/Throwable" "java/lang/Throwable" "suppressedExceptions" "Ljava/util/List;") ∈ lw_all := lw_g (lw_at lw_m1 187 rfl) rfl
theorem q249 : (Jvm.Cond.lays "java/lang/IllegalArgumentException" "java/lang/Throwable" "detailMessage" "Ljava/lang/String;") ∈ lw_all := lw_g (lw_at lw_m1 188 rfl) rfl
theorem q250 : (Jvm.Cond.lays "java/lang/Throwable" "java/lang/Throwable" "detailMessage" "Ljava/lang/String;") ∈ lw_all := lw_g (lw_at lw_m1 189 rfl) rfl
theorem q251 : (Jvm.Cond.lays "java/lang/IllegalArgumentException" "java/lang/Throwable" "backtrace" "Ljava/lang/Object;") ∈ lw_all := lw_g (lw_at lw_m1 190 rfl) rfl
theorem q252 : (Jvm.Cond.lays "java/lang/Throwable" "java/lang/Throwable" "backtrace" "Ljava/lang/Object;") ∈ lw_all := lw_g (lw_at lw_m1 191 rfl) rfl
theorem q254 : (Jvm.Cond.superclass "java/lang/Throwable" "java/lang/Object") ∈ lw_all := lw_g (lw_at lw_m1 193 rfl) rfl
theorem q255 : (Jvm.Cond.instanceMethod ({ cls := "java/lang/Throwable", name := "<init>", desc := "()V" } : Jvm.MethodName)) ∈ lw_all := lw_g (lw_at lw_m1 194 rfl) rfl
theorem q256 : (Jvm.Cond.code ({ cls := "java/lang/Throwable", name := "<init>", desc := "()V" } : Jvm.MethodName) prog_47_method_1_code (1 : Nat) (Option.none : Option Jvm.ClassFile.FieldType)) ∈ lw_all := lw_g (lw_at lw_m1 195 rfl) rfl
theorem q257 : (Jvm.Cond.methodLink "java/lang/Throwable" (1 : Nat) ({ cls := "java/lang/Object", name := "<init>", desc := "()V" } : Jvm.MethodName)) ∈ lw_all := lw_g (lw_at lw_m1 196 rfl) rfl
theorem q258 : (Jvm.Cond.fieldLink "java/lang/Throwable" (13 : Nat) "java/lang/Throwable" "UNASSIGNED_STACK" "[Ljava/lang/StackTraceElement;") ∈ lw_all := lw_g (lw_at lw_m1 197 rfl) rfl
theorem q260 : (Jvm.Cond.fieldLink "java/lang/Throwable" (20 : Nat) "java/lang/Throwable" "SUPPRESSED_SENTINEL" "Ljava/util/List;") ∈ lw_all := lw_g (lw_at lw_m1 199 rfl) rfl
theorem q262 : (Jvm.Cond.methodLink "java/lang/Throwable" (27 : Nat) ({ cls := "java/lang/Throwable", name := "fillInStackTrace", desc := "()Ljava/lang/Throwable;" } : Jvm.MethodName)) ∈ lw_all := lw_g (lw_at lw_m1 201 rfl) rfl
theorem q263 : (Jvm.Cond.instanceMethod ({ cls := "java/lang/Throwable", name := "fillInStackTrace", desc := "()Ljava/lang/Throwable;" } : Jvm.MethodName)) ∈ lw_all := lw_g (lw_at lw_m1 202 rfl) rfl
theorem q266 : (Jvm.Cond.selects "java/lang/IllegalStateException" ({ cls := "java/lang/Throwable", name := "fillInStackTrace", desc := "()Ljava/lang/Throwable;" } : Jvm.MethodName) ({ cls := "java/lang/Throwable", name := "fillInStackTrace", desc := "()Ljava/lang/Throwable;" } : Jvm.MethodName)) ∈ lw_all := lw_g (lw_at lw_m1 205 rfl) rfl
theorem q267 : (Jvm.Cond.selects "java/lang/IndexOutOfBoundsException" ({ cls := "java/lang/Throwable", name := "fillInStackTrace", desc := "()Ljava/lang/Throwable;" } : Jvm.MethodName) ({ cls := "java/lang/Throwable", name := "fillInStackTrace", desc := "()Ljava/lang/Throwable;" } : Jvm.MethodName)) ∈ lw_all := lw_g (lw_at lw_m1 206 rfl) rfl
theorem q268 : (Jvm.Cond.selects "java/lang/UnsupportedOperationException" ({ cls := "java/lang/Throwable", name := "fillInStackTrace", desc := "()Ljava/lang/Throwable;" } : Jvm.MethodName) ({ cls := "java/lang/Throwable", name := "fillInStackTrace", desc := "()Ljava/lang/Throwable;" } : Jvm.MethodName)) ∈ lw_all := lw_g (lw_at lw_m1 207 rfl) rfl
theorem q270 : (Jvm.Cond.selects "java/util/NoSuchElementException" ({ cls := "java/lang/Throwable", name := "fillInStackTrace", desc := "()Ljava/lang/Throwable;" } : Jvm.MethodName) ({ cls := "java/lang/Throwable", name := "fillInStackTrace", desc := "()Ljava/lang/Throwable;" } : Jvm.MethodName)) ∈ lw_all := lw_g (lw_at lw_m1 209 rfl) rfl
theorem q271 : (Jvm.Cond.codeSync ({ cls := "java/lang/Throwable", name := "fillInStackTrace", desc := "()Ljava/lang/Throwable;" } : Jvm.MethodName) prog_47_method_18_code (1 : Nat) (Option.some (Jvm.ClassFile.FieldType.object "java/lang/Throwable"))) ∈ lw_all := lw_g (lw_at lw_m1 210 rfl) rfl
theorem q272 : (Jvm.Cond.methodLink "java/lang/Throwable" (202 : Nat) ({ cls := "java/lang/Throwable", name := "fillInStackTrace", desc := "(I)Ljava/lang/Throwable;" } : Jvm.MethodName)) ∈ lw_all := lw_g (lw_at lw_m1 211 rfl) rfl
theorem q274 : (Jvm.Cond.instanceMethod ({ cls := "java/lang/Throwable", name := "fillInStackTrace", desc := "(I)Ljava/lang/Throwable;" } : Jvm.MethodName)) ∈ lw_all := lw_g (lw_at lw_m1 213 rfl) rfl
theorem q276 : (Jvm.Cond.native ({ cls := "java/lang/Throwable", name := "fillInStackTrace", desc := "(I)Ljava/lang/Throwable;" } : Jvm.MethodName)) ∈ lw_all := lw_g (lw_at lw_m1 215 rfl) rfl
theorem q278 : (Jvm.Cond.instanceMethod ({ cls := "java/lang/IllegalArgumentException", name := "<init>", desc := "()V" } : Jvm.MethodName)) ∈ lw_all := lw_g (lw_at lw_m1 217 rfl) rfl
theorem q279 : (Jvm.Cond.code ({ cls := "java/lang/IllegalArgumentException", name := "<init>", desc := "()V" } : Jvm.MethodName) prog_30_method_1_code (1 : Nat) (Option.none : Option Jvm.ClassFile.FieldType)) ∈ lw_all := lw_g (lw_at lw_m1 218 rfl) rfl
theorem q280 : (Jvm.Cond.methodLink "java/lang/IllegalArgumentException" (1 : Nat) ({ cls := "java/lang/RuntimeException", name := "<init>", desc := "()V" } : Jvm.MethodName)) ∈ lw_all := lw_g (lw_at lw_m1 219 rfl) rfl
theorem q281 : (Jvm.Cond.instanceMethod ({ cls := "java/lang/RuntimeException", name := "<init>", desc := "()V" } : Jvm.MethodName)) ∈ lw_all := lw_g (lw_at lw_m1 220 rfl) rfl
theorem q282 : (Jvm.Cond.code ({ cls := "java/lang/RuntimeException", name := "<init>", desc := "()V" } : Jvm.MethodName) prog_41_method_1_code (1 : Nat) (Option.none : Option Jvm.ClassFile.FieldType)) ∈ lw_all := lw_g (lw_at lw_m1 221 rfl) rfl
theorem q283 : (Jvm.Cond.methodLink "java/lang/RuntimeException" (1 : Nat) ({ cls := "java/lang/Exception", name := "<init>", desc := "()V" } : Jvm.MethodName)) ∈ lw_all := lw_g (lw_at lw_m1 222 rfl) rfl
theorem q284 : (Jvm.Cond.instanceMethod ({ cls := "java/lang/Exception", name := "<init>", desc := "()V" } : Jvm.MethodName)) ∈ lw_all := lw_g (lw_at lw_m1 223 rfl) rfl
theorem q285 : (Jvm.Cond.code ({ cls := "java/lang/Exception", name := "<init>", desc := "()V" } : Jvm.MethodName) prog_29_method_1_code (1 : Nat) (Option.none : Option Jvm.ClassFile.FieldType)) ∈ lw_all := lw_g (lw_at lw_m1 224 rfl) rfl
theorem q286 : (Jvm.Cond.methodLink "java/lang/Exception" (1 : Nat) ({ cls := "java/lang/Throwable", name := "<init>", desc := "()V" } : Jvm.MethodName)) ∈ lw_all := lw_g (lw_at lw_m1 225 rfl) rfl
theorem q287 : (Jvm.Cond.fieldLink "java/lang/Throwable" (198 : Nat) "java/lang/Throwable" "backtrace" "Ljava/lang/Object;") ∈ lw_all := lw_g (lw_at lw_m1 226 rfl) rfl
theorem q289 : (Jvm.Cond.fieldLink "java/lang/Throwable" (7 : Nat) "java/lang/Throwable" "cause" "Ljava/lang/Throwable;") ∈ lw_all := lw_g (lw_at lw_m1 228 rfl) rfl
theorem q290 : (Jvm.Cond.fieldLink "java/lang/Throwable" (17 : Nat) "java/lang/Throwable" "stackTrace" "[Ljava/lang/StackTraceElement;") ∈ lw_all := lw_g (lw_at lw_m1 229 rfl) rfl
theorem q291 : (Jvm.Cond.fieldLink "java/lang/Throwable" (24 : Nat) "java/lang/Throwable" "suppressedExceptions" "Ljava/util/List;") ∈ lw_all := lw_g (lw_at lw_m1 230 rfl) rfl
theorem q300 : (Jvm.Cond.classLink "java/util/PriorityQueue" (15 : Nat) "java/lang/Object") ∈ lw_all := lw_g (lw_at lw_m1 239 rfl) rfl
theorem q302 : (Jvm.Cond.fieldLink "java/util/PriorityQueue$Itr" (44 : Nat) "java/util/PriorityQueue" "queue" "[Ljava/lang/Object;") ∈ lw_all := lw_g (lw_at lw_m2 1 rfl) rfl
theorem q303 : (Jvm.Cond.fieldLink "java/util/PriorityQueue" (17 : Nat) "java/util/PriorityQueue" "queue" "[Ljava/lang/Object;") ∈ lw_all := lw_g (lw_at lw_m2 2 rfl) rfl
theorem q304 : (Jvm.Cond.fieldLink "java/util/PriorityQueue$Itr" (28 : Nat) "java/util/PriorityQueue" "size" "I") ∈ lw_all := lw_g (lw_at lw_m2 3 rfl) rfl
theorem q305 : (Jvm.Cond.fieldLink "java/util/PriorityQueue" (58 : Nat) "java/util/PriorityQueue" "size" "I") ∈ lw_all := lw_g (lw_at lw_m2 4 rfl) rfl
theorem q306 : (Jvm.Cond.fieldLink "java/util/PriorityQueue" (21 : Nat) "java/util/PriorityQueue" "comparator" "Ljava/util/Comparator;") ∈ lw_all := lw_g (lw_at lw_m2 5 rfl) rfl
theorem q307 : (Jvm.Cond.fieldLink "java/util/PriorityQueue$Itr" (17 : Nat) "java/util/PriorityQueue" "modCount" "I") ∈ lw_all := lw_g (lw_at lw_m2 6 rfl) rfl
theorem q308 : (Jvm.Cond.fieldLink "java/util/PriorityQueue" (93 : Nat) "java/util/PriorityQueue" "modCount" "I") ∈ lw_all := lw_g (lw_at lw_m2 7 rfl) rfl
theorem q318 : (Jvm.Cond.constant "Leafcredit" (55 : Nat) (100000 : Int32)) ∈ lw_all := lw_g (lw_at lw_m2 17 rfl) rfl
theorem q319 : (Jvm.Cond.classLink "Leafcredit" (62 : Nat) "Leafcredit$Account") ∈ lw_all := lw_g (lw_at lw_m2 18 rfl) rfl
theorem q320 : (Jvm.Cond.instantiable "Leafcredit$Account" (9 : Nat)) ∈ lw_all := lw_g (lw_at lw_m2 19 rfl) rfl
theorem q321 : (Jvm.Cond.methodLink "Leafcredit" (64 : Nat) ({ cls := "Leafcredit$Account", name := "<init>", desc := "(IJ)V" } : Jvm.MethodName)) ∈ lw_all := lw_g (lw_at lw_m2 20 rfl) rfl
theorem q322 : (Jvm.Cond.instanceMethod ({ cls := "Leafcredit$Account", name := "<init>", desc := "(IJ)V" } : Jvm.MethodName)) ∈ lw_all := lw_g (lw_at lw_m2 21 rfl) rfl
theorem q323 : (Jvm.Cond.code ({ cls := "Leafcredit$Account", name := "<init>", desc := "(IJ)V" } : Jvm.MethodName) prog_2_method_1_code (4 : Nat) (Option.none : Option Jvm.ClassFile.FieldType)) ∈ lw_all := lw_g (lw_at lw_m2 22 rfl) rfl
theorem q324 : (Jvm.Cond.methodLink "Leafcredit$Account" (1 : Nat) ({ cls := "java/lang/Object", name := "<init>", desc := "()V" } : Jvm.MethodName)) ∈ lw_all := lw_g (lw_at lw_m2 23 rfl) rfl
theorem q325 : (Jvm.Cond.classLink "Leafcredit$Account" (7 : Nat) "Leafcredit$Sum") ∈ lw_all := lw_g (lw_at lw_m2 24 rfl) rfl
theorem q326 : (Jvm.Cond.instantiable "Leafcredit$Sum" (1 : Nat)) ∈ lw_all := lw_g (lw_at lw_m2 25 rfl) rfl
theorem q327 : (Jvm.Cond.methodLinkNest "Leafcredit$Account" (9 : Nat) ({ cls := "Leafcredit$Sum", name := "<init>", desc := "()V" } : Jvm.MethodName) "Leafcredit") ∈ lw_tbl := lw_at lw_m2 26 rfl
theorem q328 : (Jvm.Cond.instanceMethod ({ cls := "Leafcredit$Sum", name := "<init>", desc := "()V" } : Jvm.MethodName)) ∈ lw_all := lw_g (lw_at lw_m2 27 rfl) rfl
theorem q329 : (Jvm.Cond.code ({ cls := "Leafcredit$Sum", name := "<init>", desc := "()V" } : Jvm.MethodName) prog_12_method_1_code (1 : Nat) (Option.none : Option Jvm.ClassFile.FieldType)) ∈ lw_all := lw_g (lw_at lw_m2 28 rfl) rfl
theorem q330 : (Jvm.Cond.methodLink "Leafcredit$Sum" (1 : Nat) ({ cls := "java/lang/Object", name := "<init>", desc := "()V" } : Jvm.MethodName)) ∈ lw_all := lw_g (lw_at lw_m2 29 rfl) rfl
theorem q331 : (Jvm.Cond.fieldLink "Leafcredit$Sum" (7 : Nat) "Leafcredit$Sum" "sum" "J") ∈ lw_all := lw_g (lw_at lw_m2 30 rfl) rfl
theorem q332 : (Jvm.Cond.fieldLinkNest "Leafcredit" (483 : Nat) "Leafcredit$Sum" "sum" "J" "Leafcredit") ∈ lw_tbl := lw_at lw_m2 31 rfl
theorem q336 : (Jvm.Cond.arrayClass Jvm.ClassFile.FieldType.int) ∈ lw_all := lw_g (lw_at lw_m2 35 rfl) rfl
theorem q337 : (Jvm.Cond.classLink "Leafcredit$Account" (22 : Nat) "java/util/TreeMap") ∈ lw_all := lw_g (lw_at lw_m2 36 rfl) rfl
theorem q338 : (Jvm.Cond.methodLink "Leafcredit$Account" (24 : Nat) ({ cls := "java/util/TreeMap", name := "<init>", desc := "()V" } : Jvm.MethodName)) ∈ lw_all := lw_g (lw_at lw_m2 37 rfl) rfl
theorem q339 : (Jvm.Cond.fieldLink "Leafcredit$Account" (29 : Nat) "Leafcredit$Account" "number" "I") ∈ lw_all := lw_g (lw_at lw_m2 38 rfl) rfl
theorem q340 : (Jvm.Cond.fieldLinkNest "Leafcredit" (292 : Nat) "Leafcredit$Account" "number" "I" "Leafcredit") ∈ lw_tbl := lw_at lw_m2 39 rfl
theorem q341 : (Jvm.Cond.fieldLink "Leafcredit$Account" (33 : Nat) "Leafcredit$Account" "cash" "J") ∈ lw_all := lw_g (lw_at lw_m2 40 rfl) rfl
theorem q342 : (Jvm.Cond.fieldLinkNest "Leafcredit" (271 : Nat) "Leafcredit$Account" "cash" "J" "Leafcredit") ∈ lw_tbl := lw_at lw_m2 41 rfl
theorem q343 : (Jvm.Cond.fieldLink "Leafcredit$Account" (41 : Nat) "Leafcredit$Account" "plant" "LLeafcredit$Plant;") ∈ lw_all := lw_g (lw_at lw_m2 42 rfl) rfl
theorem q344 : (Jvm.Cond.fieldLinkNest "Leafcredit" (194 : Nat) "Leafcredit$Account" "plant" "LLeafcredit$Plant;" "Leafcredit") ∈ lw_tbl := lw_at lw_m2 43 rfl
theorem q345 : (Jvm.Cond.fieldLink "Leafcredit$Account" (10 : Nat) "Leafcredit$Account" "imported" "LLeafcredit$Sum;") ∈ lw_all := lw_g (lw_at lw_m2 44 rfl) rfl
theorem q346 : (Jvm.Cond.fieldLinkNest "Leafcredit" (494 : Nat) "Leafcredit$Account" "imported" "LLeafcredit$Sum;" "Leafcredit") ∈ lw_tbl := lw_at lw_m2 45 rfl
theorem q347 : (Jvm.Cond.fieldLink "Leafcredit$Account" (16 : Nat) "Leafcredit$Account" "reversed" "LLeafcredit$Sum;") ∈ lw_all := lw_g (lw_at lw_m2 46 rfl) rfl
theorem q348 : (Jvm.Cond.fieldLinkNest "Leafcredit" (479 : Nat) "Leafcredit$Account" "reversed" "LLeafcredit$Sum;" "Leafcredit") ∈ lw_tbl := lw_at lw_m2 47 rfl
theorem q349 : (Jvm.Cond.fieldLink "Leafcredit$Account" (19 : Nat) "Leafcredit$Account" "carried" "LLeafcredit$Sum;") ∈ lw_all := lw_g (lw_at lw_m2 48 rfl) rfl
theorem q350 : (Jvm.Cond.fieldLinkNest "Leafcredit" (504 : Nat) "Leafcredit$Account" "carried" "LLeafcredit$Sum;" "Leafcredit") ∈ lw_tbl := lw_at lw_m2 49 rfl
theorem q351 : (Jvm.Cond.fieldLink "Leafcredit$Account" (25 : Nat) "Leafcredit$Account" "years" "Ljava/util/TreeMap;") ∈ lw_all := lw_g (lw_at lw_m2 50 rfl) rfl
theorem q352 : (Jvm.Cond.fieldLinkNest "Leafcredit" (263 : Nat) "Leafcredit$Account" "years" "Ljava/util/TreeMap;" "Leafcredit") ∈ lw_tbl := lw_at lw_m2 51 rfl
theorem q353 : (Jvm.Cond.fieldLinkNest "Leafcredit" (268 : Nat) "Leafcredit$Account" "free" "I" "Leafcredit") ∈ lw_tbl := lw_at lw_m2 52 rfl
theorem q354 : (Jvm.Cond.fieldLinkNest "Leafcredit" (389 : Nat) "Leafcredit$Account" "trusted" "I" "Leafcredit") ∈ lw_tbl := lw_at lw_m2 53 rfl
theorem q375 : (Jvm.Cond.methodLink "Leafcredit" (67 : Nat) ({ cls := "java/util/List", name := "add", desc := "(Ljava/lang/Object;)Z" } : Jvm.MethodName)) ∈ lw_all := lw_g (lw_at lw_m2 74 rfl) rfl
theorem q376 : (Jvm.Cond.interfaceMethod "java/util/List" "java/util/List" "add" "(Ljava/lang/Object;)Z") ∈ lw_tbl := lw_at lw_m2 75 rfl
theorem q377 : (Jvm.Cond.declares ({ cls := "java/util/List", name := "add", desc := "(Ljava/lang/Object;)Z" } : Jvm.MethodName)) ∈ lw_tbl := lw_at lw_m2 76 rfl
theorem q378 : (Jvm.Cond.castable "java/util/ArrayList" "java/util/List") ∈ lw_tbl := lw_at lw_m2 77 rfl
theorem q379 : (Jvm.Cond.selects "java/util/ArrayList" ({ cls := "java/util/List", name := "add", desc := "(Ljava/lang/Object;)Z" } : Jvm.MethodName) ({ cls := "java/util/ArrayList", name := "add", desc := "(Ljava/lang/Object;)Z" } : Jvm.MethodName)) ∈ lw_all := lw_g (lw_at lw_m2 78 rfl) rfl
theorem q380 : (Jvm.Cond.unhidden "java/util/ArrayList" "add" "(Ljava/lang/Object;)Z") ∈ lw_tbl := lw_at lw_m2 79 rfl
theorem q381 : (Jvm.Cond.instanceMethod ({ cls := "java/util/ArrayList", name := "add", desc := "(Ljava/lang/Object;)Z" } : Jvm.MethodName)) ∈ lw_all := lw_g (lw_at lw_m2 80 rfl) rfl
theorem q382 : (Jvm.Cond.publicMethod ({ cls := "java/util/ArrayList", name := "add", desc := "(Ljava/lang/Object;)Z" } : Jvm.MethodName)) ∈ lw_tbl := lw_at lw_m2 81 rfl
theorem q383 : (Jvm.Cond.code ({ cls := "java/util/ArrayList", name := "add", desc := "(Ljava/lang/Object;)Z" } : Jvm.MethodName) prog_61_method_25_code (2 : Nat) (Option.some Jvm.ClassFile.FieldType.boolean)) ∈ lw_all := lw_g (lw_at lw_m2 82 rfl) rfl
theorem q384 : (Jvm.Cond.methodLink "java/util/ArrayList" (131 : Nat) ({ cls := "java/util/ArrayList", name := "add", desc := "(Ljava/lang/Object;[Ljava/lang/Object;I)V" } : Jvm.MethodName)) ∈ lw_all := lw_g (lw_at lw_m2 83 rfl) rfl
theorem q386 : (Jvm.Cond.instanceMethod ({ cls := "java/util/ArrayList", name := "add", desc := "(Ljava/lang/Object;[Ljava/lang/Object;I)V" } : Jvm.MethodName)) ∈ lw_all := lw_g (lw_at lw_m2 85 rfl) rfl
theorem q387 : (Jvm.Cond.code ({ cls := "java/util/ArrayList", name := "add", desc := "(Ljava/lang/Object;[Ljava/lang/Object;I)V" } : Jvm.MethodName) prog_61_method_24_code (4 : Nat) (Option.none : Option Jvm.ClassFile.FieldType)) ∈ lw_all := lw_g (lw_at lw_m2 86 rfl) rfl
theorem q388 : (Jvm.Cond.methodLink "java/util/ArrayList" (129 : Nat) ({ cls := "java/util/ArrayList", name := "grow", desc := "()[Ljava/lang/Object;" } : Jvm.MethodName)) ∈ lw_all := lw_g (lw_at lw_m2 87 rfl) rfl
theorem q390 : (Jvm.Cond.instanceMethod ({ cls := "java/util/ArrayList", name := "grow", desc := "()[Ljava/lang/Object;" } : Jvm.MethodName)) ∈ lw_all := lw_g (lw_at lw_m2 89 rfl) rfl
theorem q391 : (Jvm.Cond.code ({ cls := "java/util/ArrayList", name := "grow", desc := "()[Ljava/lang/Object;" } : Jvm.MethodName) prog_61_method_7_code (1 : Nat) (Option.some (Jvm.ClassFile.FieldType.array (Jvm.ClassFile.FieldType.object "java/lang/Object")))) ∈ lw_all := lw_g (lw_at lw_m2 90 rfl) rfl
theorem q392 : (Jvm.Cond.methodLink "java/util/ArrayList" (69 : Nat) ({ cls := "java/util/ArrayList", name := "grow", desc := "(I)[Ljava/lang/Object;" } : Jvm.MethodName)) ∈ lw_all := lw_g (lw_at lw_m2 91 rfl) rfl
theorem q394 : (Jvm.Cond.instanceMethod ({ cls := "java/util/ArrayList", name := "grow", desc := "(I)[Ljava/lang/Object;" } : Jvm.MethodName)) ∈ lw_all := lw_g (lw_at lw_m2 93 rfl) rfl
theorem q395 : (Jvm.Cond.code ({ cls := "java/util/ArrayList", name := "grow", desc := "(I)[Ljava/lang/Object;" } : Jvm.MethodName) prog_61_method_6_code (4 : Nat) (Option.some (Jvm.ClassFile.FieldType.array (Jvm.ClassFile.FieldType.object "java/lang/Object")))) ∈ lw_all := lw_g (lw_at lw_m2 94 rfl) rfl
theorem q396 : (Jvm.Cond.methodLink "java/util/ArrayList" (73 : Nat) ({ cls := "jdk/internal/util/ArraysSupport", name := "newLength", desc := "(III)I" } : Jvm.MethodName)) ∈ lw_all := lw_g (lw_at lw_m2 95 rfl) rfl
theorem q397 : (Jvm.Cond.static ({ cls := "jdk/internal/util/ArraysSupport", name := "newLength", desc := "(III)I" } : Jvm.MethodName)) ∈ lw_all := lw_g (lw_at lw_m2 96 rfl) rfl
theorem q398 : (Jvm.Cond.code ({ cls := "jdk/internal/util/ArraysSupport", name := "newLength", desc := "(III)I" } : Jvm.MethodName) prog_98_method_27_code (4 : Nat) (Option.some Jvm.ClassFile.FieldType.int)) ∈ lw_all := lw_g (lw_at lw_m2 97 rfl) rfl
theorem q399 : (Jvm.Cond.methodLink "jdk/internal/util/ArraysSupport" (194 : Nat) ({ cls := "java/lang/Math", name := "max", desc := "(II)I" } : Jvm.MethodName)) ∈ lw_all := lw_g (lw_at lw_m2 98 rfl) rfl
theorem q400 : (Jvm.Cond.static ({ cls := "java/lang/Math", name := "max", desc := "(II)I" } : Jvm.MethodName)) ∈ lw_all := lw_g (lw_at lw_m2 99 rfl) rfl
theorem q401 : (Jvm.Cond.code ({ cls := "java/lang/Math", name := "max", desc := "(II)I" } : Jvm.MethodName) prog_38_method_65_code (2 : Nat) (Option.some Jvm.ClassFile.FieldType.int)) ∈ lw_all := lw_g (lw_at lw_m2 100 rfl) rfl
theorem q402 : (Jvm.Cond.constant "jdk/internal/util/ArraysSupport" (200 : Nat) (2147483639 : Int32)) ∈ lw_all := lw_g (lw_at lw_m2 101 rfl) rfl
theorem q406 : (Jvm.Cond.methodLink "java/util/ArrayList" (66 : Nat) ({ cls := "java/util/Arrays", name := "copyOf", desc := "([Ljava/lang/Object;I)[Ljava/lang/Object;" } : Jvm.MethodName)) ∈ lw_all := lw_g (lw_at lw_m2 105 rfl) rfl
theorem q407 : (Jvm.Cond.static ({ cls := "java/util/Arrays", name := "copyOf", desc := "([Ljava/lang/Object;I)[Ljava/lang/Object;" } : Jvm.MethodName)) ∈ lw_all := lw_g (lw_at lw_m2 106 rfl) rfl
theorem q408 : (Jvm.Cond.code ({ cls := "java/util/Arrays", name := "copyOf", desc := "([Ljava/lang/Object;I)[Ljava/lang/Object;" } : Jvm.MethodName) prog_63_method_119_code (2 : Nat) (Option.some (Jvm.ClassFile.FieldType.array (Jvm.ClassFile.FieldType.object "java/lang/Object")))) ∈ lw_all := lw_g (lw_at lw_m2 107 rfl) rfl
theorem q409 : (Jvm.Cond.methodLink "java/util/Arrays" (86 : Nat) ({ cls := "java/lang/Object", name := "getClass", desc := "()Ljava/lang/Class;" } : Jvm.MethodName)) ∈ lw_all := lw_g (lw_at lw_m2 108 rfl) rfl
theorem q410 : (Jvm.Cond.instanceMethod ({ cls := "java/lang/Object", name := "getClass", desc := "()Ljava/lang/Class;" } : Jvm.MethodName)) ∈ lw_all := lw_g (lw_at lw_m2 109 rfl) rfl
theorem q461 : (Jvm.Cond.native ({ cls := "java/lang/Object", name := "getClass", desc := "()Ljava/lang/Class;" } : Jvm.MethodName)) ∈ lw_all := lw_g (lw_at lw_m2 160 rfl) rfl
theorem q462 : (Jvm.Cond.methodLink "java/util/Arrays" (300 : Nat) ({ cls := "java/util/Arrays", name := "copyOf", desc := "([Ljava/lang/Object;ILjava/lang/Class;)[Ljava/lang/Object;" } : Jvm.MethodName)) ∈ lw_all := lw_g (lw_at lw_m2 161 rfl) rfl
theorem q463 : (Jvm.Cond.static ({ cls := "java/util/Arrays", name := "copyOf", desc := "([Ljava/lang/Object;ILjava/lang/Class;)[Ljava/lang/Object;" } : Jvm.MethodName)) ∈ lw_all := lw_g (lw_at lw_m2 162 rfl) rfl
theorem q464 : (Jvm.Cond.code ({ cls := "java/util/Arrays", name := "copyOf", desc := "([Ljava/lang/Object;ILjava/lang/Class;)[Ljava/lang/Object;" } : Jvm.MethodName) prog_63_method_120_code (4 : Nat) (Option.some (Jvm.ClassFile.FieldType.array (Jvm.ClassFile.FieldType.object "java/lang/Object")))) ∈ lw_all := lw_g (lw_at lw_m2 163 rfl) rfl
theorem q465 : (Jvm.Cond.classLink "java/util/Arrays" (110 : Nat) "[Ljava/lang/Object;") ∈ lw_all := lw_g (lw_at lw_m2 164 rfl) rfl
theorem q466 : (Jvm.Cond.classLink "java/util/Arrays" (2 : Nat) "java/lang/Object") ∈ lw_all := lw_g (lw_at lw_m2 165 rfl) rfl
theorem q467 : (Jvm.Cond.methodLink "java/util/Arrays" (304 : Nat) ({ cls := "java/lang/Math", name := "min", desc := "(II)I" } : Jvm.MethodName)) ∈ lw_all := lw_g (lw_at lw_m2 166 rfl) rfl
theorem q468 : (Jvm.Cond.static ({ cls := "java/lang/Math", name := "min", desc := "(II)I" } : Jvm.MethodName)) ∈ lw_all := lw_g (lw_at lw_m2 167 rfl) rfl
theorem q469 : (Jvm.Cond.code ({ cls := "java/lang/Math", name := "min", desc := "(II)I" } : Jvm.MethodName) prog_38_method_69_code (2 : Nat) (Option.some Jvm.ClassFile.FieldType.int)) ∈ lw_all := lw_g (lw_at lw_m2 168 rfl) rfl
theorem q470 : (Jvm.Cond.methodLink "java/util/Arrays" (150 : Nat) ({ cls := "java/lang/System", name := "arraycopy", desc := "(Ljava/lang/Object;ILjava/lang/Object;II)V" } : Jvm.MethodName)) ∈ lw_all := lw_g (lw_at lw_m2 169 rfl) rfl
theorem q471 : (Jvm.Cond.static ({ cls := "java/lang/System", name := "arraycopy", desc := "(Ljava/lang/Object;ILjava/lang/Object;II)V" } : Jvm.MethodName)) ∈ lw_all := lw_g (lw_at lw_m2 170 rfl) rfl
theorem q472 : (Jvm.Cond.native ({ cls := "java/lang/System", name := "arraycopy", desc := "(Ljava/lang/Object;ILjava/lang/Object;II)V" } : Jvm.MethodName)) ∈ lw_all := lw_g (lw_at lw_m2 171 rfl) rfl
theorem q473 : (Jvm.Cond.methodLink "java/util/ArrayList" (79 : Nat) ({ cls := "java/lang/Math", name := "max", desc := "(II)I" } : Jvm.MethodName)) ∈ lw_all := lw_g (lw_at lw_m2 172 rfl) rfl
theorem q474 : (Jvm.Cond.classLink "java/util/ArrayList" (7 : Nat) "java/lang/Object") ∈ lw_all := lw_g (lw_at lw_m2 173 rfl) rfl
theorem q475 : (Jvm.Cond.fieldLink "Leafcredit" (10 : Nat) "Leafcredit" "accounts" "Ljava/util/List;") ∈ lw_all := lw_g (lw_at lw_m2 174 rfl) rfl
theorem q476 : (Jvm.Cond.fieldLink "Leafcredit" (19 : Nat) "Leafcredit" "pieces" "Ljava/util/TreeMap;") ∈ lw_all := lw_g (lw_at lw_m2 175 rfl) rfl
theorem q477 : (Jvm.Cond.fieldLink "Leafcredit" (23 : Nat) "Leafcredit" "journal" "Ljava/util/List;") ∈ lw_all := lw_g (lw_at lw_m2 176 rfl) rfl
theorem q478 : (Jvm.Cond.fieldLink "Leafcredit" (34 : Nat) "Leafcredit" "bids" "Ljava/util/PriorityQueue;") ∈ lw_all := lw_g (lw_at lw_m2 177 rfl) rfl
theorem q479 : (Jvm.Cond.fieldLink "Leafcredit" (38 : Nat) "Leafcredit" "transfers" "Ljava/util/List;") ∈ lw_all := lw_g (lw_at lw_m2 178 rfl) rfl
theorem q480 : (Jvm.Cond.fieldLink "Leafcredit" (41 : Nat) "Leafcredit" "projects" "Ljava/util/List;") ∈ lw_all := lw_g (lw_at lw_m2 179 rfl) rfl
theorem q481 : (Jvm.Cond.fieldLink "Leafcredit" (44 : Nat) "Leafcredit" "goods" "Ljava/util/List;") ∈ lw_all := lw_g (lw_at lw_m2 180 rfl) rfl
theorem q482 : (Jvm.Cond.fieldLink "Leafcredit" (104 : Nat) "Leafcredit" "day" "I") ∈ lw_all := lw_g (lw_at lw_m2 181 rfl) rfl
theorem q483 : (Jvm.Cond.fieldLink "Leafcredit" (107 : Nat) "Leafcredit" "made" "I") ∈ lw_all := lw_g (lw_at lw_m2 182 rfl) rfl
theorem q484 : (Jvm.Cond.fieldLink "Leafcredit" (133 : Nat) "Leafcredit" "offsets" "I") ∈ lw_all := lw_g (lw_at lw_m2 183 rfl) rfl
theorem q485 : (Jvm.Cond.fieldLink "Leafcredit" (452 : Nat) "Leafcredit" "cancelled" "I") ∈ lw_all := lw_g (lw_at lw_m2 184 rfl) rfl
theorem q486 : (Jvm.Cond.fieldLink "Leafcredit" (47 : Nat) "Leafcredit" "surrendered" "[I") ∈ lw_all := lw_g (lw_at lw_m2 185 rfl) rfl
theorem q487 : (Jvm.Cond.fieldLink "Leafcredit" (51 : Nat) "Leafcredit" "capFirst" "I") ∈ lw_all := lw_g (lw_at lw_m2 186 rfl) rfl
theorem q488 : (Jvm.Cond.fieldLink "Leafcredit" (274 : Nat) "Leafcredit" "capLess" "I") ∈ lw_all := lw_g (lw_at lw_m2 187 rfl) rfl
theorem q489 : (Jvm.Cond.fieldLink "Leafcredit" (283 : Nat) "Leafcredit" "lower" "I") ∈ lw_all := lw_g (lw_at lw_m2 188 rfl) rfl
theorem q490 : (Jvm.Cond.fieldLink "Leafcredit" (56 : Nat) "Leafcredit" "upper" "I") ∈ lw_all := lw_g (lw_at lw_m2 189 rfl) rfl
theorem q491 : (Jvm.Cond.fieldLink "Leafcredit" (286 : Nat) "Leafcredit" "out" "I") ∈ lw_all := lw_g (lw_at lw_m2 190 rfl) rfl
theorem q492 : (Jvm.Cond.fieldLink "Leafcredit" (309 : Nat) "Leafcredit" "volume" "I") ∈ lw_all := lw_g (lw_at lw_m2 191 rfl) rfl
theorem q493 : (Jvm.Cond.fieldLink "Leafcredit" (289 : Nat) "Leafcredit" "reserve" "I") ∈ lw_all := lw_g (lw_at lw_m2 192 rfl) rfl
theorem q494 : (Jvm.Cond.fieldLink "Leafcredit" (59 : Nat) "Leafcredit" "price" "I") ∈ lw_all := lw_g (lw_at lw_m2 193 rfl) rfl
theorem q495 : (Jvm.Cond.fieldLink "Leafcredit" (337 : Nat) "Leafcredit" "bidNumber" "I") ∈ lw_all := lw_g (lw_at lw_m2 194 rfl) rfl
theorem q539 : (Jvm.Cond.methodLink "LeafcreditLaw" (193 : Nat) ({ cls := "Leafcredit", name := "volume", desc := "()I" } : Jvm.MethodName)) ∈ lw_all := lw_g (lw_at lw_m2 238 rfl) rfl
theorem q540 : (Jvm.Cond.instanceMethod ({ cls := "Leafcredit", name := "volume", desc := "()I" } : Jvm.MethodName)) ∈ lw_all := lw_g (lw_at lw_m2 239 rfl) rfl
theorem q541 : (Jvm.Cond.selects "Leafcredit" ({ cls := "Leafcredit", name := "volume", desc := "()I" } : Jvm.MethodName) ({ cls := "Leafcredit", name := "volume", desc := "()I" } : Jvm.MethodName)) ∈ lw_all := lw_g (lw_at lw_m3 0 rfl) rfl
theorem q542 : (Jvm.Cond.code ({ cls := "Leafcredit", name := "volume", desc := "()I" } : Jvm.MethodName) prog_1_method_32_code (1 : Nat) (Option.some Jvm.ClassFile.FieldType.int)) ∈ lw_all := lw_g (lw_at lw_m3 1 rfl) rfl
theorem q543 : (Jvm.Cond.methodLink "LeafcreditLaw" (197 : Nat) ({ cls := "Leafcredit", name := "reserve", desc := "()I" } : Jvm.MethodName)) ∈ lw_all := lw_g (lw_at lw_m3 2 rfl) rfl
theorem q544 : (Jvm.Cond.instanceMethod ({ cls := "Leafcredit", name := "reserve", desc := "()I" } : Jvm.MethodName)) ∈ lw_all := lw_g (lw_at lw_m3 3 rfl) rfl
theorem q545 : (Jvm.Cond.selects "Leafcredit" ({ cls := "Leafcredit", name := "reserve", desc := "()I" } : Jvm.MethodName) ({ cls := "Leafcredit", name := "reserve", desc := "()I" } : Jvm.MethodName)) ∈ lw_all := lw_g (lw_at lw_m3 4 rfl) rfl
theorem q546 : (Jvm.Cond.code ({ cls := "Leafcredit", name := "reserve", desc := "()I" } : Jvm.MethodName) prog_1_method_33_code (1 : Nat) (Option.some Jvm.ClassFile.FieldType.int)) ∈ lw_all := lw_g (lw_at lw_m3 5 rfl) rfl
theorem q547 : (Jvm.Cond.methodLink "LeafcreditLaw" (201 : Nat) ({ cls := "Leafcredit", name := "circulation", desc := "()I" } : Jvm.MethodName)) ∈ lw_all := lw_g (lw_at lw_m3 6 rfl) rfl
theorem q548 : (Jvm.Cond.instanceMethod ({ cls := "Leafcredit", name := "circulation", desc := "()I" } : Jvm.MethodName)) ∈ lw_all := lw_g (lw_at lw_m3 7 rfl) rfl
theorem q549 : (Jvm.Cond.selects "Leafcredit" ({ cls := "Leafcredit", name := "circulation", desc := "()I" } : Jvm.MethodName) ({ cls := "Leafcredit", name := "circulation", desc := "()I" } : Jvm.MethodName)) ∈ lw_all := lw_g (lw_at lw_m3 8 rfl) rfl
theorem q550 : (Jvm.Cond.code ({ cls := "Leafcredit", name := "circulation", desc := "()I" } : Jvm.MethodName) prog_1_method_34_code (4 : Nat) (Option.some Jvm.ClassFile.FieldType.int)) ∈ lw_all := lw_g (lw_at lw_m3 9 rfl) rfl
theorem q551 : (Jvm.Cond.methodLink "Leafcredit" (136 : Nat) ({ cls := "java/util/TreeMap", name := "values", desc := "()Ljava/util/Collection;" } : Jvm.MethodName)) ∈ lw_all := lw_g (lw_at lw_m3 10 rfl) rfl
theorem q552 : (Jvm.Cond.instanceMethod ({ cls := "java/util/TreeMap", name := "values", desc := "()Ljava/util/Collection;" } : Jvm.MethodName)) ∈ lw_all := lw_g (lw_at lw_m3 11 rfl) rfl
theorem q553 : (Jvm.Cond.selects "java/util/TreeMap" ({ cls := "java/util/TreeMap", name := "values", desc := "()Ljava/util/Collection;" } : Jvm.MethodName) ({ cls := "java/util/TreeMap", name := "values", desc := "()Ljava/util/Collection;" } : Jvm.MethodName)) ∈ lw_all := lw_g (lw_at lw_m3 12 rfl) rfl
theorem q554 : (Jvm.Cond.code ({ cls := "java/util/TreeMap", name := "values", desc := "()Ljava/util/Collection;" } : Jvm.MethodName) prog_83_method_52_code (2 : Nat) (Option.some (Jvm.ClassFile.FieldType.object "java/util/Collection"))) ∈ lw_all := lw_g (lw_at lw_m3 13 rfl) rfl
theorem q555 : (Jvm.Cond.classLink "java/util/TreeMap" (237 : Nat) "java/util/TreeMap$Values") ∈ lw_all := lw_g (lw_at lw_m3 14 rfl) rfl
theorem q556 : (Jvm.Cond.instantiable "java/util/TreeMap$Values" (1 : Nat)) ∈ lw_all := lw_g (lw_at lw_m3 15 rfl) rfl
theorem q557 : (Jvm.Cond.methodLink "java/util/TreeMap" (239 : Nat) ({ cls := "java/util/TreeMap$Values", name := "<init>", desc := "(Ljava/util/TreeMap;)V" } : Jvm.MethodName)) ∈ lw_all := lw_g (lw_at lw_m3 16 rfl) rfl
theorem q558 : (Jvm.Cond.instanceMethod ({ cls := "java/util/TreeMap$Values", name := "<init>", desc := "(Ljava/util/TreeMap;)V" } : Jvm.MethodName)) ∈ lw_all := lw_g (lw_at lw_m3 17 rfl) rfl
theorem q559 : (Jvm.Cond.code ({ cls := "java/util/TreeMap$Values", name := "<init>", desc := "(Ljava/util/TreeMap;)V" } : Jvm.MethodName) prog_95_method_1_code (2 : Nat) (Option.none : Option Jvm.ClassFile.FieldType)) ∈ lw_all := lw_g (lw_at lw_m3 18 rfl) rfl
theorem q560 : (Jvm.Cond.methodLink "java/util/TreeMap$Values" (7 : Nat) ({ cls := "java/util/AbstractCollection", name := "<init>", desc := "()V" } : Jvm.MethodName)) ∈ lw_all := lw_g (lw_at lw_m3 19 rfl) rfl
theorem q561 : (Jvm.Cond.fieldLink "java/util/TreeMap$Values" (1 : Nat) "java/util/TreeMap$Values" "this$0" "Ljava/util/TreeMap;") ∈ lw_all := lw_g (lw_at lw_m3 20 rfl) rfl
theorem q566 : (Jvm.Cond.methodLink "Leafcredit" (140 : Nat) ({ cls := "java/util/Collection", name := "iterator", desc := "()Ljava/util/Iterator;" } : Jvm.MethodName)) ∈ lw_all := lw_g (lw_at lw_m3 25 rfl) rfl
theorem q567 : (Jvm.Cond.interfaceMethod "java/util/Collection" "java/util/Collection" "iterator" "()Ljava/util/Iterator;") ∈ lw_tbl := lw_at lw_m3 26 rfl
theorem q568 : (Jvm.Cond.declares ({ cls := "java/util/Collection", name := "iterator", desc := "()Ljava/util/Iterator;" } : Jvm.MethodName)) ∈ lw_tbl := lw_at lw_m3 27 rfl
theorem q569 : (Jvm.Cond.castable "java/util/AbstractMap$2" "java/util/Collection") ∈ lw_tbl := lw_at lw_m3 28 rfl
theorem q570 : (Jvm.Cond.selects "java/util/AbstractMap$2" ({ cls := "java/util/Collection", name := "iterator", desc := "()Ljava/util/Iterator;" } : Jvm.MethodName) ({ cls := "java/util/AbstractMap$2", name := "iterator", desc := "()Ljava/util/Iterator;" } : Jvm.MethodName)) ∈ lw_all := lw_g (lw_at lw_m3 29 rfl) rfl
theorem q571 : (Jvm.Cond.unhidden "java/util/AbstractMap$2" "iterator" "()Ljava/util/Iterator;") ∈ lw_tbl := lw_at lw_m3 30 rfl
theorem q572 : (Jvm.Cond.instanceMethod ({ cls := "java/util/AbstractMap$2", name := "iterator", desc := "()Ljava/util/Iterator;" } : Jvm.MethodName)) ∈ lw_all := lw_g (lw_at lw_m3 31 rfl) rfl
theorem q573 : (Jvm.Cond.publicMethod ({ cls := "java/util/AbstractMap$2", name := "iterator", desc := "()Ljava/util/Iterator;" } : Jvm.MethodName)) ∈ lw_tbl := lw_at lw_m3 32 rfl
theorem q574 : (Jvm.Cond.code ({ cls := "java/util/AbstractMap$2", name := "iterator", desc := "()Ljava/util/Iterator;" } : Jvm.MethodName) prog_54_method_2_code (1 : Nat) (Option.some (Jvm.ClassFile.FieldType.object "java/util/Iterator"))) ∈ lw_all := lw_g (lw_at lw_m3 33 rfl) rfl
theorem q575 : (Jvm.Cond.classLink "java/util/AbstractMap$2" (13 : Nat) "java/util/AbstractMap$2$1") ∈ lw_all := lw_g (lw_at lw_m3 34 rfl) rfl
theorem q576 : (Jvm.Cond.instantiable "java/util/AbstractMap$2$1" (2 : Nat)) ∈ lw_all := lw_g (lw_at lw_m3 35 rfl) rfl
theorem q577 : (Jvm.Cond.methodLink "java/util/AbstractMap$2" (15 : Nat) ({ cls := "java/util/AbstractMap$2$1", name := "<init>", desc := "(Ljava/util/AbstractMap$2;)V" } : Jvm.MethodName)) ∈ lw_all := lw_g (lw_at lw_m3 36 rfl) rfl
theorem q578 : (Jvm.Cond.instanceMethod ({ cls := "java/util/AbstractMap$2$1", name := "<init>", desc := "(Ljava/util/AbstractMap$2;)V" } : Jvm.MethodName)) ∈ lw_all := lw_g (lw_at lw_m3 37 rfl) rfl
theorem q579 : (Jvm.Cond.code ({ cls := "java/util/AbstractMap$2$1", name := "<init>", desc := "(Ljava/util/AbstractMap$2;)V" } : Jvm.MethodName) prog_55_method_1_code (2 : Nat) (Option.none : Option Jvm.ClassFile.FieldType)) ∈ lw_all := lw_g (lw_at lw_m3 38 rfl) rfl
theorem q580 : (Jvm.Cond.methodLink "java/util/AbstractMap$2$1" (7 : Nat) ({ cls := "java/lang/Object", name := "<init>", desc := "()V" } : Jvm.MethodName)) ∈ lw_all := lw_g (lw_at lw_m3 39 rfl) rfl
theorem q581 : (Jvm.Cond.methodLink "java/util/AbstractMap$2$1" (19 : Nat) ({ cls := "java/util/AbstractMap", name := "entrySet", desc := "()Ljava/util/Set;" } : Jvm.MethodName)) ∈ lw_all := lw_g (lw_at lw_m3 40 rfl) rfl
theorem q582 : (Jvm.Cond.declares ({ cls := "java/util/AbstractMap", name := "entrySet", desc := "()Ljava/util/Set;" } : Jvm.MethodName)) ∈ lw_tbl := lw_at lw_m3 41 rfl
theorem q583 : (Jvm.Cond.sameMethod "java/util/AbstractMap" "java/util/AbstractMap" "entrySet" "()Ljava/util/Set;") ∈ lw_all := lw_g (lw_at lw_m3 42 rfl) rfl
theorem q589 : (Jvm.Cond.methodLink "java/util/TreeMap" (244 : Nat) ({ cls := "java/util/TreeMap$EntrySet", name := "<init>", desc := "(Ljava/util/TreeMap;)V" } : Jvm.MethodName)) ∈ lw_all := lw_g (lw_at lw_m3 48 rfl) rfl
theorem q590 : (Jvm.Cond.instanceMethod ({ cls := "java/util/TreeMap$EntrySet", name := "<init>", desc := "(Ljava/util/TreeMap;)V" } : Jvm.MethodName)) ∈ lw_all := lw_g (lw_at lw_m3 49 rfl) rfl
theorem q591 : (Jvm.Cond.code ({ cls := "java/util/TreeMap$EntrySet", name := "<init>", desc := "(Ljava/util/TreeMap;)V" } : Jvm.MethodName) prog_88_method_1_code (2 : Nat) (Option.none : Option Jvm.ClassFile.FieldType)) ∈ lw_all := lw_g (lw_at lw_m3 50 rfl) rfl
theorem q592 : (Jvm.Cond.methodLink "java/util/TreeMap$EntrySet" (7 : Nat) ({ cls := "java/util/AbstractSet", name := "<init>", desc := "()V" } : Jvm.MethodName)) ∈ lw_all := lw_g (lw_at lw_m3 51 rfl) rfl
theorem q593 : (Jvm.Cond.instanceMethod ({ cls := "java/util/AbstractSet", name := "<init>", desc := "()V" } : Jvm.MethodName)) ∈ lw_all := lw_g (lw_at lw_m3 52 rfl) rfl
theorem q594 : (Jvm.Cond.code ({ cls := "java/util/AbstractSet", name := "<init>", desc := "()V" } : Jvm.MethodName) prog_58_method_1_code (1 : Nat) (Option.none : Option Jvm.ClassFile.FieldType)) ∈ lw_all := lw_g (lw_at lw_m3 53 rfl) rfl
theorem q595 : (Jvm.Cond.methodLink "java/util/AbstractSet" (1 : Nat) ({ cls := "java/util/AbstractCollection", name := "<init>", desc := "()V" } : Jvm.MethodName)) ∈ lw_all := lw_g (lw_at lw_m3 54 rfl) rfl
theorem q600 : (Jvm.Cond.selects "java/util/TreeMap$AscendingSubMap" ({ cls := "java/util/AbstractMap", name := "entrySet", desc := "()Ljava/util/Set;" } : Jvm.MethodName) ({ cls := "java/util/TreeMap$AscendingSubMap", name := "entrySet", desc := "()Ljava/util/Set;" } : Jvm.MethodName)) ∈ lw_all := lw_g (lw_at lw_m3 59 rfl) rfl
theorem q601 : (Jvm.Cond.instanceMethod ({ cls := "java/util/TreeMap$AscendingSubMap", name := "entrySet", desc := "()Ljava/util/Set;" } : Jvm.MethodName)) ∈ lw_all := lw_g (lw_at lw_m3 60 rfl) rfl
theorem q602 : (Jvm.Cond.code ({ cls := "java/util/TreeMap$AscendingSubMap", name := "entrySet", desc := "()Ljava/util/Set;" } : Jvm.MethodName) prog_84_method_10_code (2 : Nat) (Option.some (Jvm.ClassFile.FieldType.object "java/util/Set"))) ∈ lw_all := lw_g (lw_at lw_m3 61 rfl) rfl
theorem q603 : (Jvm.Cond.classLink "java/util/TreeMap$AscendingSubMap" (85 : Nat) "java/util/TreeMap$AscendingSubMap$AscendingEntrySetView") ∈ lw_all := lw_g (lw_at lw_m3 62 rfl) rfl
theorem q604 : (Jvm.Cond.instantiable "java/util/TreeMap$AscendingSubMap$AscendingEntrySetView" (4 : Nat)) ∈ lw_all := lw_g (lw_at lw_m3 63 rfl) rfl
theorem q605 : (Jvm.Cond.methodLink "java/util/TreeMap$AscendingSubMap" (87 : Nat) ({ cls := "java/util/TreeMap$AscendingSubMap$AscendingEntrySetView", name := "<init>", desc := "(Ljava/util/TreeMap$AscendingSubMap;)V" } : Jvm.MethodName)) ∈ lw_all := lw_g (lw_at lw_m3 64 rfl) rfl
theorem q606 : (Jvm.Cond.instanceMethod ({ cls := "java/util/TreeMap$AscendingSubMap$AscendingEntrySetView", name := "<init>", desc := "(Ljava/util/TreeMap$AscendingSubMap;)V" } : Jvm.MethodName)) ∈ lw_all := lw_g (lw_at lw_m3 65 rfl) rfl
theorem q607 : (Jvm.Cond.code ({ cls := "java/util/TreeMap$AscendingSubMap$AscendingEntrySetView", name := "<init>", desc := "(Ljava/util/TreeMap$AscendingSubMap;)V" } : Jvm.MethodName) prog_85_method_1_code (2 : Nat) (Option.none : Option Jvm.ClassFile.FieldType)) ∈ lw_all := lw_g (lw_at lw_m3 66 rfl) rfl
theorem q608 : (Jvm.Cond.methodLink "java/util/TreeMap$AscendingSubMap$AscendingEntrySetView" (7 : Nat) ({ cls := "java/util/TreeMap$NavigableSubMap$EntrySetView", name := "<init>", desc := "(Ljava/util/TreeMap$NavigableSubMap;)V" } : Jvm.MethodName)) ∈ lw_all := lw_g (lw_at lw_m3 67 rfl) rfl
theorem q609 : (Jvm.Cond.instanceMethod ({ cls := "java/util/TreeMap$NavigableSubMap$EntrySetView", name := "<init>", desc := "(Ljava/util/TreeMap$NavigableSubMap;)V" } : Jvm.MethodName)) ∈ lw_all := lw_g (lw_at lw_m3 68 rfl) rfl
theorem q610 : (Jvm.Cond.code ({ cls := "java/util/TreeMap$NavigableSubMap$EntrySetView", name := "<init>", desc := "(Ljava/util/TreeMap$NavigableSubMap;)V" } : Jvm.MethodName) prog_90_method_1_code (2 : Nat) (Option.none : Option Jvm.ClassFile.FieldType)) ∈ lw_all := lw_g (lw_at lw_m3 69 rfl) rfl
theorem q611 : (Jvm.Cond.methodLink "java/util/TreeMap$NavigableSubMap$EntrySetView" (7 : Nat) ({ cls := "java/util/AbstractSet", name := "<init>", desc := "()V" } : Jvm.MethodName)) ∈ lw_all := lw_g (lw_at lw_m3 70 rfl) rfl
theorem q612 : (Jvm.Cond.fieldLink "java/util/TreeMap$AscendingSubMap$AscendingEntrySetView" (1 : Nat) "java/util/TreeMap$AscendingSubMap$AscendingEntrySetView" "this$0" "Ljava/util/TreeMap$AscendingSubMap;") ∈ lw_all := lw_g (lw_at lw_m3 71 rfl) rfl
theorem q613 : (Jvm.Cond.fieldLink "java/util/TreeMap$NavigableSubMap$EntrySetView" (13 : Nat) "java/util/TreeMap$NavigableSubMap$EntrySetView" "size" "I") ∈ lw_all := lw_g (lw_at lw_m3 72 rfl) rfl
theorem q614 : (Jvm.Cond.fieldLink "java/util/TreeMap$NavigableSubMap$EntrySetView" (35 : Nat) "java/util/TreeMap$NavigableSubMap$EntrySetView" "sizeModCount" "I") ∈ lw_all := lw_g (lw_at lw_m3 73 rfl) rfl
theorem q615 : (Jvm.Cond.fieldLink "java/util/TreeMap$NavigableSubMap$EntrySetView" (1 : Nat) "java/util/TreeMap$NavigableSubMap$EntrySetView" "this$0" "Ljava/util/TreeMap$NavigableSubMap;") ∈ lw_all := lw_g (lw_at lw_m3 74 rfl) rfl
theorem q626 : (Jvm.Cond.methodLink "java/util/AbstractMap$2$1" (25 : Nat) ({ cls := "java/util/Set", name := "iterator", desc := "()Ljava/util/Iterator;" } : Jvm.MethodName)) ∈ lw_all := lw_g (lw_at lw_m3 85 rfl) rfl
theorem q627 : (Jvm.Cond.interfaceMethod "java/util/Set" "java/util/Set" "iterator" "()Ljava/util/Iterator;") ∈ lw_tbl := lw_at lw_m3 86 rfl
theorem q628 : (Jvm.Cond.declares ({ cls := "java/util/Set", name := "iterator", desc := "()Ljava/util/Iterator;" } : Jvm.MethodName)) ∈ lw_tbl := lw_at lw_m3 87 rfl
theorem q629 : (Jvm.Cond.castable "java/util/TreeMap$AscendingSubMap$AscendingEntrySetView" "java/util/Set") ∈ lw_tbl := lw_at lw_m3 88 rfl
theorem q630 : (Jvm.Cond.selects "java/util/TreeMap$AscendingSubMap$AscendingEntrySetView" ({ cls := "java/util/Set", name := "iterator", desc := "()Ljava/util/Iterator;" } : Jvm.MethodName) ({ cls := "java/util/TreeMap$AscendingSubMap$AscendingEntrySetView", name := "iterator", desc := "()Ljava/util/Iterator;" } : Jvm.MethodName)) ∈ lw_all := lw_g (lw_at lw_m3 89 rfl) rfl
theorem q631 : (Jvm.Cond.unhidden "java/util/TreeMap$AscendingSubMap$AscendingEntrySetView" "iterator" "()Ljava/util/Iterator;") ∈ lw_tbl := lw_at lw_m3 90 rfl
theorem q632 : (Jvm.Cond.instanceMethod ({ cls := "java/util/TreeMap$AscendingSubMap$AscendingEntrySetView", name := "iterator", desc := "()Ljava/util/Iterator;" } : Jvm.MethodName)) ∈ lw_all := lw_g (lw_at lw_m3 91 rfl) rfl
theorem q633 : (Jvm.Cond.publicMethod ({ cls := "java/util/TreeMap$AscendingSubMap$AscendingEntrySetView", name := "iterator", desc := "()Ljava/util/Iterator;" } : Jvm.MethodName)) ∈ lw_tbl := lw_at lw_m3 92 rfl
theorem q634 : (Jvm.Cond.code ({ cls := "java/util/TreeMap$AscendingSubMap$AscendingEntrySetView", name := "iterator", desc := "()Ljava/util/Iterator;" } : Jvm.MethodName) prog_85_method_2_code (1 : Nat) (Option.some (Jvm.ClassFile.FieldType.object "java/util/Iterator"))) ∈ lw_all := lw_g (lw_at lw_m3 93 rfl) rfl
theorem q635 : (Jvm.Cond.classLink "java/util/TreeMap$AscendingSubMap$AscendingEntrySetView" (13 : Nat) "java/util/TreeMap$NavigableSubMap$SubMapEntryIterator") ∈ lw_all := lw_g (lw_at lw_m3 94 rfl) rfl
theorem q636 : (Jvm.Cond.instantiable "java/util/TreeMap$NavigableSubMap$SubMapEntryIterator" (5 : Nat)) ∈ lw_all := lw_g (lw_at lw_m3 95 rfl) rfl
theorem q637 : (Jvm.Cond.methodLink "java/util/TreeMap$AscendingSubMap$AscendingEntrySetView" (15 : Nat) ({ cls := "java/util/TreeMap$AscendingSubMap", name := "absLowest", desc := "()Ljava/util/TreeMap$Entry;" } : Jvm.MethodName)) ∈ lw_all := lw_g (lw_at lw_m3 96 rfl) rfl
theorem q638 : (Jvm.Cond.sameMethod "java/util/TreeMap$AscendingSubMap" "java/util/TreeMap$NavigableSubMap" "absLowest" "()Ljava/util/TreeMap$Entry;") ∈ lw_all := lw_g (lw_at lw_m3 97 rfl) rfl
theorem q640 : (Jvm.Cond.selects "java/util/TreeMap$AscendingSubMap" ({ cls := "java/util/TreeMap$AscendingSubMap", name := "absLowest", desc := "()Ljava/util/TreeMap$Entry;" } : Jvm.MethodName) ({ cls := "java/util/TreeMap$NavigableSubMap", name := "absLowest", desc := "()Ljava/util/TreeMap$Entry;" } : Jvm.MethodName)) ∈ lw_all := lw_g (lw_at lw_m3 99 rfl) rfl
theorem q641 : (Jvm.Cond.instanceMethod ({ cls := "java/util/TreeMap$NavigableSubMap", name := "absLowest", desc := "()Ljava/util/TreeMap$Entry;" } : Jvm.MethodName)) ∈ lw_all := lw_g (lw_at lw_m3 100 rfl) rfl
theorem q642 : (Jvm.Cond.code ({ cls := "java/util/TreeMap$NavigableSubMap", name := "absLowest", desc := "()Ljava/util/TreeMap$Entry;" } : Jvm.MethodName) prog_89_method_7_code (2 : Nat) (Option.some (Jvm.ClassFile.FieldType.object "java/util/TreeMap$Entry"))) ∈ lw_all := lw_g (lw_at lw_m3 101 rfl) rfl
theorem q643 : (Jvm.Cond.methodLink "java/util/TreeMap$NavigableSubMap" (59 : Nat) ({ cls := "java/util/TreeMap", name := "getFirstEntry", desc := "()Ljava/util/TreeMap$Entry;" } : Jvm.MethodName)) ∈ lw_all := lw_g (lw_at lw_m3 102 rfl) rfl
theorem q644 : (Jvm.Cond.instanceMethod ({ cls := "java/util/TreeMap", name := "getFirstEntry", desc := "()Ljava/util/TreeMap$Entry;" } : Jvm.MethodName)) ∈ lw_all := lw_g (lw_at lw_m3 103 rfl) rfl
theorem q645 : (Jvm.Cond.selects "java/util/TreeMap" ({ cls := "java/util/TreeMap", name := "getFirstEntry", desc := "()Ljava/util/TreeMap$Entry;" } : Jvm.MethodName) ({ cls := "java/util/TreeMap", name := "getFirstEntry", desc := "()Ljava/util/TreeMap$Entry;" } : Jvm.MethodName)) ∈ lw_all := lw_g (lw_at lw_m3 104 rfl) rfl
theorem q646 : (Jvm.Cond.code ({ cls := "java/util/TreeMap", name := "getFirstEntry", desc := "()Ljava/util/TreeMap$Entry;" } : Jvm.MethodName) prog_83_method_72_code (2 : Nat) (Option.some (Jvm.ClassFile.FieldType.object "java/util/TreeMap$Entry"))) ∈ lw_all := lw_g (lw_at lw_m3 105 rfl) rfl
theorem q647 : (Jvm.Cond.methodLink "java/util/TreeMap$NavigableSubMap" (63 : Nat) ({ cls := "java/util/TreeMap", name := "getCeilingEntry", desc := "(Ljava/lang/Object;)Ljava/util/TreeMap$Entry;" } : Jvm.MethodName)) ∈ lw_all := lw_g (lw_at lw_m3 106 rfl) rfl
theorem q648 : (Jvm.Cond.instanceMethod ({ cls := "java/util/TreeMap", name := "getCeilingEntry", desc := "(Ljava/lang/Object;)Ljava/util/TreeMap$Entry;" } : Jvm.MethodName)) ∈ lw_all := lw_g (lw_at lw_m3 107 rfl) rfl
theorem q649 : (Jvm.Cond.selects "java/util/TreeMap" ({ cls := "java/util/TreeMap", name := "getCeilingEntry", desc := "(Ljava/lang/Object;)Ljava/util/TreeMap$Entry;" } : Jvm.MethodName) ({ cls := "java/util/TreeMap", name := "getCeilingEntry", desc := "(Ljava/lang/Object;)Ljava/util/TreeMap$Entry;" } : Jvm.MethodName)) ∈ lw_all := lw_g (lw_at lw_m3 108 rfl) rfl
theorem q650 : (Jvm.Cond.code ({ cls := "java/util/TreeMap", name := "getCeilingEntry", desc := "(Ljava/lang/Object;)Ljava/util/TreeMap$Entry;" } : Jvm.MethodName) prog_83_method_17_code (6 : Nat) (Option.some (Jvm.ClassFile.FieldType.object "java/util/TreeMap$Entry"))) ∈ lw_all := lw_g (lw_at lw_m3 109 rfl) rfl
theorem q651 : (Jvm.Cond.methodLink "java/util/TreeMap" (123 : Nat) ({ cls := "java/util/TreeMap", name := "compare", desc := "(Ljava/lang/Object;Ljava/lang/Object;)I" } : Jvm.MethodName)) ∈ lw_all := lw_g (lw_at lw_m3 110 rfl) rfl
theorem q652 : (Jvm.Cond.instanceMethod ({ cls := "java/util/TreeMap", name := "compare", desc := "(Ljava/lang/Object;Ljava/lang/Object;)I" } : Jvm.MethodName)) ∈ lw_all := lw_g (lw_at lw_m3 111 rfl) rfl
theorem q653 : (Jvm.Cond.selects "java/util/TreeMap" ({ cls := "java/util/TreeMap", name := "compare", desc := "(Ljava/lang/Object;Ljava/lang/Object;)I" } : Jvm.MethodName) ({ cls := "java/util/TreeMap", name := "compare", desc := "(Ljava/lang/Object;Ljava/lang/Object;)I" } : Jvm.MethodName)) ∈ lw_all := lw_g (lw_at lw_m3 112 rfl) rfl
theorem q654 : (Jvm.Cond.code ({ cls := "java/util/TreeMap", name := "compare", desc := "(Ljava/lang/Object;Ljava/lang/Object;)I" } : Jvm.MethodName) prog_83_method_67_code (3 : Nat) (Option.some Jvm.ClassFile.FieldType.int)) ∈ lw_all := lw_g (lw_at lw_m3 113 rfl) rfl
theorem q655 : (Jvm.Cond.classLink "java/util/TreeMap" (99 : Nat) "java/lang/Comparable") ∈ lw_all := lw_g (lw_at lw_m3 114 rfl) rfl
theorem q657 : (Jvm.Cond.methodLink "java/util/TreeMap" (107 : Nat) ({ cls := "java/lang/Comparable", name := "compareTo", desc := "(Ljava/lang/Object;)I" } : Jvm.MethodName)) ∈ lw_all := lw_g (lw_at lw_m3 116 rfl) rfl
theorem q658 : (Jvm.Cond.interfaceMethod "java/lang/Comparable" "java/lang/Comparable" "compareTo" "(Ljava/lang/Object;)I") ∈ lw_tbl := lw_at lw_m3 117 rfl
theorem q659 : (Jvm.Cond.declares ({ cls := "java/lang/Comparable", name := "compareTo", desc := "(Ljava/lang/Object;)I" } : Jvm.MethodName)) ∈ lw_tbl := lw_at lw_m3 118 rfl
theorem q660 : (Jvm.Cond.castable "java/lang/Integer" "java/lang/Comparable") ∈ lw_tbl := lw_at lw_m3 119 rfl
theorem q661 : (Jvm.Cond.selects "java/lang/Integer" ({ cls := "java/lang/Comparable", name := "compareTo", desc := "(Ljava/lang/Object;)I" } : Jvm.MethodName) ({ cls := "java/lang/Integer", name := "compareTo", desc := "(Ljava/lang/Object;)I" } : Jvm.MethodName)) ∈ lw_all := lw_g (lw_at lw_m3 120 rfl) rfl
theorem q662 : (Jvm.Cond.unhidden "java/lang/Integer" "compareTo" "(Ljava/lang/Object;)I") ∈ lw_tbl := lw_at lw_m3 121 rfl
theorem q663 : (Jvm.Cond.instanceMethod ({ cls := "java/lang/Integer", name := "compareTo", desc := "(Ljava/lang/Object;)I" } : Jvm.MethodName)) ∈ lw_all := lw_g (lw_at lw_m3 122 rfl) rfl
theorem q664 : (Jvm.Cond.publicMethod ({ cls := "java/lang/Integer", name := "compareTo", desc := "(Ljava/lang/Object;)I" } : Jvm.MethodName)) ∈ lw_tbl := lw_at lw_m3 123 rfl
theorem q665 : (Jvm.Cond.code ({ cls := "java/lang/Integer", name := "compareTo", desc := "(Ljava/lang/Object;)I" } : Jvm.MethodName) prog_33_method_63_code (2 : Nat) (Option.some Jvm.ClassFile.FieldType.int)) ∈ lw_all := lw_g (lw_at lw_m3 124 rfl) rfl
theorem q666 : (Jvm.Cond.classLink "java/lang/Integer" (1 : Nat) "java/lang/Integer") ∈ lw_all := lw_g (lw_at lw_m3 125 rfl) rfl
theorem q667 : (Jvm.Cond.methodLink "java/lang/Integer" (284 : Nat) ({ cls := "java/lang/Integer", name := "compareTo", desc := "(Ljava/lang/Integer;)I" } : Jvm.MethodName)) ∈ lw_all := lw_g (lw_at lw_m3 126 rfl) rfl
theorem q668 : (Jvm.Cond.instanceMethod ({ cls := "java/lang/Integer", name := "compareTo", desc := "(Ljava/lang/Integer;)I" } : Jvm.MethodName)) ∈ lw_all := lw_g (lw_at lw_m3 127 rfl) rfl
theorem q669 : (Jvm.Cond.selects "java/lang/Integer" ({ cls := "java/lang/Integer", name := "compareTo", desc := "(Ljava/lang/Integer;)I" } : Jvm.MethodName) ({ cls := "java/lang/Integer", name := "compareTo", desc := "(Ljava/lang/Integer;)I" } : Jvm.MethodName)) ∈ lw_all := lw_g (lw_at lw_m3 128 rfl) rfl
theorem q670 : (Jvm.Cond.code ({ cls := "java/lang/Integer", name := "compareTo", desc := "(Ljava/lang/Integer;)I" } : Jvm.MethodName) prog_33_method_39_code (2 : Nat) (Option.some Jvm.ClassFile.FieldType.int)) ∈ lw_all := lw_g (lw_at lw_m3 129 rfl) rfl
theorem q671 : (Jvm.Cond.methodLink "java/lang/Integer" (259 : Nat) ({ cls := "java/lang/Integer", name := "compare", desc := "(II)I" } : Jvm.MethodName)) ∈ lw_all := lw_g (lw_at lw_m3 130 rfl) rfl
theorem q672 : (Jvm.Cond.static ({ cls := "java/lang/Integer", name := "compare", desc := "(II)I" } : Jvm.MethodName)) ∈ lw_all := lw_g (lw_at lw_m3 131 rfl) rfl
theorem q673 : (Jvm.Cond.code ({ cls := "java/lang/Integer", name := "compare", desc := "(II)I" } : Jvm.MethodName) prog_33_method_40_code (2 : Nat) (Option.some Jvm.ClassFile.FieldType.int)) ∈ lw_all := lw_g (lw_at lw_m3 132 rfl) rfl
theorem q674 : (Jvm.Cond.castable "java/lang/Long" "java/lang/Comparable") ∈ lw_tbl := lw_at lw_m3 133 rfl
theorem q675 : (Jvm.Cond.selects "java/lang/Long" ({ cls := "java/lang/Comparable", name := "compareTo", desc := "(Ljava/lang/Object;)I" } : Jvm.MethodName) ({ cls := "java/lang/Long", name := "compareTo", desc := "(Ljava/lang/Object;)I" } : Jvm.MethodName)) ∈ lw_all := lw_g (lw_at lw_m3 134 rfl) rfl
theorem q676 : (Jvm.Cond.unhidden "java/lang/Long" "compareTo" "(Ljava/lang/Object;)I") ∈ lw_tbl := lw_at lw_m3 135 rfl
theorem q677 : (Jvm.Cond.instanceMethod ({ cls := "java/lang/Long", name := "compareTo", desc := "(Ljava/lang/Object;)I" } : Jvm.MethodName)) ∈ lw_all := lw_g (lw_at lw_m3 136 rfl) rfl
theorem q678 : (Jvm.Cond.publicMethod ({ cls := "java/lang/Long", name := "compareTo", desc := "(Ljava/lang/Object;)I" } : Jvm.MethodName)) ∈ lw_tbl := lw_at lw_m3 137 rfl
theorem q679 : (Jvm.Cond.code ({ cls := "java/lang/Long", name := "compareTo", desc := "(Ljava/lang/Object;)I" } : Jvm.MethodName) prog_36_method_64_code (2 : Nat) (Option.some Jvm.ClassFile.FieldType.int)) ∈ lw_all := lw_g (lw_at lw_m3 138 rfl) rfl
theorem q680 : (Jvm.Cond.classLink "java/lang/Long" (1 : Nat) "java/lang/Long") ∈ lw_all := lw_g (lw_at lw_m3 139 rfl) rfl
theorem q681 : (Jvm.Cond.methodLink "java/lang/Long" (343 : Nat) ({ cls := "java/lang/Long", name := "compareTo", desc := "(Ljava/lang/Long;)I" } : Jvm.MethodName)) ∈ lw_all := lw_g (lw_at lw_m3 140 rfl) rfl
theorem q682 : (Jvm.Cond.instanceMethod ({ cls := "java/lang/Long", name := "compareTo", desc := "(Ljava/lang/Long;)I" } : Jvm.MethodName)) ∈ lw_all := lw_g (lw_at lw_m3 141 rfl) rfl
theorem q683 : (Jvm.Cond.selects "java/lang/Long" ({ cls := "java/lang/Long", name := "compareTo", desc := "(Ljava/lang/Long;)I" } : Jvm.MethodName) ({ cls := "java/lang/Long", name := "compareTo", desc := "(Ljava/lang/Long;)I" } : Jvm.MethodName)) ∈ lw_all := lw_g (lw_at lw_m3 142 rfl) rfl
theorem q684 : (Jvm.Cond.code ({ cls := "java/lang/Long", name := "compareTo", desc := "(Ljava/lang/Long;)I" } : Jvm.MethodName) prog_36_method_41_code (2 : Nat) (Option.some Jvm.ClassFile.FieldType.int)) ∈ lw_all := lw_g (lw_at lw_m3 143 rfl) rfl
theorem q685 : (Jvm.Cond.methodLink "java/lang/Long" (302 : Nat) ({ cls := "java/lang/Long", name := "compare", desc := "(JJ)I" } : Jvm.MethodName)) ∈ lw_all := lw_g (lw_at lw_m3 144 rfl) rfl
theorem q686 : (Jvm.Cond.static ({ cls := "java/lang/Long", name := "compare", desc := "(JJ)I" } : Jvm.MethodName)) ∈ lw_all := lw_g (lw_at lw_m3 145 rfl) rfl
theorem q687 : (Jvm.Cond.code ({ cls := "java/lang/Long", name := "compare", desc := "(JJ)I" } : Jvm.MethodName) prog_36_method_42_code (4 : Nat) (Option.some Jvm.ClassFile.FieldType.int)) ∈ lw_all := lw_g (lw_at lw_m3 146 rfl) rfl
theorem q898 : (Jvm.Cond.methodLink "java/util/TreeMap" (117 : Nat) ({ cls := "java/util/Comparator", name := "compare", desc := "(Ljava/lang/Object;Ljava/lang/Object;)I" } : Jvm.MethodName)) ∈ lw_all := lw_g (lw_at lw_m4 117 rfl) rfl
theorem q899 : (Jvm.Cond.interfaceMethod "java/util/Comparator" "java/util/Comparator" "compare" "(Ljava/lang/Object;Ljava/lang/Object;)I") ∈ lw_tbl := lw_at lw_m4 118 rfl
theorem q900 : (Jvm.Cond.declares ({ cls := "java/util/Comparator", name := "compare", desc := "(Ljava/lang/Object;Ljava/lang/Object;)I" } : Jvm.MethodName)) ∈ lw_tbl := lw_at lw_m4 119 rfl
theorem q901 : (Jvm.Cond.castable "Leafcredit$ByPrice" "java/util/Comparator") ∈ lw_tbl := lw_at lw_m4 120 rfl
theorem q902 : (Jvm.Cond.selects "Leafcredit$ByPrice" ({ cls := "java/util/Comparator", name := "compare", desc := "(Ljava/lang/Object;Ljava/lang/Object;)I" } : Jvm.MethodName) ({ cls := "Leafcredit$ByPrice", name := "compare", desc := "(Ljava/lang/Object;Ljava/lang/Object;)I" } : Jvm.MethodName)) ∈ lw_all := lw_g (lw_at lw_m4 121 rfl) rfl
theorem q903 : (Jvm.Cond.unhidden "Leafcredit$ByPrice" "compare" "(Ljava/lang/Object;Ljava/lang/Object;)I") ∈ lw_tbl := lw_at lw_m4 122 rfl
theorem q904 : (Jvm.Cond.instanceMethod ({ cls := "Leafcredit$ByPrice", name := "compare", desc := "(Ljava/lang/Object;Ljava/lang/Object;)I" } : Jvm.MethodName)) ∈ lw_all := lw_g (lw_at lw_m4 123 rfl) rfl
theorem q905 : (Jvm.Cond.publicMethod ({ cls := "Leafcredit$ByPrice", name := "compare", desc := "(Ljava/lang/Object;Ljava/lang/Object;)I" } : Jvm.MethodName)) ∈ lw_tbl := lw_at lw_m4 124 rfl
theorem q906 : (Jvm.Cond.code ({ cls := "Leafcredit$ByPrice", name := "compare", desc := "(Ljava/lang/Object;Ljava/lang/Object;)I" } : Jvm.MethodName) prog_4_method_3_code (3 : Nat) (Option.some Jvm.ClassFile.FieldType.int)) ∈ lw_all := lw_g (lw_at lw_m4 125 rfl) rfl
theorem q907 : (Jvm.Cond.classLink "Leafcredit$ByPrice" (8 : Nat) "Leafcredit$Bid") ∈ lw_all := lw_g (lw_at lw_m4 126 rfl) rfl
theorem q908 : (Jvm.Cond.methodLink "Leafcredit$ByPrice" (22 : Nat) ({ cls := "Leafcredit$ByPrice", name := "compare", desc := "(LLeafcredit$Bid;LLeafcredit$Bid;)I" } : Jvm.MethodName)) ∈ lw_all := lw_g (lw_at lw_m4 127 rfl) rfl
theorem q909 : (Jvm.Cond.instanceMethod ({ cls := "Leafcredit$ByPrice", name := "compare", desc := "(LLeafcredit$Bid;LLeafcredit$Bid;)I" } : Jvm.MethodName)) ∈ lw_all := lw_g (lw_at lw_m4 128 rfl) rfl
theorem q910 : (Jvm.Cond.selects "Leafcredit$ByPrice" ({ cls := "Leafcredit$ByPrice", name := "compare", desc := "(LLeafcredit$Bid;LLeafcredit$Bid;)I" } : Jvm.MethodName) ({ cls := "Leafcredit$ByPrice", name := "compare", desc := "(LLeafcredit$Bid;LLeafcredit$Bid;)I" } : Jvm.MethodName)) ∈ lw_all := lw_g (lw_at lw_m4 129 rfl) rfl
theorem q911 : (Jvm.Cond.code ({ cls := "Leafcredit$ByPrice", name := "compare", desc := "(LLeafcredit$Bid;LLeafcredit$Bid;)I" } : Jvm.MethodName) prog_4_method_2_code (3 : Nat) (Option.some Jvm.ClassFile.FieldType.int)) ∈ lw_all := lw_g (lw_at lw_m4 130 rfl) rfl
theorem q912 : (Jvm.Cond.methodLink "Leafcredit$ByPrice" (13 : Nat) ({ cls := "java/lang/Integer", name := "compare", desc := "(II)I" } : Jvm.MethodName)) ∈ lw_all := lw_g (lw_at lw_m4 131 rfl) rfl
theorem q913 : (Jvm.Cond.castable "Leafcredit$ByUse" "java/util/Comparator") ∈ lw_tbl := lw_at lw_m4 132 rfl
theorem q914 : (Jvm.Cond.selects "Leafcredit$ByUse" ({ cls := "java/util/Comparator", name := "compare", desc := "(Ljava/lang/Object;Ljava/lang/Object;)I" } : Jvm.MethodName) ({ cls := "Leafcredit$ByUse", name := "compare", desc := "(Ljava/lang/Object;Ljava/lang/Object;)I" } : Jvm.MethodName)) ∈ lw_all := lw_g (lw_at lw_m4 133 rfl) rfl
theorem q915 : (Jvm.Cond.unhidden "Leafcredit$ByUse" "compare" "(Ljava/lang/Object;Ljava/lang/Object;)I") ∈ lw_tbl := lw_at lw_m4 134 rfl
theorem q916 : (Jvm.Cond.instanceMethod ({ cls := "Leafcredit$ByUse", name := "compare", desc := "(Ljava/lang/Object;Ljava/lang/Object;)I" } : Jvm.MethodName)) ∈ lw_all := lw_g (lw_at lw_m4 135 rfl) rfl
theorem q917 : (Jvm.Cond.publicMethod ({ cls := "Leafcredit$ByUse", name := "compare", desc := "(Ljava/lang/Object;Ljava/lang/Object;)I" } : Jvm.MethodName)) ∈ lw_tbl := lw_at lw_m4 136 rfl
theorem q918 : (Jvm.Cond.code ({ cls := "Leafcredit$ByUse", name := "compare", desc := "(Ljava/lang/Object;Ljava/lang/Object;)I" } : Jvm.MethodName) prog_5_method_3_code (3 : Nat) (Option.some Jvm.ClassFile.FieldType.int)) ∈ lw_all := lw_g (lw_at lw_m4 137 rfl) rfl
theorem q919 : (Jvm.Cond.classLink "Leafcredit$ByUse" (16 : Nat) "Leafcredit$Piece") ∈ lw_all := lw_g (lw_at lw_m4 138 rfl) rfl
theorem q920 : (Jvm.Cond.methodLink "Leafcredit$ByUse" (30 : Nat) ({ cls := "Leafcredit$ByUse", name := "compare", desc := "(LLeafcredit$Piece;LLeafcredit$Piece;)I" } : Jvm.MethodName)) ∈ lw_all := lw_g (lw_at lw_m4 139 rfl) rfl
theorem q921 : (Jvm.Cond.instanceMethod ({ cls := "Leafcredit$ByUse", name := "compare", desc := "(LLeafcredit$Piece;LLeafcredit$Piece;)I" } : Jvm.MethodName)) ∈ lw_all := lw_g (lw_at lw_m4 140 rfl) rfl
theorem q922 : (Jvm.Cond.selects "Leafcredit$ByUse" ({ cls := "Leafcredit$ByUse", name := "compare", desc := "(LLeafcredit$Piece;LLeafcredit$Piece;)I" } : Jvm.MethodName) ({ cls := "Leafcredit$ByUse", name := "compare", desc := "(LLeafcredit$Piece;LLeafcredit$Piece;)I" } : Jvm.MethodName)) ∈ lw_all := lw_g (lw_at lw_m4 141 rfl) rfl
theorem q923 : (Jvm.Cond.code ({ cls := "Leafcredit$ByUse", name := "compare", desc := "(LLeafcredit$Piece;LLeafcredit$Piece;)I" } : Jvm.MethodName) prog_5_method_2_code (4 : Nat) (Option.some Jvm.ClassFile.FieldType.int)) ∈ lw_all := lw_g (lw_at lw_m4 142 rfl) rfl
theorem q924 : (Jvm.Cond.methodLink "Leafcredit$ByUse" (21 : Nat) ({ cls := "java/lang/Integer", name := "compare", desc := "(II)I" } : Jvm.MethodName)) ∈ lw_all := lw_g (lw_at lw_m4 143 rfl) rfl
theorem q925 : (Jvm.Cond.methodLink "java/util/TreeMap$NavigableSubMap" (67 : Nat) ({ cls := "java/util/TreeMap", name := "getHigherEntry", desc := "(Ljava/lang/Object;)Ljava/util/TreeMap$Entry;" } : Jvm.MethodName)) ∈ lw_all := lw_g (lw_at lw_m4 144 rfl) rfl
theorem q926 : (Jvm.Cond.instanceMethod ({ cls := "java/util/TreeMap", name := "getHigherEntry", desc := "(Ljava/lang/Object;)Ljava/util/TreeMap$Entry;" } : Jvm.MethodName)) ∈ lw_all := lw_g (lw_at lw_m4 145 rfl) rfl
theorem q927 : (Jvm.Cond.selects "java/util/TreeMap" ({ cls := "java/util/TreeMap", name := "getHigherEntry", desc := "(Ljava/lang/Object;)Ljava/util/TreeMap$Entry;" } : Jvm.MethodName) ({ cls := "java/util/TreeMap", name := "getHigherEntry", desc := "(Ljava/lang/Object;)Ljava/util/TreeMap$Entry;" } : Jvm.MethodName)) ∈ lw_all := lw_g (lw_at lw_m4 146 rfl) rfl
theorem q928 : (Jvm.Cond.code ({ cls := "java/util/TreeMap", name := "getHigherEntry", desc := "(Ljava/lang/Object;)Ljava/util/TreeMap$Entry;" } : Jvm.MethodName) prog_83_method_19_code (6 : Nat) (Option.some (Jvm.ClassFile.FieldType.object "java/util/TreeMap$Entry"))) ∈ lw_all := lw_g (lw_at lw_m4 147 rfl) rfl
theorem q929 : (Jvm.Cond.methodLink "java/util/TreeMap$NavigableSubMap" (50 : Nat) ({ cls := "java/util/TreeMap$NavigableSubMap", name := "tooHigh", desc := "(Ljava/lang/Object;)Z" } : Jvm.MethodName)) ∈ lw_all := lw_g (lw_at lw_m4 148 rfl) rfl
theorem q930 : (Jvm.Cond.instanceMethod ({ cls := "java/util/TreeMap$NavigableSubMap", name := "tooHigh", desc := "(Ljava/lang/Object;)Z" } : Jvm.MethodName)) ∈ lw_all := lw_g (lw_at lw_m4 149 rfl) rfl
theorem q931 : (Jvm.Cond.sameMethod "java/util/TreeMap$NavigableSubMap" "java/util/TreeMap$NavigableSubMap" "tooHigh" "(Ljava/lang/Object;)Z") ∈ lw_all := lw_g (lw_at lw_m4 150 rfl) rfl
theorem q932 : (Jvm.Cond.selects "java/util/TreeMap$AscendingSubMap" ({ cls := "java/util/TreeMap$NavigableSubMap", name := "tooHigh", desc := "(Ljava/lang/Object;)Z" } : Jvm.MethodName) ({ cls := "java/util/TreeMap$NavigableSubMap", name := "tooHigh", desc := "(Ljava/lang/Object;)Z" } : Jvm.MethodName)) ∈ lw_all := lw_g (lw_at lw_m4 151 rfl) rfl
theorem q933 : (Jvm.Cond.code ({ cls := "java/util/TreeMap$NavigableSubMap", name := "tooHigh", desc := "(Ljava/lang/Object;)Z" } : Jvm.MethodName) prog_89_method_3_code (3 : Nat) (Option.some Jvm.ClassFile.FieldType.boolean)) ∈ lw_all := lw_g (lw_at lw_m4 152 rfl) rfl
theorem q934 : (Jvm.Cond.methodLink "java/util/TreeMap$NavigableSubMap" (7 : Nat) ({ cls := "java/util/TreeMap", name := "compare", desc := "(Ljava/lang/Object;Ljava/lang/Object;)I" } : Jvm.MethodName)) ∈ lw_all := lw_g (lw_at lw_m4 153 rfl) rfl
theorem q935 : (Jvm.Cond.methodLink "java/util/TreeMap$AscendingSubMap$AscendingEntrySetView" (21 : Nat) ({ cls := "java/util/TreeMap$AscendingSubMap", name := "absHighFence", desc := "()Ljava/util/TreeMap$Entry;" } : Jvm.MethodName)) ∈ lw_all := lw_g (lw_at lw_m4 154 rfl) rfl
theorem q936 : (Jvm.Cond.sameMethod "java/util/TreeMap$AscendingSubMap" "java/util/TreeMap$NavigableSubMap" "absHighFence" "()Ljava/util/TreeMap$Entry;") ∈ lw_all := lw_g (lw_at lw_m4 155 rfl) rfl
theorem q938 : (Jvm.Cond.selects "java/util/TreeMap$AscendingSubMap" ({ cls := "java/util/TreeMap$AscendingSubMap", name := "absHighFence", desc := "()Ljava/util/TreeMap$Entry;" } : Jvm.MethodName) ({ cls := "java/util/TreeMap$NavigableSubMap", name := "absHighFence", desc := "()Ljava/util/TreeMap$Entry;" } : Jvm.MethodName)) ∈ lw_all := lw_g (lw_at lw_m4 157 rfl) rfl
theorem q939 : (Jvm.Cond.instanceMethod ({ cls := "java/util/TreeMap$NavigableSubMap", name := "absHighFence", desc := "()Ljava/util/TreeMap$Entry;" } : Jvm.MethodName)) ∈ lw_all := lw_g (lw_at lw_m4 158 rfl) rfl
theorem q940 : (Jvm.Cond.code ({ cls := "java/util/TreeMap$NavigableSubMap", name := "absHighFence", desc := "()Ljava/util/TreeMap$Entry;" } : Jvm.MethodName) prog_89_method_13_code (1 : Nat) (Option.some (Jvm.ClassFile.FieldType.object "java/util/TreeMap$Entry"))) ∈ lw_all := lw_g (lw_at lw_m4 159 rfl) rfl
theorem q941 : (Jvm.Cond.methodLink "java/util/TreeMap$AscendingSubMap$AscendingEntrySetView" (24 : Nat) ({ cls := "java/util/TreeMap$NavigableSubMap$SubMapEntryIterator", name := "<init>", desc := "(Ljava/util/TreeMap$NavigableSubMap;Ljava/util/TreeMap$Entry;Ljava/util/TreeMap$Entry;)V" } : Jvm.MethodName)) ∈ lw_all := lw_g (lw_at lw_m4 160 rfl) rfl
theorem q942 : (Jvm.Cond.instanceMethod ({ cls := "java/util/TreeMap$NavigableSubMap$SubMapEntryIterator", name := "<init>", desc := "(Ljava/util/TreeMap$NavigableSubMap;Ljava/util/TreeMap$Entry;Ljava/util/TreeMap$Entry;)V" } : Jvm.MethodName)) ∈ lw_all := lw_g (lw_at lw_m4 161 rfl) rfl
theorem q943 : (Jvm.Cond.code ({ cls := "java/util/TreeMap$NavigableSubMap$SubMapEntryIterator", name := "<init>", desc := "(Ljava/util/TreeMap$NavigableSubMap;Ljava/util/TreeMap$Entry;Ljava/util/TreeMap$Entry;)V" } : Jvm.MethodName) prog_91_method_1_code (4 : Nat) (Option.none : Option Jvm.ClassFile.FieldType)) ∈ lw_all := lw_g (lw_at lw_m4 162 rfl) rfl
theorem q944 : (Jvm.Cond.methodLink "java/util/TreeMap$NavigableSubMap$SubMapEntryIterator" (1 : Nat) ({ cls := "java/util/TreeMap$NavigableSubMap$SubMapIterator", name := "<init>", desc := "(Ljava/util/TreeMap$NavigableSubMap;Ljava/util/TreeMap$Entry;Ljava/util/TreeMap$Entry;)V" } : Jvm.MethodName)) ∈ lw_all := lw_g (lw_at lw_m4 163 rfl) rfl
theorem q945 : (Jvm.Cond.instanceMethod ({ cls := "java/util/TreeMap$NavigableSubMap$SubMapIterator", name := "<init>", desc := "(Ljava/util/TreeMap$NavigableSubMap;Ljava/util/TreeMap$Entry;Ljava/util/TreeMap$Entry;)V" } : Jvm.MethodName)) ∈ lw_all := lw_g (lw_at lw_m4 164 rfl) rfl
theorem q946 : (Jvm.Cond.code ({ cls := "java/util/TreeMap$NavigableSubMap$SubMapIterator", name := "<init>", desc := "(Ljava/util/TreeMap$NavigableSubMap;Ljava/util/TreeMap$Entry;Ljava/util/TreeMap$Entry;)V" } : Jvm.MethodName) prog_92_method_1_code (4 : Nat) (Option.none : Option Jvm.ClassFile.FieldType)) ∈ lw_all := lw_g (lw_at lw_m4 165 rfl) rfl
theorem q947 : (Jvm.Cond.methodLink "java/util/TreeMap$NavigableSubMap$SubMapIterator" (7 : Nat) ({ cls := "java/lang/Object", name := "<init>", desc := "()V" } : Jvm.MethodName)) ∈ lw_all := lw_g (lw_at lw_m4 166 rfl) rfl
theorem q948 : (Jvm.Cond.fieldLinkNest "java/util/TreeMap$NavigableSubMap$SubMapIterator" (35 : Nat) "java/util/TreeMap" "UNBOUNDED" "Ljava/lang/Object;" "java/util/TreeMap") ∈ lw_tbl := lw_at lw_m4 167 rfl
theorem q950 : (Jvm.Cond.fieldLink "java/util/TreeMap$NavigableSubMap$SubMapIterator" (28 : Nat) "java/util/TreeMap$NavigableSubMap$SubMapIterator" "lastReturned" "Ljava/util/TreeMap$Entry;") ∈ lw_all := lw_g (lw_at lw_m4 169 rfl) rfl
theorem q951 : (Jvm.Cond.fieldLink "java/util/TreeMap$NavigableSubMap$SubMapIterator" (32 : Nat) "java/util/TreeMap$NavigableSubMap$SubMapIterator" "next" "Ljava/util/TreeMap$Entry;") ∈ lw_all := lw_g (lw_at lw_m4 170 rfl) rfl
theorem q952 : (Jvm.Cond.fieldLink "java/util/TreeMap$NavigableSubMap$SubMapIterator" (44 : Nat) "java/util/TreeMap$NavigableSubMap$SubMapIterator" "fenceKey" "Ljava/lang/Object;") ∈ lw_all := lw_g (lw_at lw_m4 171 rfl) rfl
theorem q953 : (Jvm.Cond.fieldLink "java/util/TreeMap$NavigableSubMap$SubMapIterator" (25 : Nat) "java/util/TreeMap$NavigableSubMap$SubMapIterator" "expectedModCount" "I") ∈ lw_all := lw_g (lw_at lw_m4 172 rfl) rfl
theorem q954 : (Jvm.Cond.fieldLink "java/util/TreeMap$NavigableSubMap$SubMapIterator" (1 : Nat) "java/util/TreeMap$NavigableSubMap$SubMapIterator" "this$0" "Ljava/util/TreeMap$NavigableSubMap;") ∈ lw_all := lw_g (lw_at lw_m4 173 rfl) rfl
theorem q974 : (Jvm.Cond.methodLink "java/util/TreeMap$EntrySet" (15 : Nat) ({ cls := "java/util/TreeMap", name := "getFirstEntry", desc := "()Ljava/util/TreeMap$Entry;" } : Jvm.MethodName)) ∈ lw_all := lw_g (lw_at lw_m4 193 rfl) rfl
theorem q975 : (Jvm.Cond.methodLink "java/util/TreeMap$EntrySet" (21 : Nat) ({ cls := "java/util/TreeMap$EntryIterator", name := "<init>", desc := "(Ljava/util/TreeMap;Ljava/util/TreeMap$Entry;)V" } : Jvm.MethodName)) ∈ lw_all := lw_g (lw_at lw_m4 194 rfl) rfl
theorem q976 : (Jvm.Cond.instanceMethod ({ cls := "java/util/TreeMap$EntryIterator", name := "<init>", desc := "(Ljava/util/TreeMap;Ljava/util/TreeMap$Entry;)V" } : Jvm.MethodName)) ∈ lw_all := lw_g (lw_at lw_m4 195 rfl) rfl
theorem q977 : (Jvm.Cond.code ({ cls := "java/util/TreeMap$EntryIterator", name := "<init>", desc := "(Ljava/util/TreeMap;Ljava/util/TreeMap$Entry;)V" } : Jvm.MethodName) prog_87_method_1_code (3 : Nat) (Option.none : Option Jvm.ClassFile.FieldType)) ∈ lw_all := lw_g (lw_at lw_m4 196 rfl) rfl
theorem q978 : (Jvm.Cond.methodLink "java/util/TreeMap$EntryIterator" (1 : Nat) ({ cls := "java/util/TreeMap$PrivateEntryIterator", name := "<init>", desc := "(Ljava/util/TreeMap;Ljava/util/TreeMap$Entry;)V" } : Jvm.MethodName)) ∈ lw_all := lw_g (lw_at lw_m4 197 rfl) rfl
theorem q979 : (Jvm.Cond.instanceMethod ({ cls := "java/util/TreeMap$PrivateEntryIterator", name := "<init>", desc := "(Ljava/util/TreeMap;Ljava/util/TreeMap$Entry;)V" } : Jvm.MethodName)) ∈ lw_all := lw_g (lw_at lw_m4 198 rfl) rfl
theorem q980 : (Jvm.Cond.code ({ cls := "java/util/TreeMap$PrivateEntryIterator", name := "<init>", desc := "(Ljava/util/TreeMap;Ljava/util/TreeMap$Entry;)V" } : Jvm.MethodName) prog_93_method_1_code (3 : Nat) (Option.none : Option Jvm.ClassFile.FieldType)) ∈ lw_all := lw_g (lw_at lw_m4 199 rfl) rfl
theorem q981 : (Jvm.Cond.methodLink "java/util/TreeMap$PrivateEntryIterator" (7 : Nat) ({ cls := "java/lang/Object", name := "<init>", desc := "()V" } : Jvm.MethodName)) ∈ lw_all := lw_g (lw_at lw_m4 200 rfl) rfl
theorem q982 : (Jvm.Cond.fieldLink "java/util/TreeMap$PrivateEntryIterator" (26 : Nat) "java/util/TreeMap$PrivateEntryIterator" "next" "Ljava/util/TreeMap$Entry;") ∈ lw_all := lw_g (lw_at lw_m4 201 rfl) rfl
theorem q983 : (Jvm.Cond.fieldLink "java/util/TreeMap$PrivateEntryIterator" (22 : Nat) "java/util/TreeMap$PrivateEntryIterator" "lastReturned" "Ljava/util/TreeMap$Entry;") ∈ lw_all := lw_g (lw_at lw_m4 202 rfl) rfl
theorem q984 : (Jvm.Cond.fieldLink "java/util/TreeMap$PrivateEntryIterator" (19 : Nat) "java/util/TreeMap$PrivateEntryIterator" "expectedModCount" "I") ∈ lw_all := lw_g (lw_at lw_m4 203 rfl) rfl
theorem q985 : (Jvm.Cond.fieldLink "java/util/TreeMap$PrivateEntryIterator" (1 : Nat) "java/util/TreeMap$PrivateEntryIterator" "this$0" "Ljava/util/TreeMap;") ∈ lw_all := lw_g (lw_at lw_m4 204 rfl) rfl
theorem q995 : (Jvm.Cond.fieldLink "java/util/AbstractMap$2$1" (31 : Nat) "java/util/AbstractMap$2$1" "i" "Ljava/util/Iterator;") ∈ lw_all := lw_g (lw_at lw_m4 214 rfl) rfl
theorem q996 : (Jvm.Cond.fieldLink "java/util/AbstractMap$2$1" (1 : Nat) "java/util/AbstractMap$2$1" "this$1" "Ljava/util/AbstractMap$2;") ∈ lw_all := lw_g (lw_at lw_m4 215 rfl) rfl
theorem q1034 : (Jvm.Cond.castable "java/util/ArrayList" "java/util/Collection") ∈ lw_tbl := lw_at lw_m5 13 rfl
theorem q1035 : (Jvm.Cond.selects "java/util/ArrayList" ({ cls := "java/util/Collection", name := "iterator", desc := "()Ljava/util/Iterator;" } : Jvm.MethodName) ({ cls := "java/util/ArrayList", name := "iterator", desc := "()Ljava/util/Iterator;" } : Jvm.MethodName)) ∈ lw_all := lw_g (lw_at lw_m5 14 rfl) rfl
theorem q1036 : (Jvm.Cond.unhidden "java/util/ArrayList" "iterator" "()Ljava/util/Iterator;") ∈ lw_tbl := lw_at lw_m5 15 rfl
theorem q1037 : (Jvm.Cond.instanceMethod ({ cls := "java/util/ArrayList", name := "iterator", desc := "()Ljava/util/Iterator;" } : Jvm.MethodName)) ∈ lw_all := lw_g (lw_at lw_m5 16 rfl) rfl
theorem q1038 : (Jvm.Cond.publicMethod ({ cls := "java/util/ArrayList", name := "iterator", desc := "()Ljava/util/Iterator;" } : Jvm.MethodName)) ∈ lw_tbl := lw_at lw_m5 17 rfl
theorem q1039 : (Jvm.Cond.code ({ cls := "java/util/ArrayList", name := "iterator", desc := "()Ljava/util/Iterator;" } : Jvm.MethodName) prog_61_method_55_code (1 : Nat) (Option.some (Jvm.ClassFile.FieldType.object "java/util/Iterator"))) ∈ lw_all := lw_g (lw_at lw_m5 18 rfl) rfl
theorem q1040 : (Jvm.Cond.classLink "java/util/ArrayList" (267 : Nat) "java/util/ArrayList$Itr") ∈ lw_all := lw_g (lw_at lw_m5 19 rfl) rfl
theorem q1041 : (Jvm.Cond.instantiable "java/util/ArrayList$Itr" (4 : Nat)) ∈ lw_all := lw_g (lw_at lw_m5 20 rfl) rfl
theorem q1042 : (Jvm.Cond.methodLink "java/util/ArrayList" (269 : Nat) ({ cls := "java/util/ArrayList$Itr", name := "<init>", desc := "(Ljava/util/ArrayList;)V" } : Jvm.MethodName)) ∈ lw_all := lw_g (lw_at lw_m5 21 rfl) rfl
theorem q1043 : (Jvm.Cond.instanceMethod ({ cls := "java/util/ArrayList$Itr", name := "<init>", desc := "(Ljava/util/ArrayList;)V" } : Jvm.MethodName)) ∈ lw_all := lw_g (lw_at lw_m5 22 rfl) rfl
theorem q1044 : (Jvm.Cond.code ({ cls := "java/util/ArrayList$Itr", name := "<init>", desc := "(Ljava/util/ArrayList;)V" } : Jvm.MethodName) prog_62_method_1_code (2 : Nat) (Option.none : Option Jvm.ClassFile.FieldType)) ∈ lw_all := lw_g (lw_at lw_m5 23 rfl) rfl
theorem q1045 : (Jvm.Cond.methodLink "java/util/ArrayList$Itr" (7 : Nat) ({ cls := "java/lang/Object", name := "<init>", desc := "()V" } : Jvm.MethodName)) ∈ lw_all := lw_g (lw_at lw_m5 24 rfl) rfl
theorem q1046 : (Jvm.Cond.fieldLink "java/util/ArrayList$Itr" (25 : Nat) "java/util/ArrayList$Itr" "cursor" "I") ∈ lw_all := lw_g (lw_at lw_m5 25 rfl) rfl
theorem q1047 : (Jvm.Cond.fieldLink "java/util/ArrayList$Itr" (13 : Nat) "java/util/ArrayList$Itr" "lastRet" "I") ∈ lw_all := lw_g (lw_at lw_m5 26 rfl) rfl
theorem q1048 : (Jvm.Cond.fieldLink "java/util/ArrayList$Itr" (22 : Nat) "java/util/ArrayList$Itr" "expectedModCount" "I") ∈ lw_all := lw_g (lw_at lw_m5 27 rfl) rfl
theorem q1049 : (Jvm.Cond.fieldLink "java/util/ArrayList$Itr" (1 : Nat) "java/util/ArrayList$Itr" "this$0" "Ljava/util/ArrayList;") ∈ lw_all := lw_g (lw_at lw_m5 28 rfl) rfl
theorem q1059 : (Jvm.Cond.castable "java/util/PriorityQueue" "java/util/Collection") ∈ lw_tbl := lw_at lw_m5 38 rfl
theorem q1060 : (Jvm.Cond.selects "java/util/PriorityQueue" ({ cls := "java/util/Collection", name := "iterator", desc := "()Ljava/util/Iterator;" } : Jvm.MethodName) ({ cls := "java/util/PriorityQueue", name := "iterator", desc := "()Ljava/util/Iterator;" } : Jvm.MethodName)) ∈ lw_all := lw_g (lw_at lw_m5 39 rfl) rfl
theorem q1061 : (Jvm.Cond.unhidden "java/util/PriorityQueue" "iterator" "()Ljava/util/Iterator;") ∈ lw_tbl := lw_at lw_m5 40 rfl
theorem q1062 : (Jvm.Cond.instanceMethod ({ cls := "java/util/PriorityQueue", name := "iterator", desc := "()Ljava/util/Iterator;" } : Jvm.MethodName)) ∈ lw_all := lw_g (lw_at lw_m5 41 rfl) rfl
theorem q1063 : (Jvm.Cond.publicMethod ({ cls := "java/util/PriorityQueue", name := "iterator", desc := "()Ljava/util/Iterator;" } : Jvm.MethodName)) ∈ lw_tbl := lw_at lw_m5 42 rfl
theorem q1064 : (Jvm.Cond.code ({ cls := "java/util/PriorityQueue", name := "iterator", desc := "()Ljava/util/Iterator;" } : Jvm.MethodName) prog_75_method_22_code (1 : Nat) (Option.some (Jvm.ClassFile.FieldType.object "java/util/Iterator"))) ∈ lw_all := lw_g (lw_at lw_m5 43 rfl) rfl
theorem q1065 : (Jvm.Cond.classLink "java/util/PriorityQueue" (121 : Nat) "java/util/PriorityQueue$Itr") ∈ lw_all := lw_g (lw_at lw_m5 44 rfl) rfl
theorem q1066 : (Jvm.Cond.instantiable "java/util/PriorityQueue$Itr" (6 : Nat)) ∈ lw_all := lw_g (lw_at lw_m5 45 rfl) rfl
theorem q1067 : (Jvm.Cond.methodLink "java/util/PriorityQueue" (123 : Nat) ({ cls := "java/util/PriorityQueue$Itr", name := "<init>", desc := "(Ljava/util/PriorityQueue;)V" } : Jvm.MethodName)) ∈ lw_all := lw_g (lw_at lw_m5 46 rfl) rfl
theorem q1068 : (Jvm.Cond.instanceMethod ({ cls := "java/util/PriorityQueue$Itr", name := "<init>", desc := "(Ljava/util/PriorityQueue;)V" } : Jvm.MethodName)) ∈ lw_all := lw_g (lw_at lw_m5 47 rfl) rfl
theorem q1069 : (Jvm.Cond.code ({ cls := "java/util/PriorityQueue$Itr", name := "<init>", desc := "(Ljava/util/PriorityQueue;)V" } : Jvm.MethodName) prog_76_method_1_code (2 : Nat) (Option.none : Option Jvm.ClassFile.FieldType)) ∈ lw_all := lw_g (lw_at lw_m5 48 rfl) rfl
theorem q1070 : (Jvm.Cond.methodLink "java/util/PriorityQueue$Itr" (7 : Nat) ({ cls := "java/lang/Object", name := "<init>", desc := "()V" } : Jvm.MethodName)) ∈ lw_all := lw_g (lw_at lw_m5 49 rfl) rfl
theorem q1071 : (Jvm.Cond.fieldLink "java/util/PriorityQueue$Itr" (25 : Nat) "java/util/PriorityQueue$Itr" "cursor" "I") ∈ lw_all := lw_g (lw_at lw_m5 50 rfl) rfl
theorem q1072 : (Jvm.Cond.fieldLink "java/util/PriorityQueue$Itr" (13 : Nat) "java/util/PriorityQueue$Itr" "lastRet" "I") ∈ lw_all := lw_g (lw_at lw_m5 51 rfl) rfl
theorem q1073 : (Jvm.Cond.fieldLink "java/util/PriorityQueue$Itr" (31 : Nat) "java/util/PriorityQueue$Itr" "forgetMeNot" "Ljava/util/ArrayDeque;") ∈ lw_all := lw_g (lw_at lw_m5 52 rfl) rfl
theorem q1074 : (Jvm.Cond.fieldLink "java/util/PriorityQueue$Itr" (52 : Nat) "java/util/PriorityQueue$Itr" "lastRetElt" "Ljava/lang/Object;") ∈ lw_all := lw_g (lw_at lw_m5 53 rfl) rfl
theorem q1075 : (Jvm.Cond.fieldLink "java/util/PriorityQueue$Itr" (22 : Nat) "java/util/PriorityQueue$Itr" "expectedModCount" "I") ∈ lw_all := lw_g (lw_at lw_m5 54 rfl) rfl
theorem q1076 : (Jvm.Cond.fieldLink "java/util/PriorityQueue$Itr" (1 : Nat) "java/util/PriorityQueue$Itr" "this$0" "Ljava/util/PriorityQueue;") ∈ lw_all := lw_g (lw_at lw_m5 55 rfl) rfl
theorem q1090 : (Jvm.Cond.castable "java/util/TreeMap$AscendingSubMap$AscendingEntrySetView" "java/util/Collection") ∈ lw_tbl := lw_at lw_m5 69 rfl
theorem q1091 : (Jvm.Cond.selects "java/util/TreeMap$AscendingSubMap$AscendingEntrySetView" ({ cls := "java/util/Collection", name := "iterator", desc := "()Ljava/util/Iterator;" } : Jvm.MethodName) ({ cls := "java/util/TreeMap$AscendingSubMap$AscendingEntrySetView", name := "iterator", desc := "()Ljava/util/Iterator;" } : Jvm.MethodName)) ∈ lw_all := lw_g (lw_at lw_m5 70 rfl) rfl
theorem q1094 : (Jvm.Cond.castable "java/util/TreeMap$Values" "java/util/Collection") ∈ lw_tbl := lw_at lw_m5 73 rfl
theorem q1095 : (Jvm.Cond.selects "java/util/TreeMap$Values" ({ cls := "java/util/Collection", name := "iterator", desc := "()Ljava/util/Iterator;" } : Jvm.MethodName) ({ cls := "java/util/TreeMap$Values", name := "iterator", desc := "()Ljava/util/Iterator;" } : Jvm.MethodName)) ∈ lw_all := lw_g (lw_at lw_m5 74 rfl) rfl
theorem q1096 : (Jvm.Cond.unhidden "java/util/TreeMap$Values" "iterator" "()Ljava/util/Iterator;") ∈ lw_tbl := lw_at lw_m5 75 rfl
theorem q1097 : (Jvm.Cond.instanceMethod ({ cls := "java/util/TreeMap$Values", name := "iterator", desc := "()Ljava/util/Iterator;" } : Jvm.MethodName)) ∈ lw_all := lw_g (lw_at lw_m5 76 rfl) rfl
theorem q1098 : (Jvm.Cond.publicMethod ({ cls := "java/util/TreeMap$Values", name := "iterator", desc := "()Ljava/util/Iterator;" } : Jvm.MethodName)) ∈ lw_tbl := lw_at lw_m5 77 rfl
theorem q1099 : (Jvm.Cond.code ({ cls := "java/util/TreeMap$Values", name := "iterator", desc := "()Ljava/util/Iterator;" } : Jvm.MethodName) prog_95_method_2_code (1 : Nat) (Option.some (Jvm.ClassFile.FieldType.object "java/util/Iterator"))) ∈ lw_all := lw_g (lw_at lw_m5 78 rfl) rfl
theorem q1100 : (Jvm.Cond.classLink "java/util/TreeMap$Values" (13 : Nat) "java/util/TreeMap$ValueIterator") ∈ lw_all := lw_g (lw_at lw_m5 79 rfl) rfl
theorem q1101 : (Jvm.Cond.instantiable "java/util/TreeMap$ValueIterator" (4 : Nat)) ∈ lw_all := lw_g (lw_at lw_m5 80 rfl) rfl
theorem q1102 : (Jvm.Cond.methodLink "java/util/TreeMap$Values" (15 : Nat) ({ cls := "java/util/TreeMap", name := "getFirstEntry", desc := "()Ljava/util/TreeMap$Entry;" } : Jvm.MethodName)) ∈ lw_all := lw_g (lw_at lw_m5 81 rfl) rfl
theorem q1103 : (Jvm.Cond.methodLink "java/util/TreeMap$Values" (21 : Nat) ({ cls := "java/util/TreeMap$ValueIterator", name := "<init>", desc := "(Ljava/util/TreeMap;Ljava/util/TreeMap$Entry;)V" } : Jvm.MethodName)) ∈ lw_all := lw_g (lw_at lw_m5 82 rfl) rfl
theorem q1104 : (Jvm.Cond.instanceMethod ({ cls := "java/util/TreeMap$ValueIterator", name := "<init>", desc := "(Ljava/util/TreeMap;Ljava/util/TreeMap$Entry;)V" } : Jvm.MethodName)) ∈ lw_all := lw_g (lw_at lw_m5 83 rfl) rfl
theorem q1105 : (Jvm.Cond.code ({ cls := "java/util/TreeMap$ValueIterator", name := "<init>", desc := "(Ljava/util/TreeMap;Ljava/util/TreeMap$Entry;)V" } : Jvm.MethodName) prog_94_method_1_code (3 : Nat) (Option.none : Option Jvm.ClassFile.FieldType)) ∈ lw_all := lw_g (lw_at lw_m5 84 rfl) rfl
theorem q1106 : (Jvm.Cond.methodLink "java/util/TreeMap$ValueIterator" (1 : Nat) ({ cls := "java/util/TreeMap$PrivateEntryIterator", name := "<init>", desc := "(Ljava/util/TreeMap;Ljava/util/TreeMap$Entry;)V" } : Jvm.MethodName)) ∈ lw_all := lw_g (lw_at lw_m5 85 rfl) rfl
theorem q1113 : (Jvm.Cond.methodLink "Leafcredit" (146 : Nat) ({ cls := "java/util/Iterator", name := "hasNext", desc := "()Z" } : Jvm.MethodName)) ∈ lw_all := lw_g (lw_at lw_m5 92 rfl) rfl
theorem q1114 : (Jvm.Cond.interfaceMethod "java/util/Iterator" "java/util/Iterator" "hasNext" "()Z") ∈ lw_tbl := lw_at lw_m5 93 rfl
theorem q1115 : (Jvm.Cond.declares ({ cls := "java/util/Iterator", name := "hasNext", desc := "()Z" } : Jvm.MethodName)) ∈ lw_tbl := lw_at lw_m5 94 rfl
theorem q1116 : (Jvm.Cond.castable "java/util/AbstractMap$2$1" "java/util/Iterator") ∈ lw_tbl := lw_at lw_m5 95 rfl
theorem q1117 : (Jvm.Cond.selects "java/util/AbstractMap$2$1" ({ cls := "java/util/Iterator", name := "hasNext", desc := "()Z" } : Jvm.MethodName) ({ cls := "java/util/AbstractMap$2$1", name := "hasNext", desc := "()Z" } : Jvm.MethodName)) ∈ lw_all := lw_g (lw_at lw_m5 96 rfl) rfl
theorem q1118 : (Jvm.Cond.unhidden "java/util/AbstractMap$2$1" "hasNext" "()Z") ∈ lw_tbl := lw_at lw_m5 97 rfl
theorem q1119 : (Jvm.Cond.instanceMethod ({ cls := "java/util/AbstractMap$2$1", name := "hasNext", desc := "()Z" } : Jvm.MethodName)) ∈ lw_all := lw_g (lw_at lw_m5 98 rfl) rfl
theorem q1120 : (Jvm.Cond.publicMethod ({ cls := "java/util/AbstractMap$2$1", name := "hasNext", desc := "()Z" } : Jvm.MethodName)) ∈ lw_tbl := lw_at lw_m5 99 rfl
theorem q1121 : (Jvm.Cond.code ({ cls := "java/util/AbstractMap$2$1", name := "hasNext", desc := "()Z" } : Jvm.MethodName) prog_55_method_2_code (1 : Nat) (Option.some Jvm.ClassFile.FieldType.boolean)) ∈ lw_all := lw_g (lw_at lw_m5 100 rfl) rfl
theorem q1123 : (Jvm.Cond.methodLink "java/util/AbstractMap$2$1" (35 : Nat) ({ cls := "java/util/Iterator", name := "hasNext", desc := "()Z" } : Jvm.MethodName)) ∈ lw_all := lw_g (lw_at lw_m5 102 rfl) rfl
theorem q1130 : (Jvm.Cond.castable "java/util/ArrayList$Itr" "java/util/Iterator") ∈ lw_tbl := lw_at lw_m5 109 rfl
theorem q1131 : (Jvm.Cond.selects "java/util/ArrayList$Itr" ({ cls := "java/util/Iterator", name := "hasNext", desc := "()Z" } : Jvm.MethodName) ({ cls := "java/util/ArrayList$Itr", name := "hasNext", desc := "()Z" } : Jvm.MethodName)) ∈ lw_all := lw_g (lw_at lw_m5 110 rfl) rfl
theorem q1132 : (Jvm.Cond.unhidden "java/util/ArrayList$Itr" "hasNext" "()Z") ∈ lw_tbl := lw_at lw_m5 111 rfl
theorem q1133 : (Jvm.Cond.instanceMethod ({ cls := "java/util/ArrayList$Itr", name := "hasNext", desc := "()Z" } : Jvm.MethodName)) ∈ lw_all := lw_g (lw_at lw_m5 112 rfl) rfl
theorem q1134 : (Jvm.Cond.publicMethod ({ cls := "java/util/ArrayList$Itr", name := "hasNext", desc := "()Z" } : Jvm.MethodName)) ∈ lw_tbl := lw_at lw_m5 113 rfl
theorem q1135 : (Jvm.Cond.code ({ cls := "java/util/ArrayList$Itr", name := "hasNext", desc := "()Z" } : Jvm.MethodName) prog_62_method_2_code (1 : Nat) (Option.some Jvm.ClassFile.FieldType.boolean)) ∈ lw_all := lw_g (lw_at lw_m5 114 rfl) rfl
theorem q1136 : (Jvm.Cond.castable "java/util/PriorityQueue$Itr" "java/util/Iterator") ∈ lw_tbl := lw_at lw_m5 115 rfl
theorem q1137 : (Jvm.Cond.selects "java/util/PriorityQueue$Itr" ({ cls := "java/util/Iterator", name := "hasNext", desc := "()Z" } : Jvm.MethodName) ({ cls := "java/util/PriorityQueue$Itr", name := "hasNext", desc := "()Z" } : Jvm.MethodName)) ∈ lw_all := lw_g (lw_at lw_m5 116 rfl) rfl
theorem q1138 : (Jvm.Cond.unhidden "java/util/PriorityQueue$Itr" "hasNext" "()Z") ∈ lw_tbl := lw_at lw_m5 117 rfl
theorem q1139 : (Jvm.Cond.instanceMethod ({ cls := "java/util/PriorityQueue$Itr", name := "hasNext", desc := "()Z" } : Jvm.MethodName)) ∈ lw_all := lw_g (lw_at lw_m5 118 rfl) rfl
theorem q1140 : (Jvm.Cond.publicMethod ({ cls := "java/util/PriorityQueue$Itr", name := "hasNext", desc := "()Z" } : Jvm.MethodName)) ∈ lw_tbl := lw_at lw_m5 119 rfl
theorem q1141 : (Jvm.Cond.code ({ cls := "java/util/PriorityQueue$Itr", name := "hasNext", desc := "()Z" } : Jvm.MethodName) prog_76_method_2_code (1 : Nat) (Option.some Jvm.ClassFile.FieldType.boolean)) ∈ lw_all := lw_g (lw_at lw_m5 120 rfl) rfl
theorem q1149 : (Jvm.Cond.instanceMethod ({ cls := "java/util/TreeMap$PrivateEntryIterator", name := "hasNext", desc := "()Z" } : Jvm.MethodName)) ∈ lw_all := lw_g (lw_at lw_m5 128 rfl) rfl
theorem q1150 : (Jvm.Cond.publicMethod ({ cls := "java/util/TreeMap$PrivateEntryIterator", name := "hasNext", desc := "()Z" } : Jvm.MethodName)) ∈ lw_tbl := lw_at lw_m5 129 rfl
theorem q1151 : (Jvm.Cond.code ({ cls := "java/util/TreeMap$PrivateEntryIterator", name := "hasNext", desc := "()Z" } : Jvm.MethodName) prog_93_method_2_code (1 : Nat) (Option.some Jvm.ClassFile.FieldType.boolean)) ∈ lw_all := lw_g (lw_at lw_m5 130 rfl) rfl
theorem q1152 : (Jvm.Cond.castable "java/util/TreeMap$NavigableSubMap$SubMapEntryIterator" "java/util/Iterator") ∈ lw_tbl := lw_at lw_m5 131 rfl
theorem q1153 : (Jvm.Cond.selects "java/util/TreeMap$NavigableSubMap$SubMapEntryIterator" ({ cls := "java/util/Iterator", name := "hasNext", desc := "()Z" } : Jvm.MethodName) ({ cls := "java/util/TreeMap$NavigableSubMap$SubMapIterator", name := "hasNext", desc := "()Z" } : Jvm.MethodName)) ∈ lw_all := lw_g (lw_at lw_m5 132 rfl) rfl
theorem q1154 : (Jvm.Cond.unhidden "java/util/TreeMap$NavigableSubMap$SubMapEntryIterator" "hasNext" "()Z") ∈ lw_tbl := lw_at lw_m5 133 rfl
theorem q1155 : (Jvm.Cond.instanceMethod ({ cls := "java/util/TreeMap$NavigableSubMap$SubMapIterator", name := "hasNext", desc := "()Z" } : Jvm.MethodName)) ∈ lw_all := lw_g (lw_at lw_m5 134 rfl) rfl
theorem q1156 : (Jvm.Cond.publicMethod ({ cls := "java/util/TreeMap$NavigableSubMap$SubMapIterator", name := "hasNext", desc := "()Z" } : Jvm.MethodName)) ∈ lw_tbl := lw_at lw_m5 135 rfl
theorem q1157 : (Jvm.Cond.code ({ cls := "java/util/TreeMap$NavigableSubMap$SubMapIterator", name := "hasNext", desc := "()Z" } : Jvm.MethodName) prog_92_method_2_code (1 : Nat) (Option.some Jvm.ClassFile.FieldType.boolean)) ∈ lw_all := lw_g (lw_at lw_m5 136 rfl) rfl
theorem q1158 : (Jvm.Cond.castable "java/util/TreeMap$ValueIterator" "java/util/Iterator") ∈ lw_tbl := lw_at lw_m5 137 rfl
theorem q1159 : (Jvm.Cond.selects "java/util/TreeMap$ValueIterator" ({ cls := "java/util/Iterator", name := "hasNext", desc := "()Z" } : Jvm.MethodName) ({ cls := "java/util/TreeMap$PrivateEntryIterator", name := "hasNext", desc := "()Z" } : Jvm.MethodName)) ∈ lw_all := lw_g (lw_at lw_m5 138 rfl) rfl
theorem q1160 : (Jvm.Cond.unhidden "java/util/TreeMap$ValueIterator" "hasNext" "()Z") ∈ lw_tbl := lw_at lw_m5 139 rfl
theorem q1162 : (Jvm.Cond.methodLink "Leafcredit" (152 : Nat) ({ cls := "java/util/Iterator", name := "next", desc := "()Ljava/lang/Object;" } : Jvm.MethodName)) ∈ lw_all := lw_g (lw_at lw_m5 141 rfl) rfl
theorem q1163 : (Jvm.Cond.interfaceMethod "java/util/Iterator" "java/util/Iterator" "next" "()Ljava/lang/Object;") ∈ lw_tbl := lw_at lw_m5 142 rfl
theorem q1164 : (Jvm.Cond.declares ({ cls := "java/util/Iterator", name := "next", desc := "()Ljava/lang/Object;" } : Jvm.MethodName)) ∈ lw_tbl := lw_at lw_m5 143 rfl
theorem q1165 : (Jvm.Cond.selects "java/util/AbstractMap$2$1" ({ cls := "java/util/Iterator", name := "next", desc := "()Ljava/lang/Object;" } : Jvm.MethodName) ({ cls := "java/util/AbstractMap$2$1", name := "next", desc := "()Ljava/lang/Object;" } : Jvm.MethodName)) ∈ lw_all := lw_g (lw_at lw_m5 144 rfl) rfl
theorem q1166 : (Jvm.Cond.unhidden "java/util/AbstractMap$2$1" "next" "()Ljava/lang/Object;") ∈ lw_tbl := lw_at lw_m5 145 rfl
theorem q1167 : (Jvm.Cond.instanceMethod ({ cls := "java/util/AbstractMap$2$1", name := "next", desc := "()Ljava/lang/Object;" } : Jvm.MethodName)) ∈ lw_all := lw_g (lw_at lw_m5 146 rfl) rfl
theorem q1168 : (Jvm.Cond.publicMethod ({ cls := "java/util/AbstractMap$2$1", name := "next", desc := "()Ljava/lang/Object;" } : Jvm.MethodName)) ∈ lw_tbl := lw_at lw_m5 147 rfl
theorem q1169 : (Jvm.Cond.code ({ cls := "java/util/AbstractMap$2$1", name := "next", desc := "()Ljava/lang/Object;" } : Jvm.MethodName) prog_55_method_3_code (1 : Nat) (Option.some (Jvm.ClassFile.FieldType.object "java/lang/Object"))) ∈ lw_all := lw_g (lw_at lw_m5 148 rfl) rfl
theorem q1171 : (Jvm.Cond.methodLink "java/util/AbstractMap$2$1" (41 : Nat) ({ cls := "java/util/Iterator", name := "next", desc := "()Ljava/lang/Object;" } : Jvm.MethodName)) ∈ lw_all := lw_g (lw_at lw_m5 150 rfl) rfl
theorem q1178 : (Jvm.Cond.instantiable "java/util/NoSuchElementException" (6 : Nat)) ∈ lw_all := lw_g (lw_at lw_m5 157 rfl) rfl
theorem q1179 : (Jvm.Cond.castable "java/util/NoSuchElementException" "java/util/NoSuchElementException") ∈ lw_tbl := lw_at lw_m5 158 rfl
theorem q1180 : (Jvm.Cond.selects "java/util/NoSuchElementException" ({ cls := "java/lang/Throwable", name := "fillInStackTrace", desc := "(I)Ljava/lang/Throwable;" } : Jvm.MethodName) ({ cls := "java/lang/Throwable", name := "fillInStackTrace", desc := "(I)Ljava/lang/Throwable;" } : Jvm.MethodName)) ∈ lw_all := lw_g (lw_at lw_m5 159 rfl) rfl
theorem q1181 : (Jvm.Cond.lays "java/util/NoSuchElementException" "java/lang/Throwable" "cause" "Ljava/lang/Throwable;") ∈ lw_all := lw_g (lw_at lw_m5 160 rfl) rfl
theorem q1182 : (Jvm.Cond.lays "java/util/NoSuchElementException" "java/lang/Throwable" "stackTrace" "[Ljava/lang/StackTraceElement;") ∈ lw_all := lw_g (lw_at lw_m5 161 rfl) rfl
theorem q1183 : (Jvm.Cond.lays "java/util/NoSuchElementException" "java/lang/Throwable" "suppressedExceptions" "Ljava/util/List;") ∈ lw_all := lw_g (lw_at lw_m5 162 rfl) rfl
theorem q1184 : (Jvm.Cond.lays "java/util/NoSuchElementException" "java/lang/Throwable" "detailMessage" "Ljava/lang/String;") ∈ lw_all := lw_g (lw_at lw_m5 163 rfl) rfl
theorem q1185 : (Jvm.Cond.lays "java/util/NoSuchElementException" "java/lang/Throwable" "backtrace" "Ljava/lang/Object;") ∈ lw_all := lw_g (lw_at lw_m5 164 rfl) rfl
theorem q1187 : (Jvm.Cond.instanceMethod ({ cls := "java/util/NoSuchElementException", name := "<init>", desc := "()V" } : Jvm.MethodName)) ∈ lw_all := lw_g (lw_at lw_m5 166 rfl) rfl
theorem q1188 : (Jvm.Cond.code ({ cls := "java/util/NoSuchElementException", name := "<init>", desc := "()V" } : Jvm.MethodName) prog_73_method_1_code (1 : Nat) (Option.none : Option Jvm.ClassFile.FieldType)) ∈ lw_all := lw_g (lw_at lw_m5 167 rfl) rfl
theorem q1189 : (Jvm.Cond.methodLink "java/util/NoSuchElementException" (1 : Nat) ({ cls := "java/lang/RuntimeException", name := "<init>", desc := "()V" } : Jvm.MethodName)) ∈ lw_all := lw_g (lw_at lw_m5 168 rfl) rfl
theorem q1198 : (Jvm.Cond.selects "java/util/ArrayList$Itr" ({ cls := "java/util/Iterator", name := "next", desc := "()Ljava/lang/Object;" } : Jvm.MethodName) ({ cls := "java/util/ArrayList$Itr", name := "next", desc := "()Ljava/lang/Object;" } : Jvm.MethodName)) ∈ lw_all := lw_g (lw_at lw_m5 177 rfl) rfl
theorem q1199 : (Jvm.Cond.unhidden "java/util/ArrayList$Itr" "next" "()Ljava/lang/Object;") ∈ lw_tbl := lw_at lw_m5 178 rfl
theorem q1200 : (Jvm.Cond.instanceMethod ({ cls := "java/util/ArrayList$Itr", name := "next", desc := "()Ljava/lang/Object;" } : Jvm.MethodName)) ∈ lw_all := lw_g (lw_at lw_m5 179 rfl) rfl
theorem q1201 : (Jvm.Cond.publicMethod ({ cls := "java/util/ArrayList$Itr", name := "next", desc := "()Ljava/lang/Object;" } : Jvm.MethodName)) ∈ lw_tbl := lw_at lw_m5 180 rfl
theorem q1202 : (Jvm.Cond.code ({ cls := "java/util/ArrayList$Itr", name := "next", desc := "()Ljava/lang/Object;" } : Jvm.MethodName) prog_62_method_3_code (3 : Nat) (Option.some (Jvm.ClassFile.FieldType.object "java/lang/Object"))) ∈ lw_all := lw_g (lw_at lw_m5 181 rfl) rfl
theorem q1203 : (Jvm.Cond.methodLink "java/util/ArrayList$Itr" (31 : Nat) ({ cls := "java/util/ArrayList$Itr", name := "checkForComodification", desc := "()V" } : Jvm.MethodName)) ∈ lw_all := lw_g (lw_at lw_m5 182 rfl) rfl
theorem q1204 : (Jvm.Cond.instanceMethod ({ cls := "java/util/ArrayList$Itr", name := "checkForComodification", desc := "()V" } : Jvm.MethodName)) ∈ lw_all := lw_g (lw_at lw_m5 183 rfl) rfl
theorem q1205 : (Jvm.Cond.selects "java/util/ArrayList$Itr" ({ cls := "java/util/ArrayList$Itr", name := "checkForComodification", desc := "()V" } : Jvm.MethodName) ({ cls := "java/util/ArrayList$Itr", name := "checkForComodification", desc := "()V" } : Jvm.MethodName)) ∈ lw_all := lw_g (lw_at lw_m5 184 rfl) rfl
theorem q1206 : (Jvm.Cond.code ({ cls := "java/util/ArrayList$Itr", name := "checkForComodification", desc := "()V" } : Jvm.MethodName) prog_62_method_6_code (1 : Nat) (Option.none : Option Jvm.ClassFile.FieldType)) ∈ lw_all := lw_g (lw_at lw_m5 185 rfl) rfl
theorem q1209 : (Jvm.Cond.selects "java/util/PriorityQueue$Itr" ({ cls := "java/util/Iterator", name := "next", desc := "()Ljava/lang/Object;" } : Jvm.MethodName) ({ cls := "java/util/PriorityQueue$Itr", name := "next", desc := "()Ljava/lang/Object;" } : Jvm.MethodName)) ∈ lw_all := lw_g (lw_at lw_m5 188 rfl) rfl
theorem q1210 : (Jvm.Cond.unhidden "java/util/PriorityQueue$Itr" "next" "()Ljava/lang/Object;") ∈ lw_tbl := lw_at lw_m5 189 rfl
theorem q1211 : (Jvm.Cond.instanceMethod ({ cls := "java/util/PriorityQueue$Itr", name := "next", desc := "()Ljava/lang/Object;" } : Jvm.MethodName)) ∈ lw_all := lw_g (lw_at lw_m5 190 rfl) rfl
theorem q1212 : (Jvm.Cond.publicMethod ({ cls := "java/util/PriorityQueue$Itr", name := "next", desc := "()Ljava/lang/Object;" } : Jvm.MethodName)) ∈ lw_tbl := lw_at lw_m5 191 rfl
theorem q1213 : (Jvm.Cond.code ({ cls := "java/util/PriorityQueue$Itr", name := "next", desc := "()Ljava/lang/Object;" } : Jvm.MethodName) prog_76_method_3_code (1 : Nat) (Option.some (Jvm.ClassFile.FieldType.object "java/lang/Object"))) ∈ lw_all := lw_g (lw_at lw_m5 192 rfl) rfl
theorem q1241 : (Jvm.Cond.instanceMethod ({ cls := "java/util/TreeMap$PrivateEntryIterator", name := "nextEntry", desc := "()Ljava/util/TreeMap$Entry;" } : Jvm.MethodName)) ∈ lw_all := lw_g (lw_at lw_m5 220 rfl) rfl
theorem q1242 : (Jvm.Cond.code ({ cls := "java/util/TreeMap$PrivateEntryIterator", name := "nextEntry", desc := "()Ljava/util/TreeMap$Entry;" } : Jvm.MethodName) prog_93_method_3_code (2 : Nat) (Option.some (Jvm.ClassFile.FieldType.object "java/util/TreeMap$Entry"))) ∈ lw_all := lw_g (lw_at lw_m5 221 rfl) rfl
theorem q1245 : (Jvm.Cond.methodLink "java/util/TreeMap$PrivateEntryIterator" (35 : Nat) ({ cls := "java/util/TreeMap", name := "successor", desc := "(Ljava/util/TreeMap$Entry;)Ljava/util/TreeMap$Entry;" } : Jvm.MethodName)) ∈ lw_all := lw_g (lw_at lw_m5 224 rfl) rfl
theorem q1246 : (Jvm.Cond.static ({ cls := "java/util/TreeMap", name := "successor", desc := "(Ljava/util/TreeMap$Entry;)Ljava/util/TreeMap$Entry;" } : Jvm.MethodName)) ∈ lw_all := lw_g (lw_at lw_m5 225 rfl) rfl
theorem q1247 : (Jvm.Cond.code ({ cls := "java/util/TreeMap", name := "successor", desc := "(Ljava/util/TreeMap$Entry;)Ljava/util/TreeMap$Entry;" } : Jvm.MethodName) prog_83_method_74_code (3 : Nat) (Option.some (Jvm.ClassFile.FieldType.object "java/util/TreeMap$Entry"))) ∈ lw_all := lw_g (lw_at lw_m5 226 rfl) rfl
theorem q1248 : (Jvm.Cond.selects "java/util/TreeMap$NavigableSubMap$SubMapEntryIterator" ({ cls := "java/util/Iterator", name := "next", desc := "()Ljava/lang/Object;" } : Jvm.MethodName) ({ cls := "java/util/TreeMap$NavigableSubMap$SubMapEntryIterator", name := "next", desc := "()Ljava/lang/Object;" } : Jvm.MethodName)) ∈ lw_all := lw_g (lw_at lw_m5 227 rfl) rfl
theorem q1249 : (Jvm.Cond.unhidden "java/util/TreeMap$NavigableSubMap$SubMapEntryIterator" "next" "()Ljava/lang/Object;") ∈ lw_tbl := lw_at lw_m5 228 rfl
theorem q1250 : (Jvm.Cond.instanceMethod ({ cls := "java/util/TreeMap$NavigableSubMap$SubMapEntryIterator", name := "next", desc := "()Ljava/lang/Object;" } : Jvm.MethodName)) ∈ lw_all := lw_g (lw_at lw_m5 229 rfl) rfl
theorem q1251 : (Jvm.Cond.publicMethod ({ cls := "java/util/TreeMap$NavigableSubMap$SubMapEntryIterator", name := "next", desc := "()Ljava/lang/Object;" } : Jvm.MethodName)) ∈ lw_tbl := lw_at lw_m5 230 rfl
theorem q1252 : (Jvm.Cond.code ({ cls := "java/util/TreeMap$NavigableSubMap$SubMapEntryIterator", name := "next", desc := "()Ljava/lang/Object;" } : Jvm.MethodName) prog_91_method_4_code (1 : Nat) (Option.some (Jvm.ClassFile.FieldType.object "java/lang/Object"))) ∈ lw_all := lw_g (lw_at lw_m5 231 rfl) rfl
theorem q1253 : (Jvm.Cond.methodLink "java/util/TreeMap$NavigableSubMap$SubMapEntryIterator" (17 : Nat) ({ cls := "java/util/TreeMap$NavigableSubMap$SubMapEntryIterator", name := "next", desc := "()Ljava/util/Map$Entry;" } : Jvm.MethodName)) ∈ lw_all := lw_g (lw_at lw_m5 232 rfl) rfl
theorem q1254 : (Jvm.Cond.instanceMethod ({ cls := "java/util/TreeMap$NavigableSubMap$SubMapEntryIterator", name := "next", desc := "()Ljava/util/Map$Entry;" } : Jvm.MethodName)) ∈ lw_all := lw_g (lw_at lw_m5 233 rfl) rfl
theorem q1255 : (Jvm.Cond.selects "java/util/TreeMap$NavigableSubMap$SubMapEntryIterator" ({ cls := "java/util/TreeMap$NavigableSubMap$SubMapEntryIterator", name := "next", desc := "()Ljava/util/Map$Entry;" } : Jvm.MethodName) ({ cls := "java/util/TreeMap$NavigableSubMap$SubMapEntryIterator", name := "next", desc := "()Ljava/util/Map$Entry;" } : Jvm.MethodName)) ∈ lw_all := lw_g (lw_at lw_m5 234 rfl) rfl
theorem q1256 : (Jvm.Cond.code ({ cls := "java/util/TreeMap$NavigableSubMap$SubMapEntryIterator", name := "next", desc := "()Ljava/util/Map$Entry;" } : Jvm.MethodName) prog_91_method_2_code (1 : Nat) (Option.some (Jvm.ClassFile.FieldType.object "java/util/Map$Entry"))) ∈ lw_all := lw_g (lw_at lw_m5 235 rfl) rfl
theorem q1257 : (Jvm.Cond.methodLink "java/util/TreeMap$NavigableSubMap$SubMapEntryIterator" (7 : Nat) ({ cls := "java/util/TreeMap$NavigableSubMap$SubMapEntryIterator", name := "nextEntry", desc := "()Ljava/util/TreeMap$Entry;" } : Jvm.MethodName)) ∈ lw_all := lw_g (lw_at lw_m5 236 rfl) rfl
theorem q1258 : (Jvm.Cond.sameMethod "java/util/TreeMap$NavigableSubMap$SubMapEntryIterator" "java/util/TreeMap$NavigableSubMap$SubMapIterator" "nextEntry" "()Ljava/util/TreeMap$Entry;") ∈ lw_all := lw_g (lw_at lw_m5 237 rfl) rfl
theorem q1260 : (Jvm.Cond.selects "java/util/TreeMap$NavigableSubMap$SubMapEntryIterator" ({ cls := "java/util/TreeMap$NavigableSubMap$SubMapEntryIterator", name := "nextEntry", desc := "()Ljava/util/TreeMap$Entry;" } : Jvm.MethodName) ({ cls := "java/util/TreeMap$NavigableSubMap$SubMapIterator", name := "nextEntry", desc := "()Ljava/util/TreeMap$Entry;" } : Jvm.MethodName)) ∈ lw_all := lw_g (lw_at lw_m5 239 rfl) rfl
theorem q1261 : (Jvm.Cond.instanceMethod ({ cls := "java/util/TreeMap$NavigableSubMap$SubMapIterator", name := "nextEntry", desc := "()Ljava/util/TreeMap$Entry;" } : Jvm.MethodName)) ∈ lw_all := lw_g (lw_at lw_m6 0 rfl) rfl
theorem q1262 : (Jvm.Cond.code ({ cls := "java/util/TreeMap$NavigableSubMap$SubMapIterator", name := "nextEntry", desc := "()Ljava/util/TreeMap$Entry;" } : Jvm.MethodName) prog_92_method_3_code (2 : Nat) (Option.some (Jvm.ClassFile.FieldType.object "java/util/TreeMap$Entry"))) ∈ lw_all := lw_g (lw_at lw_m6 1 rfl) rfl
theorem q1265 : (Jvm.Cond.methodLink "java/util/TreeMap$NavigableSubMap$SubMapIterator" (53 : Nat) ({ cls := "java/util/TreeMap", name := "successor", desc := "(Ljava/util/TreeMap$Entry;)Ljava/util/TreeMap$Entry;" } : Jvm.MethodName)) ∈ lw_all := lw_g (lw_at lw_m6 4 rfl) rfl
theorem q1266 : (Jvm.Cond.selects "java/util/TreeMap$ValueIterator" ({ cls := "java/util/Iterator", name := "next", desc := "()Ljava/lang/Object;" } : Jvm.MethodName) ({ cls := "java/util/TreeMap$ValueIterator", name := "next", desc := "()Ljava/lang/Object;" } : Jvm.MethodName)) ∈ lw_all := lw_g (lw_at lw_m6 5 rfl) rfl
theorem q1267 : (Jvm.Cond.unhidden "java/util/TreeMap$ValueIterator" "next" "()Ljava/lang/Object;") ∈ lw_tbl := lw_at lw_m6 6 rfl
theorem q1268 : (Jvm.Cond.instanceMethod ({ cls := "java/util/TreeMap$ValueIterator", name := "next", desc := "()Ljava/lang/Object;" } : Jvm.MethodName)) ∈ lw_all := lw_g (lw_at lw_m6 7 rfl) rfl
theorem q1269 : (Jvm.Cond.publicMethod ({ cls := "java/util/TreeMap$ValueIterator", name := "next", desc := "()Ljava/lang/Object;" } : Jvm.MethodName)) ∈ lw_tbl := lw_at lw_m6 8 rfl
theorem q1270 : (Jvm.Cond.code ({ cls := "java/util/TreeMap$ValueIterator", name := "next", desc := "()Ljava/lang/Object;" } : Jvm.MethodName) prog_94_method_2_code (1 : Nat) (Option.some (Jvm.ClassFile.FieldType.object "java/lang/Object"))) ∈ lw_all := lw_g (lw_at lw_m6 9 rfl) rfl
theorem q1271 : (Jvm.Cond.methodLink "java/util/TreeMap$ValueIterator" (7 : Nat) ({ cls := "java/util/TreeMap$ValueIterator", name := "nextEntry", desc := "()Ljava/util/TreeMap$Entry;" } : Jvm.MethodName)) ∈ lw_all := lw_g (lw_at lw_m6 10 rfl) rfl
theorem q1272 : (Jvm.Cond.sameMethod "java/util/TreeMap$ValueIterator" "java/util/TreeMap$PrivateEntryIterator" "nextEntry" "()Ljava/util/TreeMap$Entry;") ∈ lw_all := lw_g (lw_at lw_m6 11 rfl) rfl
theorem q1273 : (Jvm.Cond.selects "java/util/TreeMap$ValueIterator" ({ cls := "java/util/TreeMap$ValueIterator", name := "nextEntry", desc := "()Ljava/util/TreeMap$Entry;" } : Jvm.MethodName) ({ cls := "java/util/TreeMap$PrivateEntryIterator", name := "nextEntry", desc := "()Ljava/util/TreeMap$Entry;" } : Jvm.MethodName)) ∈ lw_all := lw_g (lw_at lw_m6 12 rfl) rfl
theorem q1274 : (Jvm.Cond.classLink "java/util/AbstractMap$2$1" (45 : Nat) "java/util/Map$Entry") ∈ lw_all := lw_g (lw_at lw_m6 13 rfl) rfl
theorem q1276 : (Jvm.Cond.methodLink "java/util/AbstractMap$2$1" (47 : Nat) ({ cls := "java/util/Map$Entry", name := "getValue", desc := "()Ljava/lang/Object;" } : Jvm.MethodName)) ∈ lw_all := lw_g (lw_at lw_m6 15 rfl) rfl
theorem q1277 : (Jvm.Cond.interfaceMethod "java/util/Map$Entry" "java/util/Map$Entry" "getValue" "()Ljava/lang/Object;") ∈ lw_tbl := lw_at lw_m6 16 rfl
theorem q1278 : (Jvm.Cond.declares ({ cls := "java/util/Map$Entry", name := "getValue", desc := "()Ljava/lang/Object;" } : Jvm.MethodName)) ∈ lw_tbl := lw_at lw_m6 17 rfl
theorem q1279 : (Jvm.Cond.castable "java/util/AbstractMap$SimpleImmutableEntry" "java/util/Map$Entry") ∈ lw_tbl := lw_at lw_m6 18 rfl
theorem q1280 : (Jvm.Cond.selects "java/util/AbstractMap$SimpleImmutableEntry" ({ cls := "java/util/Map$Entry", name := "getValue", desc := "()Ljava/lang/Object;" } : Jvm.MethodName) ({ cls := "java/util/AbstractMap$SimpleImmutableEntry", name := "getValue", desc := "()Ljava/lang/Object;" } : Jvm.MethodName)) ∈ lw_all := lw_g (lw_at lw_m6 19 rfl) rfl
theorem q1281 : (Jvm.Cond.unhidden "java/util/AbstractMap$SimpleImmutableEntry" "getValue" "()Ljava/lang/Object;") ∈ lw_tbl := lw_at lw_m6 20 rfl
theorem q1282 : (Jvm.Cond.instanceMethod ({ cls := "java/util/AbstractMap$SimpleImmutableEntry", name := "getValue", desc := "()Ljava/lang/Object;" } : Jvm.MethodName)) ∈ lw_all := lw_g (lw_at lw_m6 21 rfl) rfl
theorem q1283 : (Jvm.Cond.publicMethod ({ cls := "java/util/AbstractMap$SimpleImmutableEntry", name := "getValue", desc := "()Ljava/lang/Object;" } : Jvm.MethodName)) ∈ lw_tbl := lw_at lw_m6 22 rfl
theorem q1284 : (Jvm.Cond.code ({ cls := "java/util/AbstractMap$SimpleImmutableEntry", name := "getValue", desc := "()Ljava/lang/Object;" } : Jvm.MethodName) prog_56_method_4_code (1 : Nat) (Option.some (Jvm.ClassFile.FieldType.object "java/lang/Object"))) ∈ lw_all := lw_g (lw_at lw_m6 23 rfl) rfl
theorem q1285 : (Jvm.Cond.castable "java/util/TreeMap$Entry" "java/util/Map$Entry") ∈ lw_tbl := lw_at lw_m6 24 rfl
theorem q1286 : (Jvm.Cond.selects "java/util/TreeMap$Entry" ({ cls := "java/util/Map$Entry", name := "getValue", desc := "()Ljava/lang/Object;" } : Jvm.MethodName) ({ cls := "java/util/TreeMap$Entry", name := "getValue", desc := "()Ljava/lang/Object;" } : Jvm.MethodName)) ∈ lw_all := lw_g (lw_at lw_m6 25 rfl) rfl
theorem q1287 : (Jvm.Cond.unhidden "java/util/TreeMap$Entry" "getValue" "()Ljava/lang/Object;") ∈ lw_tbl := lw_at lw_m6 26 rfl
theorem q1288 : (Jvm.Cond.instanceMethod ({ cls := "java/util/TreeMap$Entry", name := "getValue", desc := "()Ljava/lang/Object;" } : Jvm.MethodName)) ∈ lw_all := lw_g (lw_at lw_m6 27 rfl) rfl
theorem q1289 : (Jvm.Cond.publicMethod ({ cls := "java/util/TreeMap$Entry", name := "getValue", desc := "()Ljava/lang/Object;" } : Jvm.MethodName)) ∈ lw_tbl := lw_at lw_m6 28 rfl
theorem q1290 : (Jvm.Cond.code ({ cls := "java/util/TreeMap$Entry", name := "getValue", desc := "()Ljava/lang/Object;" } : Jvm.MethodName) prog_86_method_3_code (1 : Nat) (Option.some (Jvm.ClassFile.FieldType.object "java/lang/Object"))) ∈ lw_all := lw_g (lw_at lw_m6 29 rfl) rfl
theorem q1291 : (Jvm.Cond.classLink "Leafcredit" (116 : Nat) "Leafcredit$Piece") ∈ lw_all := lw_g (lw_at lw_m6 30 rfl) rfl
theorem q1292 : (Jvm.Cond.methodLink "Leafcredit" (160 : Nat) ({ cls := "Leafcredit$Piece", name := "size", desc := "()I" } : Jvm.MethodName)) ∈ lw_all := lw_g (lw_at lw_m6 31 rfl) rfl
theorem q1293 : (Jvm.Cond.instanceMethod ({ cls := "Leafcredit$Piece", name := "size", desc := "()I" } : Jvm.MethodName)) ∈ lw_all := lw_g (lw_at lw_m6 32 rfl) rfl
theorem q1294 : (Jvm.Cond.selects "Leafcredit$Piece" ({ cls := "Leafcredit$Piece", name := "size", desc := "()I" } : Jvm.MethodName) ({ cls := "Leafcredit$Piece", name := "size", desc := "()I" } : Jvm.MethodName)) ∈ lw_all := lw_g (lw_at lw_m6 33 rfl) rfl
theorem q1295 : (Jvm.Cond.code ({ cls := "Leafcredit$Piece", name := "size", desc := "()I" } : Jvm.MethodName) prog_9_method_2_code (1 : Nat) (Option.some Jvm.ClassFile.FieldType.int)) ∈ lw_all := lw_g (lw_at lw_m6 34 rfl) rfl
theorem q1296 : (Jvm.Cond.methodLink "LeafcreditLaw" (231 : Nat) ({ cls := "Leafcredit", name := "made", desc := "()I" } : Jvm.MethodName)) ∈ lw_all := lw_g (lw_at lw_m6 35 rfl) rfl
theorem q1297 : (Jvm.Cond.instanceMethod ({ cls := "Leafcredit", name := "made", desc := "()I" } : Jvm.MethodName)) ∈ lw_all := lw_g (lw_at lw_m6 36 rfl) rfl
theorem q1298 : (Jvm.Cond.selects "Leafcredit" ({ cls := "Leafcredit", name := "made", desc := "()I" } : Jvm.MethodName) ({ cls := "Leafcredit", name := "made", desc := "()I" } : Jvm.MethodName)) ∈ lw_all := lw_g (lw_at lw_m6 37 rfl) rfl
theorem q1299 : (Jvm.Cond.code ({ cls := "Leafcredit", name := "made", desc := "()I" } : Jvm.MethodName) prog_1_method_46_code (1 : Nat) (Option.some Jvm.ClassFile.FieldType.int)) ∈ lw_all := lw_g (lw_at lw_m6 38 rfl) rfl
theorem q1300 : (Jvm.Cond.methodLink "LeafcreditLaw" (244 : Nat) ({ cls := "Leafcredit", name := "blocks", desc := "()I" } : Jvm.MethodName)) ∈ lw_all := lw_g (lw_at lw_m6 39 rfl) rfl
theorem q1301 : (Jvm.Cond.instanceMethod ({ cls := "Leafcredit", name := "blocks", desc := "()I" } : Jvm.MethodName)) ∈ lw_all := lw_g (lw_at lw_m6 40 rfl) rfl
theorem q1302 : (Jvm.Cond.selects "Leafcredit" ({ cls := "Leafcredit", name := "blocks", desc := "()I" } : Jvm.MethodName) ({ cls := "Leafcredit", name := "blocks", desc := "()I" } : Jvm.MethodName)) ∈ lw_all := lw_g (lw_at lw_m6 41 rfl) rfl
theorem q1303 : (Jvm.Cond.code ({ cls := "Leafcredit", name := "blocks", desc := "()I" } : Jvm.MethodName) prog_1_method_51_code (6 : Nat) (Option.some Jvm.ClassFile.FieldType.int)) ∈ lw_all := lw_g (lw_at lw_m6 42 rfl) rfl
theorem q1304 : (Jvm.Cond.methodLink "Leafcredit" (446 : Nat) ({ cls := "Leafcredit$Piece", name := "isAlike", desc := "(LLeafcredit$Piece;I)Z" } : Jvm.MethodName)) ∈ lw_all := lw_g (lw_at lw_m6 43 rfl) rfl
theorem q1305 : (Jvm.Cond.instanceMethod ({ cls := "Leafcredit$Piece", name := "isAlike", desc := "(LLeafcredit$Piece;I)Z" } : Jvm.MethodName)) ∈ lw_all := lw_g (lw_at lw_m6 44 rfl) rfl
theorem q1306 : (Jvm.Cond.selects "Leafcredit$Piece" ({ cls := "Leafcredit$Piece", name := "isAlike", desc := "(LLeafcredit$Piece;I)Z" } : Jvm.MethodName) ({ cls := "Leafcredit$Piece", name := "isAlike", desc := "(LLeafcredit$Piece;I)Z" } : Jvm.MethodName)) ∈ lw_all := lw_g (lw_at lw_m6 45 rfl) rfl
theorem q1307 : (Jvm.Cond.code ({ cls := "Leafcredit$Piece", name := "isAlike", desc := "(LLeafcredit$Piece;I)Z" } : Jvm.MethodName) prog_9_method_4_code (4 : Nat) (Option.some Jvm.ClassFile.FieldType.boolean)) ∈ lw_all := lw_g (lw_at lw_m6 46 rfl) rfl
theorem q1308 : (Jvm.Cond.methodLink "Leafcredit$Piece" (36 : Nat) ({ cls := "java/lang/Math", name := "max", desc := "(II)I" } : Jvm.MethodName)) ∈ lw_all := lw_g (lw_at lw_m6 47 rfl) rfl
theorem q1309 : (Jvm.Cond.methodLink "LeafcreditLaw" (255 : Nat) ({ cls := "Leafcredit", name := "cancelled", desc := "()I" } : Jvm.MethodName)) ∈ lw_all := lw_g (lw_at lw_m6 48 rfl) rfl
theorem q1310 : (Jvm.Cond.instanceMethod ({ cls := "Leafcredit", name := "cancelled", desc := "()I" } : Jvm.MethodName)) ∈ lw_all := lw_g (lw_at lw_m6 49 rfl) rfl
theorem q1311 : (Jvm.Cond.selects "Leafcredit" ({ cls := "Leafcredit", name := "cancelled", desc := "()I" } : Jvm.MethodName) ({ cls := "Leafcredit", name := "cancelled", desc := "()I" } : Jvm.MethodName)) ∈ lw_all := lw_g (lw_at lw_m6 50 rfl) rfl
theorem q1312 : (Jvm.Cond.code ({ cls := "Leafcredit", name := "cancelled", desc := "()I" } : Jvm.MethodName) prog_1_method_54_code (1 : Nat) (Option.some Jvm.ClassFile.FieldType.int)) ∈ lw_all := lw_g (lw_at lw_m6 51 rfl) rfl
theorem q1313 : (Jvm.Cond.methodLink "LeafcreditLaw" (259 : Nat) ({ cls := "Leafcredit", name := "entries", desc := "()I" } : Jvm.MethodName)) ∈ lw_all := lw_g (lw_at lw_m6 52 rfl) rfl
theorem q1314 : (Jvm.Cond.instanceMethod ({ cls := "Leafcredit", name := "entries", desc := "()I" } : Jvm.MethodName)) ∈ lw_all := lw_g (lw_at lw_m6 53 rfl) rfl
theorem q1315 : (Jvm.Cond.selects "Leafcredit" ({ cls := "Leafcredit", name := "entries", desc := "()I" } : Jvm.MethodName) ({ cls := "Leafcredit", name := "entries", desc := "()I" } : Jvm.MethodName)) ∈ lw_all := lw_g (lw_at lw_m6 54 rfl) rfl
theorem q1316 : (Jvm.Cond.code ({ cls := "Leafcredit", name := "entries", desc := "()I" } : Jvm.MethodName) prog_1_method_55_code (1 : Nat) (Option.some Jvm.ClassFile.FieldType.int)) ∈ lw_all := lw_g (lw_at lw_m6 55 rfl) rfl
theorem q1318 : (Jvm.Cond.methodLink "Leafcredit" (88 : Nat) ({ cls := "java/util/List", name := "size", desc := "()I" } : Jvm.MethodName)) ∈ lw_all := lw_g (lw_at lw_m6 57 rfl) rfl
theorem q1319 : (Jvm.Cond.interfaceMethod "java/util/List" "java/util/List" "size" "()I") ∈ lw_tbl := lw_at lw_m6 58 rfl
theorem q1320 : (Jvm.Cond.declares ({ cls := "java/util/List", name := "size", desc := "()I" } : Jvm.MethodName)) ∈ lw_tbl := lw_at lw_m6 59 rfl
theorem q1321 : (Jvm.Cond.selects "java/util/ArrayList" ({ cls := "java/util/List", name := "size", desc := "()I" } : Jvm.MethodName) ({ cls := "java/util/ArrayList", name := "size", desc := "()I" } : Jvm.MethodName)) ∈ lw_all := lw_g (lw_at lw_m6 60 rfl) rfl
theorem q1322 : (Jvm.Cond.unhidden "java/util/ArrayList" "size" "()I") ∈ lw_tbl := lw_at lw_m6 61 rfl
theorem q1323 : (Jvm.Cond.instanceMethod ({ cls := "java/util/ArrayList", name := "size", desc := "()I" } : Jvm.MethodName)) ∈ lw_all := lw_g (lw_at lw_m6 62 rfl) rfl
theorem q1324 : (Jvm.Cond.publicMethod ({ cls := "java/util/ArrayList", name := "size", desc := "()I" } : Jvm.MethodName)) ∈ lw_tbl := lw_at lw_m6 63 rfl
theorem q1325 : (Jvm.Cond.code ({ cls := "java/util/ArrayList", name := "size", desc := "()I" } : Jvm.MethodName) prog_61_method_8_code (1 : Nat) (Option.some Jvm.ClassFile.FieldType.int)) ∈ lw_all := lw_g (lw_at lw_m6 64 rfl) rfl
theorem q1326 : (Jvm.Cond.methodLink "LeafcreditLaw" (286 : Nat) ({ cls := "Leafcredit", name := "day", desc := "()I" } : Jvm.MethodName)) ∈ lw_all := lw_g (lw_at lw_m6 65 rfl) rfl
theorem q1327 : (Jvm.Cond.instanceMethod ({ cls := "Leafcredit", name := "day", desc := "()I" } : Jvm.MethodName)) ∈ lw_all := lw_g (lw_at lw_m6 66 rfl) rfl
theorem q1328 : (Jvm.Cond.selects "Leafcredit" ({ cls := "Leafcredit", name := "day", desc := "()I" } : Jvm.MethodName) ({ cls := "Leafcredit", name := "day", desc := "()I" } : Jvm.MethodName)) ∈ lw_all := lw_g (lw_at lw_m6 67 rfl) rfl
theorem q1329 : (Jvm.Cond.code ({ cls := "Leafcredit", name := "day", desc := "()I" } : Jvm.MethodName) prog_1_method_66_code (1 : Nat) (Option.some Jvm.ClassFile.FieldType.int)) ∈ lw_all := lw_g (lw_at lw_m6 68 rfl) rfl
theorem q1330 : (Jvm.Cond.methodLink "LeafcreditLaw" (297 : Nat) ({ cls := "Leafcredit", name := "isSound", desc := "()Z" } : Jvm.MethodName)) ∈ lw_all := lw_g (lw_at lw_m6 69 rfl) rfl
theorem q1331 : (Jvm.Cond.instanceMethod ({ cls := "Leafcredit", name := "isSound", desc := "()Z" } : Jvm.MethodName)) ∈ lw_all := lw_g (lw_at lw_m6 70 rfl) rfl
theorem q1332 : (Jvm.Cond.selects "Leafcredit" ({ cls := "Leafcredit", name := "isSound", desc := "()Z" } : Jvm.MethodName) ({ cls := "Leafcredit", name := "isSound", desc := "()Z" } : Jvm.MethodName)) ∈ lw_all := lw_g (lw_at lw_m6 71 rfl) rfl
theorem q1333 : (Jvm.Cond.code ({ cls := "Leafcredit", name := "isSound", desc := "()Z" } : Jvm.MethodName) prog_1_method_71_code (8 : Nat) (Option.some Jvm.ClassFile.FieldType.boolean)) ∈ lw_all := lw_g (lw_at lw_m6 72 rfl) rfl
theorem q1334 : (Jvm.Cond.methodLink "Leafcredit" (520 : Nat) ({ cls := "Leafcredit", name := "byJournal", desc := "()Ljava/util/TreeMap;" } : Jvm.MethodName)) ∈ lw_all := lw_g (lw_at lw_m6 73 rfl) rfl
theorem q1336 : (Jvm.Cond.instanceMethod ({ cls := "Leafcredit", name := "byJournal", desc := "()Ljava/util/TreeMap;" } : Jvm.MethodName)) ∈ lw_all := lw_g (lw_at lw_m6 75 rfl) rfl
theorem q1337 : (Jvm.Cond.code ({ cls := "Leafcredit", name := "byJournal", desc := "()Ljava/util/TreeMap;" } : Jvm.MethodName) prog_1_method_69_code (4 : Nat) (Option.some (Jvm.ClassFile.FieldType.object "java/util/TreeMap"))) ∈ lw_all := lw_g (lw_at lw_m6 76 rfl) rfl
theorem q1339 : (Jvm.Cond.methodLink "Leafcredit" (207 : Nat) ({ cls := "java/util/List", name := "iterator", desc := "()Ljava/util/Iterator;" } : Jvm.MethodName)) ∈ lw_all := lw_g (lw_at lw_m6 78 rfl) rfl
theorem q1340 : (Jvm.Cond.interfaceMethod "java/util/List" "java/util/List" "iterator" "()Ljava/util/Iterator;") ∈ lw_tbl := lw_at lw_m6 79 rfl
theorem q1341 : (Jvm.Cond.declares ({ cls := "java/util/List", name := "iterator", desc := "()Ljava/util/Iterator;" } : Jvm.MethodName)) ∈ lw_tbl := lw_at lw_m6 80 rfl
theorem q1342 : (Jvm.Cond.selects "java/util/ArrayList" ({ cls := "java/util/List", name := "iterator", desc := "()Ljava/util/Iterator;" } : Jvm.MethodName) ({ cls := "java/util/ArrayList", name := "iterator", desc := "()Ljava/util/Iterator;" } : Jvm.MethodName)) ∈ lw_all := lw_g (lw_at lw_m6 81 rfl) rfl
theorem q1343 : (Jvm.Cond.classLink "Leafcredit" (128 : Nat) "Leafcredit$Entry") ∈ lw_all := lw_g (lw_at lw_m6 82 rfl) rfl
theorem q1344 : (Jvm.Cond.methodLink "Leafcredit" (508 : Nat) ({ cls := "Leafcredit", name := "cut", desc := "(Ljava/util/TreeMap;I)V" } : Jvm.MethodName)) ∈ lw_all := lw_g (lw_at lw_m6 83 rfl) rfl
theorem q1345 : (Jvm.Cond.static ({ cls := "Leafcredit", name := "cut", desc := "(Ljava/util/TreeMap;I)V" } : Jvm.MethodName)) ∈ lw_all := lw_g (lw_at lw_m6 84 rfl) rfl
theorem q1346 : (Jvm.Cond.code ({ cls := "Leafcredit", name := "cut", desc := "(Ljava/util/TreeMap;I)V" } : Jvm.MethodName) prog_1_method_70_code (3 : Nat) (Option.none : Option Jvm.ClassFile.FieldType)) ∈ lw_all := lw_g (lw_at lw_m6 85 rfl) rfl
theorem q1347 : (Jvm.Cond.methodLink "Leafcredit" (110 : Nat) ({ cls := "java/lang/Integer", name := "valueOf", desc := "(I)Ljava/lang/Integer;" } : Jvm.MethodName)) ∈ lw_all := lw_g (lw_at lw_m6 86 rfl) rfl
theorem q1348 : (Jvm.Cond.static ({ cls := "java/lang/Integer", name := "valueOf", desc := "(I)Ljava/lang/Integer;" } : Jvm.MethodName)) ∈ lw_all := lw_g (lw_at lw_m6 87 rfl) rfl
theorem q1349 : (Jvm.Cond.code ({ cls := "java/lang/Integer", name := "valueOf", desc := "(I)Ljava/lang/Integer;" } : Jvm.MethodName) prog_33_method_22_code (1 : Nat) (Option.some (Jvm.ClassFile.FieldType.object "java/lang/Integer"))) ∈ lw_all := lw_g (lw_at lw_m6 88 rfl) rfl
theorem q1350 : (Jvm.Cond.fieldLink "java/lang/Integer" (191 : Nat) "java/lang/Integer$IntegerCache" "high" "I") ∈ lw_all := lw_g (lw_at lw_m6 89 rfl) rfl
theorem q1352 : (Jvm.Cond.fieldLink "java/lang/Integer" (195 : Nat) "java/lang/Integer$IntegerCache" "cache" "[Ljava/lang/Integer;") ∈ lw_all := lw_g (lw_at lw_m6 91 rfl) rfl
theorem q1354 : (Jvm.Cond.instantiable "java/lang/Integer" (1 : Nat)) ∈ lw_all := lw_g (lw_at lw_m6 93 rfl) rfl
theorem q1355 : (Jvm.Cond.methodLink "java/lang/Integer" (199 : Nat) ({ cls := "java/lang/Integer", name := "<init>", desc := "(I)V" } : Jvm.MethodName)) ∈ lw_all := lw_g (lw_at lw_m6 94 rfl) rfl
theorem q1356 : (Jvm.Cond.instanceMethod ({ cls := "java/lang/Integer", name := "<init>", desc := "(I)V" } : Jvm.MethodName)) ∈ lw_all := lw_g (lw_at lw_m6 95 rfl) rfl
theorem q1357 : (Jvm.Cond.code ({ cls := "java/lang/Integer", name := "<init>", desc := "(I)V" } : Jvm.MethodName) prog_33_method_23_code (2 : Nat) (Option.none : Option Jvm.ClassFile.FieldType)) ∈ lw_all := lw_g (lw_at lw_m6 96 rfl) rfl
theorem q1358 : (Jvm.Cond.methodLink "java/lang/Integer" (202 : Nat) ({ cls := "java/lang/Number", name := "<init>", desc := "()V" } : Jvm.MethodName)) ∈ lw_all := lw_g (lw_at lw_m6 97 rfl) rfl
theorem q1359 : (Jvm.Cond.instanceMethod ({ cls := "java/lang/Number", name := "<init>", desc := "()V" } : Jvm.MethodName)) ∈ lw_all := lw_g (lw_at lw_m6 98 rfl) rfl
theorem q1360 : (Jvm.Cond.code ({ cls := "java/lang/Number", name := "<init>", desc := "()V" } : Jvm.MethodName) prog_39_method_1_code (1 : Nat) (Option.none : Option Jvm.ClassFile.FieldType)) ∈ lw_all := lw_g (lw_at lw_m6 99 rfl) rfl
theorem q1361 : (Jvm.Cond.methodLink "java/lang/Number" (1 : Nat) ({ cls := "java/lang/Object", name := "<init>", desc := "()V" } : Jvm.MethodName)) ∈ lw_all := lw_g (lw_at lw_m6 100 rfl) rfl
theorem q1362 : (Jvm.Cond.fieldLink "java/lang/Integer" (205 : Nat) "java/lang/Integer" "value" "I") ∈ lw_all := lw_g (lw_at lw_m6 101 rfl) rfl
theorem q1366 : (Jvm.Cond.methodLink "Leafcredit" (517 : Nat) ({ cls := "java/util/TreeMap", name := "lowerEntry", desc := "(Ljava/lang/Object;)Ljava/util/Map$Entry;" } : Jvm.MethodName)) ∈ lw_all := lw_g (lw_at lw_m6 105 rfl) rfl
theorem q1367 : (Jvm.Cond.instanceMethod ({ cls := "java/util/TreeMap", name := "lowerEntry", desc := "(Ljava/lang/Object;)Ljava/util/Map$Entry;" } : Jvm.MethodName)) ∈ lw_all := lw_g (lw_at lw_m6 106 rfl) rfl
theorem q1368 : (Jvm.Cond.selects "java/util/TreeMap" ({ cls := "java/util/TreeMap", name := "lowerEntry", desc := "(Ljava/lang/Object;)Ljava/util/Map$Entry;" } : Jvm.MethodName) ({ cls := "java/util/TreeMap", name := "lowerEntry", desc := "(Ljava/lang/Object;)Ljava/util/Map$Entry;" } : Jvm.MethodName)) ∈ lw_all := lw_g (lw_at lw_m6 107 rfl) rfl
theorem q1369 : (Jvm.Cond.code ({ cls := "java/util/TreeMap", name := "lowerEntry", desc := "(Ljava/lang/Object;)Ljava/util/Map$Entry;" } : Jvm.MethodName) prog_83_method_41_code (2 : Nat) (Option.some (Jvm.ClassFile.FieldType.object "java/util/Map$Entry"))) ∈ lw_all := lw_g (lw_at lw_m6 108 rfl) rfl
theorem q1370 : (Jvm.Cond.methodLink "java/util/TreeMap" (204 : Nat) ({ cls := "java/util/TreeMap", name := "getLowerEntry", desc := "(Ljava/lang/Object;)Ljava/util/TreeMap$Entry;" } : Jvm.MethodName)) ∈ lw_all := lw_g (lw_at lw_m6 109 rfl) rfl
theorem q1371 : (Jvm.Cond.instanceMethod ({ cls := "java/util/TreeMap", name := "getLowerEntry", desc := "(Ljava/lang/Object;)Ljava/util/TreeMap$Entry;" } : Jvm.MethodName)) ∈ lw_all := lw_g (lw_at lw_m6 110 rfl) rfl
theorem q1372 : (Jvm.Cond.selects "java/util/TreeMap" ({ cls := "java/util/TreeMap", name := "getLowerEntry", desc := "(Ljava/lang/Object;)Ljava/util/TreeMap$Entry;" } : Jvm.MethodName) ({ cls := "java/util/TreeMap", name := "getLowerEntry", desc := "(Ljava/lang/Object;)Ljava/util/TreeMap$Entry;" } : Jvm.MethodName)) ∈ lw_all := lw_g (lw_at lw_m6 111 rfl) rfl
theorem q1373 : (Jvm.Cond.code ({ cls := "java/util/TreeMap", name := "getLowerEntry", desc := "(Ljava/lang/Object;)Ljava/util/TreeMap$Entry;" } : Jvm.MethodName) prog_83_method_20_code (6 : Nat) (Option.some (Jvm.ClassFile.FieldType.object "java/util/TreeMap$Entry"))) ∈ lw_all := lw_g (lw_at lw_m6 112 rfl) rfl
theorem q1374 : (Jvm.Cond.methodLink "java/util/TreeMap" (200 : Nat) ({ cls := "java/util/TreeMap", name := "exportEntry", desc := "(Ljava/util/TreeMap$Entry;)Ljava/util/Map$Entry;" } : Jvm.MethodName)) ∈ lw_all := lw_g (lw_at lw_m6 113 rfl) rfl
theorem q1375 : (Jvm.Cond.static ({ cls := "java/util/TreeMap", name := "exportEntry", desc := "(Ljava/util/TreeMap$Entry;)Ljava/util/Map$Entry;" } : Jvm.MethodName)) ∈ lw_all := lw_g (lw_at lw_m6 114 rfl) rfl
theorem q1376 : (Jvm.Cond.code ({ cls := "java/util/TreeMap", name := "exportEntry", desc := "(Ljava/util/TreeMap$Entry;)Ljava/util/Map$Entry;" } : Jvm.MethodName) prog_83_method_69_code (1 : Nat) (Option.some (Jvm.ClassFile.FieldType.object "java/util/Map$Entry"))) ∈ lw_all := lw_g (lw_at lw_m6 115 rfl) rfl
theorem q1377 : (Jvm.Cond.classLink "java/util/TreeMap" (282 : Nat) "java/util/AbstractMap$SimpleImmutableEntry") ∈ lw_all := lw_g (lw_at lw_m6 116 rfl) rfl
theorem q1378 : (Jvm.Cond.instantiable "java/util/AbstractMap$SimpleImmutableEntry" (2 : Nat)) ∈ lw_all := lw_g (lw_at lw_m6 117 rfl) rfl
theorem q1379 : (Jvm.Cond.methodLink "java/util/TreeMap" (284 : Nat) ({ cls := "java/util/AbstractMap$SimpleImmutableEntry", name := "<init>", desc := "(Ljava/util/Map$Entry;)V" } : Jvm.MethodName)) ∈ lw_all := lw_g (lw_at lw_m6 118 rfl) rfl
theorem q1380 : (Jvm.Cond.instanceMethod ({ cls := "java/util/AbstractMap$SimpleImmutableEntry", name := "<init>", desc := "(Ljava/util/Map$Entry;)V" } : Jvm.MethodName)) ∈ lw_all := lw_g (lw_at lw_m6 119 rfl) rfl
theorem q1381 : (Jvm.Cond.code ({ cls := "java/util/AbstractMap$SimpleImmutableEntry", name := "<init>", desc := "(Ljava/util/Map$Entry;)V" } : Jvm.MethodName) prog_56_method_2_code (2 : Nat) (Option.none : Option Jvm.ClassFile.FieldType)) ∈ lw_all := lw_g (lw_at lw_m6 120 rfl) rfl
theorem q1382 : (Jvm.Cond.methodLink "java/util/AbstractMap$SimpleImmutableEntry" (1 : Nat) ({ cls := "java/lang/Object", name := "<init>", desc := "()V" } : Jvm.MethodName)) ∈ lw_all := lw_g (lw_at lw_m6 121 rfl) rfl
theorem q1384 : (Jvm.Cond.methodLink "java/util/AbstractMap$SimpleImmutableEntry" (16 : Nat) ({ cls := "java/util/Map$Entry", name := "getKey", desc := "()Ljava/lang/Object;" } : Jvm.MethodName)) ∈ lw_all := lw_g (lw_at lw_m6 123 rfl) rfl
theorem q1385 : (Jvm.Cond.interfaceMethod "java/util/Map$Entry" "java/util/Map$Entry" "getKey" "()Ljava/lang/Object;") ∈ lw_tbl := lw_at lw_m6 124 rfl
theorem q1386 : (Jvm.Cond.declares ({ cls := "java/util/Map$Entry", name := "getKey", desc := "()Ljava/lang/Object;" } : Jvm.MethodName)) ∈ lw_tbl := lw_at lw_m6 125 rfl
theorem q1387 : (Jvm.Cond.selects "java/util/AbstractMap$SimpleImmutableEntry" ({ cls := "java/util/Map$Entry", name := "getKey", desc := "()Ljava/lang/Object;" } : Jvm.MethodName) ({ cls := "java/util/AbstractMap$SimpleImmutableEntry", name := "getKey", desc := "()Ljava/lang/Object;" } : Jvm.MethodName)) ∈ lw_all := lw_g (lw_at lw_m6 126 rfl) rfl
theorem q1388 : (Jvm.Cond.unhidden "java/util/AbstractMap$SimpleImmutableEntry" "getKey" "()Ljava/lang/Object;") ∈ lw_tbl := lw_at lw_m6 127 rfl
theorem q1389 : (Jvm.Cond.instanceMethod ({ cls := "java/util/AbstractMap$SimpleImmutableEntry", name := "getKey", desc := "()Ljava/lang/Object;" } : Jvm.MethodName)) ∈ lw_all := lw_g (lw_at lw_m6 128 rfl) rfl
theorem q1390 : (Jvm.Cond.publicMethod ({ cls := "java/util/AbstractMap$SimpleImmutableEntry", name := "getKey", desc := "()Ljava/lang/Object;" } : Jvm.MethodName)) ∈ lw_tbl := lw_at lw_m6 129 rfl
theorem q1391 : (Jvm.Cond.code ({ cls := "java/util/AbstractMap$SimpleImmutableEntry", name := "getKey", desc := "()Ljava/lang/Object;" } : Jvm.MethodName) prog_56_method_3_code (1 : Nat) (Option.some (Jvm.ClassFile.FieldType.object "java/lang/Object"))) ∈ lw_all := lw_g (lw_at lw_m6 130 rfl) rfl
theorem q1392 : (Jvm.Cond.selects "java/util/TreeMap$Entry" ({ cls := "java/util/Map$Entry", name := "getKey", desc := "()Ljava/lang/Object;" } : Jvm.MethodName) ({ cls := "java/util/TreeMap$Entry", name := "getKey", desc := "()Ljava/lang/Object;" } : Jvm.MethodName)) ∈ lw_all := lw_g (lw_at lw_m6 131 rfl) rfl
theorem q1393 : (Jvm.Cond.unhidden "java/util/TreeMap$Entry" "getKey" "()Ljava/lang/Object;") ∈ lw_tbl := lw_at lw_m6 132 rfl
theorem q1394 : (Jvm.Cond.instanceMethod ({ cls := "java/util/TreeMap$Entry", name := "getKey", desc := "()Ljava/lang/Object;" } : Jvm.MethodName)) ∈ lw_all := lw_g (lw_at lw_m6 133 rfl) rfl
theorem q1395 : (Jvm.Cond.publicMethod ({ cls := "java/util/TreeMap$Entry", name := "getKey", desc := "()Ljava/lang/Object;" } : Jvm.MethodName)) ∈ lw_tbl := lw_at lw_m6 134 rfl
theorem q1396 : (Jvm.Cond.code ({ cls := "java/util/TreeMap$Entry", name := "getKey", desc := "()Ljava/lang/Object;" } : Jvm.MethodName) prog_86_method_2_code (1 : Nat) (Option.some (Jvm.ClassFile.FieldType.object "java/lang/Object"))) ∈ lw_all := lw_g (lw_at lw_m6 135 rfl) rfl
theorem q1398 : (Jvm.Cond.methodLink "java/util/AbstractMap$SimpleImmutableEntry" (22 : Nat) ({ cls := "java/util/Map$Entry", name := "getValue", desc := "()Ljava/lang/Object;" } : Jvm.MethodName)) ∈ lw_all := lw_g (lw_at lw_m6 137 rfl) rfl
theorem q1399 : (Jvm.Cond.fieldLink "java/util/AbstractMap$SimpleImmutableEntry" (7 : Nat) "java/util/AbstractMap$SimpleImmutableEntry" "key" "Ljava/lang/Object;") ∈ lw_all := lw_g (lw_at lw_m6 138 rfl) rfl
theorem q1400 : (Jvm.Cond.fieldLink "java/util/AbstractMap$SimpleImmutableEntry" (13 : Nat) "java/util/AbstractMap$SimpleImmutableEntry" "value" "Ljava/lang/Object;") ∈ lw_all := lw_g (lw_at lw_m6 139 rfl) rfl
theorem q1407 : (Jvm.Cond.methodLink "Leafcredit" (435 : Nat) ({ cls := "java/util/Map$Entry", name := "getValue", desc := "()Ljava/lang/Object;" } : Jvm.MethodName)) ∈ lw_all := lw_g (lw_at lw_m6 146 rfl) rfl
theorem q1408 : (Jvm.Cond.classLink "Leafcredit" (419 : Nat) "[I") ∈ lw_all := lw_g (lw_at lw_m6 147 rfl) rfl
theorem q1409 : (Jvm.Cond.methodLink "Leafcredit" (124 : Nat) ({ cls := "java/util/TreeMap", name := "put", desc := "(Ljava/lang/Object;Ljava/lang/Object;)Ljava/lang/Object;" } : Jvm.MethodName)) ∈ lw_all := lw_g (lw_at lw_m6 148 rfl) rfl
theorem q1410 : (Jvm.Cond.instanceMethod ({ cls := "java/util/TreeMap", name := "put", desc := "(Ljava/lang/Object;Ljava/lang/Object;)Ljava/lang/Object;" } : Jvm.MethodName)) ∈ lw_all := lw_g (lw_at lw_m6 149 rfl) rfl
theorem q1411 : (Jvm.Cond.selects "java/util/TreeMap" ({ cls := "java/util/TreeMap", name := "put", desc := "(Ljava/lang/Object;Ljava/lang/Object;)Ljava/lang/Object;" } : Jvm.MethodName) ({ cls := "java/util/TreeMap", name := "put", desc := "(Ljava/lang/Object;Ljava/lang/Object;)Ljava/lang/Object;" } : Jvm.MethodName)) ∈ lw_all := lw_g (lw_at lw_m6 150 rfl) rfl
theorem q1412 : (Jvm.Cond.code ({ cls := "java/util/TreeMap", name := "put", desc := "(Ljava/lang/Object;Ljava/lang/Object;)Ljava/lang/Object;" } : Jvm.MethodName) prog_83_method_21_code (3 : Nat) (Option.some (Jvm.ClassFile.FieldType.object "java/lang/Object"))) ∈ lw_all := lw_g (lw_at lw_m6 151 rfl) rfl
theorem q1413 : (Jvm.Cond.methodLink "java/util/TreeMap" (127 : Nat) ({ cls := "java/util/TreeMap", name := "put", desc := "(Ljava/lang/Object;Ljava/lang/Object;Z)Ljava/lang/Object;" } : Jvm.MethodName)) ∈ lw_all := lw_g (lw_at lw_m6 152 rfl) rfl
theorem q1415 : (Jvm.Cond.instanceMethod ({ cls := "java/util/TreeMap", name := "put", desc := "(Ljava/lang/Object;Ljava/lang/Object;Z)Ljava/lang/Object;" } : Jvm.MethodName)) ∈ lw_all := lw_g (lw_at lw_m6 154 rfl) rfl
theorem q1416 : (Jvm.Cond.code ({ cls := "java/util/TreeMap", name := "put", desc := "(Ljava/lang/Object;Ljava/lang/Object;Z)Ljava/lang/Object;" } : Jvm.MethodName) prog_83_method_31_code (10 : Nat) (Option.some (Jvm.ClassFile.FieldType.object "java/lang/Object"))) ∈ lw_all := lw_g (lw_at lw_m6 155 rfl) rfl
theorem q1417 : (Jvm.Cond.methodLink "java/util/TreeMap" (135 : Nat) ({ cls := "java/util/TreeMap", name := "addEntryToEmptyMap", desc := "(Ljava/lang/Object;Ljava/lang/Object;)V" } : Jvm.MethodName)) ∈ lw_all := lw_g (lw_at lw_m6 156 rfl) rfl
theorem q1419 : (Jvm.Cond.instanceMethod ({ cls := "java/util/TreeMap", name := "addEntryToEmptyMap", desc := "(Ljava/lang/Object;Ljava/lang/Object;)V" } : Jvm.MethodName)) ∈ lw_all := lw_g (lw_at lw_m6 158 rfl) rfl
theorem q1420 : (Jvm.Cond.code ({ cls := "java/util/TreeMap", name := "addEntryToEmptyMap", desc := "(Ljava/lang/Object;Ljava/lang/Object;)V" } : Jvm.MethodName) prog_83_method_30_code (3 : Nat) (Option.none : Option Jvm.ClassFile.FieldType)) ∈ lw_all := lw_g (lw_at lw_m6 159 rfl) rfl
theorem q1421 : (Jvm.Cond.classLink "java/util/TreeMap" (59 : Nat) "java/util/TreeMap$Entry") ∈ lw_all := lw_g (lw_at lw_m6 160 rfl) rfl
theorem q1422 : (Jvm.Cond.instantiable "java/util/TreeMap$Entry" (6 : Nat)) ∈ lw_all := lw_g (lw_at lw_m6 161 rfl) rfl
theorem q1423 : (Jvm.Cond.methodLink "java/util/TreeMap" (167 : Nat) ({ cls := "java/util/TreeMap$Entry", name := "<init>", desc := "(Ljava/lang/Object;Ljava/lang/Object;Ljava/util/TreeMap$Entry;)V" } : Jvm.MethodName)) ∈ lw_all := lw_g (lw_at lw_m6 162 rfl) rfl
theorem q1424 : (Jvm.Cond.instanceMethod ({ cls := "java/util/TreeMap$Entry", name := "<init>", desc := "(Ljava/lang/Object;Ljava/lang/Object;Ljava/util/TreeMap$Entry;)V" } : Jvm.MethodName)) ∈ lw_all := lw_g (lw_at lw_m6 163 rfl) rfl
theorem q1425 : (Jvm.Cond.code ({ cls := "java/util/TreeMap$Entry", name := "<init>", desc := "(Ljava/lang/Object;Ljava/lang/Object;Ljava/util/TreeMap$Entry;)V" } : Jvm.MethodName) prog_86_method_1_code (4 : Nat) (Option.none : Option Jvm.ClassFile.FieldType)) ∈ lw_all := lw_g (lw_at lw_m6 164 rfl) rfl
theorem q1426 : (Jvm.Cond.methodLink "java/util/TreeMap$Entry" (3 : Nat) ({ cls := "java/lang/Object", name := "<init>", desc := "()V" } : Jvm.MethodName)) ∈ lw_all := lw_g (lw_at lw_m6 165 rfl) rfl
theorem q1427 : (Jvm.Cond.fieldLink "java/util/TreeMap$Entry" (15 : Nat) "java/util/TreeMap$Entry" "key" "Ljava/lang/Object;") ∈ lw_all := lw_g (lw_at lw_m6 166 rfl) rfl
theorem q1428 : (Jvm.Cond.fieldLink "java/util/TreeMap$NavigableSubMap$SubMapIterator" (39 : Nat) "java/util/TreeMap$Entry" "key" "Ljava/lang/Object;") ∈ lw_all := lw_g (lw_at lw_m6 167 rfl) rfl
theorem q1429 : (Jvm.Cond.fieldLink "java/util/TreeMap$NavigableSubMap" (70 : Nat) "java/util/TreeMap$Entry" "key" "Ljava/lang/Object;") ∈ lw_all := lw_g (lw_at lw_m6 168 rfl) rfl
theorem q1430 : (Jvm.Cond.fieldLink "java/util/TreeMap" (105 : Nat) "java/util/TreeMap$Entry" "key" "Ljava/lang/Object;") ∈ lw_all := lw_g (lw_at lw_m6 169 rfl) rfl
theorem q1431 : (Jvm.Cond.fieldLink "java/util/TreeMap$Entry" (19 : Nat) "java/util/TreeMap$Entry" "value" "Ljava/lang/Object;") ∈ lw_all := lw_g (lw_at lw_m6 170 rfl) rfl
theorem q1432 : (Jvm.Cond.fieldLink "java/util/TreeMap$ValueIterator" (13 : Nat) "java/util/TreeMap$Entry" "value" "Ljava/lang/Object;") ∈ lw_all := lw_g (lw_at lw_m6 171 rfl) rfl
theorem q1433 : (Jvm.Cond.fieldLink "java/util/TreeMap" (58 : Nat) "java/util/TreeMap$Entry" "value" "Ljava/lang/Object;") ∈ lw_all := lw_g (lw_at lw_m6 172 rfl) rfl
theorem q1434 : (Jvm.Cond.fieldLink "java/util/TreeMap$PrivateEntryIterator" (45 : Nat) "java/util/TreeMap$Entry" "left" "Ljava/util/TreeMap$Entry;") ∈ lw_all := lw_g (lw_at lw_m6 173 rfl) rfl
theorem q1435 : (Jvm.Cond.fieldLink "java/util/TreeMap$NavigableSubMap$SubMapIterator" (63 : Nat) "java/util/TreeMap$Entry" "left" "Ljava/util/TreeMap$Entry;") ∈ lw_all := lw_g (lw_at lw_m6 174 rfl) rfl
theorem q1436 : (Jvm.Cond.fieldLink "java/util/TreeMap" (111 : Nat) "java/util/TreeMap$Entry" "left" "Ljava/util/TreeMap$Entry;") ∈ lw_all := lw_g (lw_at lw_m6 175 rfl) rfl
theorem q1437 : (Jvm.Cond.fieldLink "java/util/TreeMap$PrivateEntryIterator" (50 : Nat) "java/util/TreeMap$Entry" "right" "Ljava/util/TreeMap$Entry;") ∈ lw_all := lw_g (lw_at lw_m6 176 rfl) rfl
theorem q1438 : (Jvm.Cond.fieldLink "java/util/TreeMap$NavigableSubMap$SubMapIterator" (66 : Nat) "java/util/TreeMap$Entry" "right" "Ljava/util/TreeMap$Entry;") ∈ lw_all := lw_g (lw_at lw_m6 177 rfl) rfl
theorem q1439 : (Jvm.Cond.fieldLink "java/util/TreeMap" (114 : Nat) "java/util/TreeMap$Entry" "right" "Ljava/util/TreeMap$Entry;") ∈ lw_all := lw_g (lw_at lw_m6 178 rfl) rfl
theorem q1440 : (Jvm.Cond.fieldLink "java/util/TreeMap$Entry" (22 : Nat) "java/util/TreeMap$Entry" "parent" "Ljava/util/TreeMap$Entry;") ∈ lw_all := lw_g (lw_at lw_m6 179 rfl) rfl
theorem q1441 : (Jvm.Cond.fieldLink "java/util/TreeMap" (124 : Nat) "java/util/TreeMap$Entry" "parent" "Ljava/util/TreeMap$Entry;") ∈ lw_all := lw_g (lw_at lw_m6 180 rfl) rfl
theorem q1442 : (Jvm.Cond.fieldLink "java/util/TreeMap$Entry" (9 : Nat) "java/util/TreeMap$Entry" "color" "Z") ∈ lw_all := lw_g (lw_at lw_m6 181 rfl) rfl
theorem q1443 : (Jvm.Cond.fieldLink "java/util/TreeMap" (290 : Nat) "java/util/TreeMap$Entry" "color" "Z") ∈ lw_all := lw_g (lw_at lw_m6 182 rfl) rfl
theorem q1457 : (Jvm.Cond.methodLink "java/util/TreeMap" (95 : Nat) ({ cls := "java/util/Objects", name := "requireNonNull", desc := "(Ljava/lang/Object;)Ljava/lang/Object;" } : Jvm.MethodName)) ∈ lw_all := lw_g (lw_at lw_m6 196 rfl) rfl
theorem q1458 : (Jvm.Cond.static ({ cls := "java/util/Objects", name := "requireNonNull", desc := "(Ljava/lang/Object;)Ljava/lang/Object;" } : Jvm.MethodName)) ∈ lw_all := lw_g (lw_at lw_m6 197 rfl) rfl
theorem q1459 : (Jvm.Cond.code ({ cls := "java/util/Objects", name := "requireNonNull", desc := "(Ljava/lang/Object;)Ljava/lang/Object;" } : Jvm.MethodName) prog_74_method_10_code (1 : Nat) (Option.some (Jvm.ClassFile.FieldType.object "java/lang/Object"))) ∈ lw_all := lw_g (lw_at lw_m6 198 rfl) rfl
theorem q1460 : (Jvm.Cond.methodLink "java/util/TreeMap" (139 : Nat) ({ cls := "java/util/TreeMap", name := "addEntry", desc := "(Ljava/lang/Object;Ljava/lang/Object;Ljava/util/TreeMap$Entry;Z)V" } : Jvm.MethodName)) ∈ lw_all := lw_g (lw_at lw_m6 199 rfl) rfl
theorem q1462 : (Jvm.Cond.instanceMethod ({ cls := "java/util/TreeMap", name := "addEntry", desc := "(Ljava/lang/Object;Ljava/lang/Object;Ljava/util/TreeMap$Entry;Z)V" } : Jvm.MethodName)) ∈ lw_all := lw_g (lw_at lw_m6 201 rfl) rfl
theorem q1463 : (Jvm.Cond.code ({ cls := "java/util/TreeMap", name := "addEntry", desc := "(Ljava/lang/Object;Ljava/lang/Object;Ljava/util/TreeMap$Entry;Z)V" } : Jvm.MethodName) prog_83_method_29_code (6 : Nat) (Option.none : Option Jvm.ClassFile.FieldType)) ∈ lw_all := lw_g (lw_at lw_m6 202 rfl) rfl
theorem q1464 : (Jvm.Cond.methodLink "java/util/TreeMap" (170 : Nat) ({ cls := "java/util/TreeMap", name := "fixAfterInsertion", desc := "(Ljava/util/TreeMap$Entry;)V" } : Jvm.MethodName)) ∈ lw_all := lw_g (lw_at lw_m6 203 rfl) rfl
theorem q1466 : (Jvm.Cond.instanceMethod ({ cls := "java/util/TreeMap", name := "fixAfterInsertion", desc := "(Ljava/util/TreeMap$Entry;)V" } : Jvm.MethodName)) ∈ lw_all := lw_g (lw_at lw_m6 205 rfl) rfl
theorem q1467 : (Jvm.Cond.code ({ cls := "java/util/TreeMap", name := "fixAfterInsertion", desc := "(Ljava/util/TreeMap$Entry;)V" } : Jvm.MethodName) prog_83_method_83_code (3 : Nat) (Option.none : Option Jvm.ClassFile.FieldType)) ∈ lw_all := lw_g (lw_at lw_m6 206 rfl) rfl
theorem q1468 : (Jvm.Cond.methodLink "java/util/TreeMap" (294 : Nat) ({ cls := "java/util/TreeMap", name := "parentOf", desc := "(Ljava/util/TreeMap$Entry;)Ljava/util/TreeMap$Entry;" } : Jvm.MethodName)) ∈ lw_all := lw_g (lw_at lw_m6 207 rfl) rfl
theorem q1469 : (Jvm.Cond.static ({ cls := "java/util/TreeMap", name := "parentOf", desc := "(Ljava/util/TreeMap$Entry;)Ljava/util/TreeMap$Entry;" } : Jvm.MethodName)) ∈ lw_all := lw_g (lw_at lw_m6 208 rfl) rfl
theorem q1470 : (Jvm.Cond.code ({ cls := "java/util/TreeMap", name := "parentOf", desc := "(Ljava/util/TreeMap$Entry;)Ljava/util/TreeMap$Entry;" } : Jvm.MethodName) prog_83_method_77_code (1 : Nat) (Option.some (Jvm.ClassFile.FieldType.object "java/util/TreeMap$Entry"))) ∈ lw_all := lw_g (lw_at lw_m6 209 rfl) rfl
theorem q1471 : (Jvm.Cond.methodLink "java/util/TreeMap" (297 : Nat) ({ cls := "java/util/TreeMap", name := "leftOf", desc := "(Ljava/util/TreeMap$Entry;)Ljava/util/TreeMap$Entry;" } : Jvm.MethodName)) ∈ lw_all := lw_g (lw_at lw_m6 210 rfl) rfl
theorem q1472 : (Jvm.Cond.static ({ cls := "java/util/TreeMap", name := "leftOf", desc := "(Ljava/util/TreeMap$Entry;)Ljava/util/TreeMap$Entry;" } : Jvm.MethodName)) ∈ lw_all := lw_g (lw_at lw_m6 211 rfl) rfl
theorem q1473 : (Jvm.Cond.code ({ cls := "java/util/TreeMap", name := "leftOf", desc := "(Ljava/util/TreeMap$Entry;)Ljava/util/TreeMap$Entry;" } : Jvm.MethodName) prog_83_method_79_code (1 : Nat) (Option.some (Jvm.ClassFile.FieldType.object "java/util/TreeMap$Entry"))) ∈ lw_all := lw_g (lw_at lw_m6 212 rfl) rfl
theorem q1474 : (Jvm.Cond.methodLink "java/util/TreeMap" (300 : Nat) ({ cls := "java/util/TreeMap", name := "rightOf", desc := "(Ljava/util/TreeMap$Entry;)Ljava/util/TreeMap$Entry;" } : Jvm.MethodName)) ∈ lw_all := lw_g (lw_at lw_m6 213 rfl) rfl
theorem q1475 : (Jvm.Cond.static ({ cls := "java/util/TreeMap", name := "rightOf", desc := "(Ljava/util/TreeMap$Entry;)Ljava/util/TreeMap$Entry;" } : Jvm.MethodName)) ∈ lw_all := lw_g (lw_at lw_m6 214 rfl) rfl
theorem q1476 : (Jvm.Cond.code ({ cls := "java/util/TreeMap", name := "rightOf", desc := "(Ljava/util/TreeMap$Entry;)Ljava/util/TreeMap$Entry;" } : Jvm.MethodName) prog_83_method_80_code (1 : Nat) (Option.some (Jvm.ClassFile.FieldType.object "java/util/TreeMap$Entry"))) ∈ lw_all := lw_g (lw_at lw_m6 215 rfl) rfl
theorem q1477 : (Jvm.Cond.methodLink "java/util/TreeMap" (303 : Nat) ({ cls := "java/util/TreeMap", name := "colorOf", desc := "(Ljava/util/TreeMap$Entry;)Z" } : Jvm.MethodName)) ∈ lw_all := lw_g (lw_at lw_m6 216 rfl) rfl
theorem q1478 : (Jvm.Cond.static ({ cls := "java/util/TreeMap", name := "colorOf", desc := "(Ljava/util/TreeMap$Entry;)Z" } : Jvm.MethodName)) ∈ lw_all := lw_g (lw_at lw_m6 217 rfl) rfl
theorem q1479 : (Jvm.Cond.code ({ cls := "java/util/TreeMap", name := "colorOf", desc := "(Ljava/util/TreeMap$Entry;)Z" } : Jvm.MethodName) prog_83_method_76_code (1 : Nat) (Option.some Jvm.ClassFile.FieldType.boolean)) ∈ lw_all := lw_g (lw_at lw_m6 218 rfl) rfl
theorem q1480 : (Jvm.Cond.methodLink "java/util/TreeMap" (307 : Nat) ({ cls := "java/util/TreeMap", name := "setColor", desc := "(Ljava/util/TreeMap$Entry;Z)V" } : Jvm.MethodName)) ∈ lw_all := lw_g (lw_at lw_m6 219 rfl) rfl
theorem q1481 : (Jvm.Cond.static ({ cls := "java/util/TreeMap", name := "setColor", desc := "(Ljava/util/TreeMap$Entry;Z)V" } : Jvm.MethodName)) ∈ lw_all := lw_g (lw_at lw_m6 220 rfl) rfl
theorem q1482 : (Jvm.Cond.code ({ cls := "java/util/TreeMap", name := "setColor", desc := "(Ljava/util/TreeMap$Entry;Z)V" } : Jvm.MethodName) prog_83_method_78_code (2 : Nat) (Option.none : Option Jvm.ClassFile.FieldType)) ∈ lw_all := lw_g (lw_at lw_m6 221 rfl) rfl
theorem q1483 : (Jvm.Cond.methodLink "java/util/TreeMap" (311 : Nat) ({ cls := "java/util/TreeMap", name := "rotateLeft", desc := "(Ljava/util/TreeMap$Entry;)V" } : Jvm.MethodName)) ∈ lw_all := lw_g (lw_at lw_m6 222 rfl) rfl
theorem q1485 : (Jvm.Cond.instanceMethod ({ cls := "java/util/TreeMap", name := "rotateLeft", desc := "(Ljava/util/TreeMap$Entry;)V" } : Jvm.MethodName)) ∈ lw_all := lw_g (lw_at lw_m6 224 rfl) rfl
theorem q1486 : (Jvm.Cond.code ({ cls := "java/util/TreeMap", name := "rotateLeft", desc := "(Ljava/util/TreeMap$Entry;)V" } : Jvm.MethodName) prog_83_method_81_code (3 : Nat) (Option.none : Option Jvm.ClassFile.FieldType)) ∈ lw_all := lw_g (lw_at lw_m6 225 rfl) rfl
theorem q1487 : (Jvm.Cond.methodLink "java/util/TreeMap" (314 : Nat) ({ cls := "java/util/TreeMap", name := "rotateRight", desc := "(Ljava/util/TreeMap$Entry;)V" } : Jvm.MethodName)) ∈ lw_all := lw_g (lw_at lw_m6 226 rfl) rfl
theorem q1489 : (Jvm.Cond.instanceMethod ({ cls := "java/util/TreeMap", name := "rotateRight", desc := "(Ljava/util/TreeMap$Entry;)V" } : Jvm.MethodName)) ∈ lw_all := lw_g (lw_at lw_m6 228 rfl) rfl
theorem q1490 : (Jvm.Cond.code ({ cls := "java/util/TreeMap", name := "rotateRight", desc := "(Ljava/util/TreeMap$Entry;)V" } : Jvm.MethodName) prog_83_method_82_code (3 : Nat) (Option.none : Option Jvm.ClassFile.FieldType)) ∈ lw_all := lw_g (lw_at lw_m6 229 rfl) rfl
theorem q1491 : (Jvm.Cond.methodLink "Leafcredit" (415 : Nat) ({ cls := "java/util/TreeMap", name := "subMap", desc := "(Ljava/lang/Object;Ljava/lang/Object;)Ljava/util/SortedMap;" } : Jvm.MethodName)) ∈ lw_all := lw_g (lw_at lw_m6 230 rfl) rfl
theorem q1492 : (Jvm.Cond.instanceMethod ({ cls := "java/util/TreeMap", name := "subMap", desc := "(Ljava/lang/Object;Ljava/lang/Object;)Ljava/util/SortedMap;" } : Jvm.MethodName)) ∈ lw_all := lw_g (lw_at lw_m6 231 rfl) rfl
theorem q1493 : (Jvm.Cond.selects "java/util/TreeMap" ({ cls := "java/util/TreeMap", name := "subMap", desc := "(Ljava/lang/Object;Ljava/lang/Object;)Ljava/util/SortedMap;" } : Jvm.MethodName) ({ cls := "java/util/TreeMap", name := "subMap", desc := "(Ljava/lang/Object;Ljava/lang/Object;)Ljava/util/SortedMap;" } : Jvm.MethodName)) ∈ lw_all := lw_g (lw_at lw_m6 232 rfl) rfl
theorem q1494 : (Jvm.Cond.code ({ cls := "java/util/TreeMap", name := "subMap", desc := "(Ljava/lang/Object;Ljava/lang/Object;)Ljava/util/SortedMap;" } : Jvm.MethodName) prog_83_method_58_code (3 : Nat) (Option.some (Jvm.ClassFile.FieldType.object "java/util/SortedMap"))) ∈ lw_all := lw_g (lw_at lw_m6 233 rfl) rfl
theorem q1495 : (Jvm.Cond.methodLink "java/util/TreeMap" (253 : Nat) ({ cls := "java/util/TreeMap", name := "subMap", desc := "(Ljava/lang/Object;ZLjava/lang/Object;Z)Ljava/util/NavigableMap;" } : Jvm.MethodName)) ∈ lw_all := lw_g (lw_at lw_m6 234 rfl) rfl
theorem q1496 : (Jvm.Cond.instanceMethod ({ cls := "java/util/TreeMap", name := "subMap", desc := "(Ljava/lang/Object;ZLjava/lang/Object;Z)Ljava/util/NavigableMap;" } : Jvm.MethodName)) ∈ lw_all := lw_g (lw_at lw_m6 235 rfl) rfl
theorem q1497 : (Jvm.Cond.selects "java/util/TreeMap" ({ cls := "java/util/TreeMap", name := "subMap", desc := "(Ljava/lang/Object;ZLjava/lang/Object;Z)Ljava/util/NavigableMap;" } : Jvm.MethodName) ({ cls := "java/util/TreeMap", name := "subMap", desc := "(Ljava/lang/Object;ZLjava/lang/Object;Z)Ljava/util/NavigableMap;" } : Jvm.MethodName)) ∈ lw_all := lw_g (lw_at lw_m6 236 rfl) rfl
theorem q1498 : (Jvm.Cond.code ({ cls := "java/util/TreeMap", name := "subMap", desc := "(Ljava/lang/Object;ZLjava/lang/Object;Z)Ljava/util/NavigableMap;" } : Jvm.MethodName) prog_83_method_55_code (5 : Nat) (Option.some (Jvm.ClassFile.FieldType.object "java/util/NavigableMap"))) ∈ lw_all := lw_g (lw_at lw_m6 237 rfl) rfl
theorem q1499 : (Jvm.Cond.classLink "java/util/TreeMap" (250 : Nat) "java/util/TreeMap$AscendingSubMap") ∈ lw_all := lw_g (lw_at lw_m6 238 rfl) rfl
theorem q1500 : (Jvm.Cond.instantiable "java/util/TreeMap$AscendingSubMap" (12 : Nat)) ∈ lw_all := lw_g (lw_at lw_m6 239 rfl) rfl
theorem q1501 : (Jvm.Cond.methodLink "java/util/TreeMap" (252 : Nat) ({ cls := "java/util/TreeMap$AscendingSubMap", name := "<init>", desc := "(Ljava/util/TreeMap;ZLjava/lang/Object;ZZLjava/lang/Object;Z)V" } : Jvm.MethodName)) ∈ lw_all := lw_g (lw_at lw_m7 0 rfl) rfl
theorem q1502 : (Jvm.Cond.instanceMethod ({ cls := "java/util/TreeMap$AscendingSubMap", name := "<init>", desc := "(Ljava/util/TreeMap;ZLjava/lang/Object;ZZLjava/lang/Object;Z)V" } : Jvm.MethodName)) ∈ lw_all := lw_g (lw_at lw_m7 1 rfl) rfl
theorem q1503 : (Jvm.Cond.code ({ cls := "java/util/TreeMap$AscendingSubMap", name := "<init>", desc := "(Ljava/util/TreeMap;ZLjava/lang/Object;ZZLjava/lang/Object;Z)V" } : Jvm.MethodName) prog_84_method_1_code (8 : Nat) (Option.none : Option Jvm.ClassFile.FieldType)) ∈ lw_all := lw_g (lw_at lw_m7 2 rfl) rfl
theorem q1504 : (Jvm.Cond.methodLink "java/util/TreeMap$AscendingSubMap" (1 : Nat) ({ cls := "java/util/TreeMap$NavigableSubMap", name := "<init>", desc := "(Ljava/util/TreeMap;ZLjava/lang/Object;ZZLjava/lang/Object;Z)V" } : Jvm.MethodName)) ∈ lw_all := lw_g (lw_at lw_m7 3 rfl) rfl
theorem q1505 : (Jvm.Cond.instanceMethod ({ cls := "java/util/TreeMap$NavigableSubMap", name := "<init>", desc := "(Ljava/util/TreeMap;ZLjava/lang/Object;ZZLjava/lang/Object;Z)V" } : Jvm.MethodName)) ∈ lw_all := lw_g (lw_at lw_m7 4 rfl) rfl
theorem q1506 : (Jvm.Cond.code ({ cls := "java/util/TreeMap$NavigableSubMap", name := "<init>", desc := "(Ljava/util/TreeMap;ZLjava/lang/Object;ZZLjava/lang/Object;Z)V" } : Jvm.MethodName) prog_89_method_1_code (8 : Nat) (Option.none : Option Jvm.ClassFile.FieldType)) ∈ lw_all := lw_g (lw_at lw_m7 5 rfl) rfl
theorem q1507 : (Jvm.Cond.methodLink "java/util/TreeMap$NavigableSubMap" (1 : Nat) ({ cls := "java/util/AbstractMap", name := "<init>", desc := "()V" } : Jvm.MethodName)) ∈ lw_all := lw_g (lw_at lw_m7 6 rfl) rfl
theorem q1522 : (Jvm.Cond.fieldLink "java/util/TreeMap$NavigableSubMap$SubMapIterator" (13 : Nat) "java/util/TreeMap$NavigableSubMap" "m" "Ljava/util/TreeMap;") ∈ lw_all := lw_g (lw_at lw_m7 21 rfl) rfl
theorem q1523 : (Jvm.Cond.fieldLink "java/util/TreeMap$NavigableSubMap" (20 : Nat) "java/util/TreeMap$NavigableSubMap" "m" "Ljava/util/TreeMap;") ∈ lw_all := lw_g (lw_at lw_m7 22 rfl) rfl
theorem q1524 : (Jvm.Cond.fieldLink "java/util/TreeMap$NavigableSubMap$EntrySetView" (26 : Nat) "java/util/TreeMap$NavigableSubMap" "m" "Ljava/util/TreeMap;") ∈ lw_all := lw_g (lw_at lw_m7 23 rfl) rfl
theorem q1525 : (Jvm.Cond.fieldLink "java/util/TreeMap$NavigableSubMap" (30 : Nat) "java/util/TreeMap$NavigableSubMap" "lo" "Ljava/lang/Object;") ∈ lw_all := lw_g (lw_at lw_m7 24 rfl) rfl
theorem q1526 : (Jvm.Cond.fieldLink "java/util/TreeMap$NavigableSubMap" (40 : Nat) "java/util/TreeMap$NavigableSubMap" "hi" "Ljava/lang/Object;") ∈ lw_all := lw_g (lw_at lw_m7 25 rfl) rfl
theorem q1527 : (Jvm.Cond.fieldLink "java/util/TreeMap$NavigableSubMap" (26 : Nat) "java/util/TreeMap$NavigableSubMap" "fromStart" "Z") ∈ lw_all := lw_g (lw_at lw_m7 26 rfl) rfl
theorem q1528 : (Jvm.Cond.fieldLink "java/util/TreeMap$NavigableSubMap$EntrySetView" (17 : Nat) "java/util/TreeMap$NavigableSubMap" "fromStart" "Z") ∈ lw_all := lw_g (lw_at lw_m7 27 rfl) rfl
theorem q1529 : (Jvm.Cond.fieldLink "java/util/TreeMap$NavigableSubMap" (37 : Nat) "java/util/TreeMap$NavigableSubMap" "toEnd" "Z") ∈ lw_all := lw_g (lw_at lw_m7 28 rfl) rfl
theorem q1530 : (Jvm.Cond.fieldLink "java/util/TreeMap$NavigableSubMap$EntrySetView" (23 : Nat) "java/util/TreeMap$NavigableSubMap" "toEnd" "Z") ∈ lw_all := lw_g (lw_at lw_m7 29 rfl) rfl
theorem q1531 : (Jvm.Cond.fieldLink "java/util/TreeMap$NavigableSubMap" (34 : Nat) "java/util/TreeMap$NavigableSubMap" "loInclusive" "Z") ∈ lw_all := lw_g (lw_at lw_m7 30 rfl) rfl
theorem q1532 : (Jvm.Cond.fieldLink "java/util/TreeMap$NavigableSubMap" (43 : Nat) "java/util/TreeMap$NavigableSubMap" "hiInclusive" "Z") ∈ lw_all := lw_g (lw_at lw_m7 31 rfl) rfl
theorem q1533 : (Jvm.Cond.fieldLink "java/util/TreeMap$AscendingSubMap" (81 : Nat) "java/util/TreeMap$AscendingSubMap" "entrySetView" "Ljava/util/TreeMap$NavigableSubMap$EntrySetView;") ∈ lw_all := lw_g (lw_at lw_m7 32 rfl) rfl
theorem q1534 : (Jvm.Cond.sameField "java/util/TreeMap$AscendingSubMap" "java/util/TreeMap$NavigableSubMap" "entrySetView" "Ljava/util/TreeMap$NavigableSubMap$EntrySetView;") ∈ lw_all := lw_g (lw_at lw_m7 33 rfl) rfl
theorem q1565 : (Jvm.Cond.instanceMethod ({ cls := "java/util/TreeMap", name := "clear", desc := "()V" } : Jvm.MethodName)) ∈ lw_all := lw_g (lw_at lw_m7 64 rfl) rfl
theorem q1567 : (Jvm.Cond.code ({ cls := "java/util/TreeMap", name := "clear", desc := "()V" } : Jvm.MethodName) prog_83_method_35_code (1 : Nat) (Option.none : Option Jvm.ClassFile.FieldType)) ∈ lw_all := lw_g (lw_at lw_m7 66 rfl) rfl
theorem q1574 : (Jvm.Cond.methodLink "java/util/AbstractMap" (7 : Nat) ({ cls := "java/util/AbstractMap", name := "entrySet", desc := "()Ljava/util/Set;" } : Jvm.MethodName)) ∈ lw_all := lw_g (lw_at lw_m7 73 rfl) rfl
theorem q1576 : (Jvm.Cond.methodLink "java/util/AbstractMap" (59 : Nat) ({ cls := "java/util/Set", name := "clear", desc := "()V" } : Jvm.MethodName)) ∈ lw_all := lw_g (lw_at lw_m7 75 rfl) rfl
theorem q1577 : (Jvm.Cond.interfaceMethod "java/util/Set" "java/util/Set" "clear" "()V") ∈ lw_tbl := lw_at lw_m7 76 rfl
theorem q1578 : (Jvm.Cond.declares ({ cls := "java/util/Set", name := "clear", desc := "()V" } : Jvm.MethodName)) ∈ lw_tbl := lw_at lw_m7 77 rfl
theorem q1579 : (Jvm.Cond.selects "java/util/TreeMap$AscendingSubMap$AscendingEntrySetView" ({ cls := "java/util/Set", name := "clear", desc := "()V" } : Jvm.MethodName) ({ cls := "java/util/AbstractCollection", name := "clear", desc := "()V" } : Jvm.MethodName)) ∈ lw_all := lw_g (lw_at lw_m7 78 rfl) rfl
theorem q1580 : (Jvm.Cond.unhidden "java/util/TreeMap$AscendingSubMap$AscendingEntrySetView" "clear" "()V") ∈ lw_tbl := lw_at lw_m7 79 rfl
theorem q1581 : (Jvm.Cond.instanceMethod ({ cls := "java/util/AbstractCollection", name := "clear", desc := "()V" } : Jvm.MethodName)) ∈ lw_all := lw_g (lw_at lw_m7 80 rfl) rfl
theorem q1582 : (Jvm.Cond.publicMethod ({ cls := "java/util/AbstractCollection", name := "clear", desc := "()V" } : Jvm.MethodName)) ∈ lw_tbl := lw_at lw_m7 81 rfl
theorem q1583 : (Jvm.Cond.code ({ cls := "java/util/AbstractCollection", name := "clear", desc := "()V" } : Jvm.MethodName) prog_51_method_15_code (2 : Nat) (Option.none : Option Jvm.ClassFile.FieldType)) ∈ lw_all := lw_g (lw_at lw_m7 82 rfl) rfl
theorem q1584 : (Jvm.Cond.methodLink "java/util/AbstractCollection" (13 : Nat) ({ cls := "java/util/AbstractCollection", name := "iterator", desc := "()Ljava/util/Iterator;" } : Jvm.MethodName)) ∈ lw_all := lw_g (lw_at lw_m7 83 rfl) rfl
theorem q1585 : (Jvm.Cond.declares ({ cls := "java/util/AbstractCollection", name := "iterator", desc := "()Ljava/util/Iterator;" } : Jvm.MethodName)) ∈ lw_tbl := lw_at lw_m7 84 rfl
theorem q1586 : (Jvm.Cond.sameMethod "java/util/AbstractCollection" "java/util/AbstractCollection" "iterator" "()Ljava/util/Iterator;") ∈ lw_all := lw_g (lw_at lw_m7 85 rfl) rfl
theorem q1591 : (Jvm.Cond.selects "java/util/TreeMap$AscendingSubMap$AscendingEntrySetView" ({ cls := "java/util/AbstractCollection", name := "iterator", desc := "()Ljava/util/Iterator;" } : Jvm.MethodName) ({ cls := "java/util/TreeMap$AscendingSubMap$AscendingEntrySetView", name := "iterator", desc := "()Ljava/util/Iterator;" } : Jvm.MethodName)) ∈ lw_all := lw_g (lw_at lw_m7 90 rfl) rfl
theorem q1595 : (Jvm.Cond.methodLink "java/util/AbstractCollection" (17 : Nat) ({ cls := "java/util/Iterator", name := "hasNext", desc := "()Z" } : Jvm.MethodName)) ∈ lw_all := lw_g (lw_at lw_m7 94 rfl) rfl
theorem q1597 : (Jvm.Cond.methodLink "java/util/AbstractCollection" (23 : Nat) ({ cls := "java/util/Iterator", name := "next", desc := "()Ljava/lang/Object;" } : Jvm.MethodName)) ∈ lw_all := lw_g (lw_at lw_m7 96 rfl) rfl
theorem q1599 : (Jvm.Cond.methodLink "java/util/AbstractCollection" (73 : Nat) ({ cls := "java/util/Iterator", name := "remove", desc := "()V" } : Jvm.MethodName)) ∈ lw_all := lw_g (lw_at lw_m7 98 rfl) rfl
theorem q1600 : (Jvm.Cond.interfaceMethod "java/util/Iterator" "java/util/Iterator" "remove" "()V") ∈ lw_tbl := lw_at lw_m7 99 rfl
theorem q1601 : (Jvm.Cond.declares ({ cls := "java/util/Iterator", name := "remove", desc := "()V" } : Jvm.MethodName)) ∈ lw_tbl := lw_at lw_m7 100 rfl
theorem q1602 : (Jvm.Cond.selects "java/util/AbstractMap$2$1" ({ cls := "java/util/Iterator", name := "remove", desc := "()V" } : Jvm.MethodName) ({ cls := "java/util/AbstractMap$2$1", name := "remove", desc := "()V" } : Jvm.MethodName)) ∈ lw_all := lw_g (lw_at lw_m7 101 rfl) rfl
theorem q1603 : (Jvm.Cond.unhidden "java/util/AbstractMap$2$1" "remove" "()V") ∈ lw_tbl := lw_at lw_m7 102 rfl
theorem q1604 : (Jvm.Cond.instanceMethod ({ cls := "java/util/AbstractMap$2$1", name := "remove", desc := "()V" } : Jvm.MethodName)) ∈ lw_all := lw_g (lw_at lw_m7 103 rfl) rfl
theorem q1605 : (Jvm.Cond.publicMethod ({ cls := "java/util/AbstractMap$2$1", name := "remove", desc := "()V" } : Jvm.MethodName)) ∈ lw_tbl := lw_at lw_m7 104 rfl
theorem q1606 : (Jvm.Cond.code ({ cls := "java/util/AbstractMap$2$1", name := "remove", desc := "()V" } : Jvm.MethodName) prog_55_method_4_code (1 : Nat) (Option.none : Option Jvm.ClassFile.FieldType)) ∈ lw_all := lw_g (lw_at lw_m7 105 rfl) rfl
theorem q1608 : (Jvm.Cond.methodLink "java/util/AbstractMap$2$1" (50 : Nat) ({ cls := "java/util/Iterator", name := "remove", desc := "()V" } : Jvm.MethodName)) ∈ lw_all := lw_g (lw_at lw_m7 107 rfl) rfl
theorem q1615 : (Jvm.Cond.instantiable "java/lang/IllegalStateException" (6 : Nat)) ∈ lw_all := lw_g (lw_at lw_m7 114 rfl) rfl
theorem q1616 : (Jvm.Cond.castable "java/lang/IllegalStateException" "java/lang/IllegalStateException") ∈ lw_tbl := lw_at lw_m7 115 rfl
theorem q1617 : (Jvm.Cond.selects "java/lang/IllegalStateException" ({ cls := "java/lang/Throwable", name := "fillInStackTrace", desc := "(I)Ljava/lang/Throwable;" } : Jvm.MethodName) ({ cls := "java/lang/Throwable", name := "fillInStackTrace", desc := "(I)Ljava/lang/Throwable;" } : Jvm.MethodName)) ∈ lw_all := lw_g (lw_at lw_m7 116 rfl) rfl
theorem q1618 : (Jvm.Cond.lays "java/lang/IllegalStateException" "java/lang/Throwable" "cause" "Ljava/lang/Throwable;") ∈ lw_all := lw_g (lw_at lw_m7 117 rfl) rfl
theorem q1619 : (Jvm.Cond.lays "java/lang/IllegalStateException" "java/lang/Throwable" "stackTrace" "[Ljava/lang/StackTraceElement;") ∈ lw_all := lw_g (lw_at lw_m7 118 rfl) rfl
theorem q1620 : (Jvm.Cond.lays "java/lang/IllegalStateException" "java/lang/Throwable" "suppressedExceptions" "Ljava/util/List;") ∈ lw_all := lw_g (lw_at lw_m7 119 rfl) rfl
theorem q1621 : (Jvm.Cond.lays "java/lang/IllegalStateException" "java/lang/Throwable" "detailMessage" "Ljava/lang/String;") ∈ lw_all := lw_g (lw_at lw_m7 120 rfl) rfl
theorem q1622 : (Jvm.Cond.lays "java/lang/IllegalStateException" "java/lang/Throwable" "backtrace" "Ljava/lang/Object;") ∈ lw_all := lw_g (lw_at lw_m7 121 rfl) rfl
theorem q1624 : (Jvm.Cond.instanceMethod ({ cls := "java/lang/IllegalStateException", name := "<init>", desc := "()V" } : Jvm.MethodName)) ∈ lw_all := lw_g (lw_at lw_m7 123 rfl) rfl
theorem q1625 : (Jvm.Cond.code ({ cls := "java/lang/IllegalStateException", name := "<init>", desc := "()V" } : Jvm.MethodName) prog_31_method_1_code (1 : Nat) (Option.none : Option Jvm.ClassFile.FieldType)) ∈ lw_all := lw_g (lw_at lw_m7 124 rfl) rfl
theorem q1626 : (Jvm.Cond.methodLink "java/lang/IllegalStateException" (1 : Nat) ({ cls := "java/lang/RuntimeException", name := "<init>", desc := "()V" } : Jvm.MethodName)) ∈ lw_all := lw_g (lw_at lw_m7 125 rfl) rfl
theorem q1649 : (Jvm.Cond.methodLink "java/util/ArrayList$Itr" (47 : Nat) ({ cls := "java/util/ArrayList", name := "remove", desc := "(I)Ljava/lang/Object;" } : Jvm.MethodName)) ∈ lw_all := lw_g (lw_at lw_m7 148 rfl) rfl
theorem q1650 : (Jvm.Cond.instanceMethod ({ cls := "java/util/ArrayList", name := "remove", desc := "(I)Ljava/lang/Object;" } : Jvm.MethodName)) ∈ lw_all := lw_g (lw_at lw_m7 149 rfl) rfl
theorem q1651 : (Jvm.Cond.selects "java/util/ArrayList" ({ cls := "java/util/ArrayList", name := "remove", desc := "(I)Ljava/lang/Object;" } : Jvm.MethodName) ({ cls := "java/util/ArrayList", name := "remove", desc := "(I)Ljava/lang/Object;" } : Jvm.MethodName)) ∈ lw_all := lw_g (lw_at lw_m7 150 rfl) rfl
theorem q1652 : (Jvm.Cond.code ({ cls := "java/util/ArrayList", name := "remove", desc := "(I)Ljava/lang/Object;" } : Jvm.MethodName) prog_61_method_29_code (4 : Nat) (Option.some (Jvm.ClassFile.FieldType.object "java/lang/Object"))) ∈ lw_all := lw_g (lw_at lw_m7 151 rfl) rfl
theorem q1653 : (Jvm.Cond.methodLink "java/util/ArrayList" (118 : Nat) ({ cls := "java/util/Objects", name := "checkIndex", desc := "(II)I" } : Jvm.MethodName)) ∈ lw_all := lw_g (lw_at lw_m7 152 rfl) rfl
theorem q1654 : (Jvm.Cond.static ({ cls := "java/util/Objects", name := "checkIndex", desc := "(II)I" } : Jvm.MethodName)) ∈ lw_all := lw_g (lw_at lw_m7 153 rfl) rfl
theorem q1655 : (Jvm.Cond.code ({ cls := "java/util/Objects", name := "checkIndex", desc := "(II)I" } : Jvm.MethodName) prog_74_method_17_code (2 : Nat) (Option.some Jvm.ClassFile.FieldType.int)) ∈ lw_all := lw_g (lw_at lw_m7 154 rfl) rfl
theorem q1656 : (Jvm.Cond.methodLink "java/util/Objects" (105 : Nat) ({ cls := "jdk/internal/util/Preconditions", name := "checkIndex", desc := "(IILjava/util/function/BiFunction;)I" } : Jvm.MethodName)) ∈ lw_all := lw_g (lw_at lw_m7 155 rfl) rfl
theorem q1657 : (Jvm.Cond.static ({ cls := "jdk/internal/util/Preconditions", name := "checkIndex", desc := "(IILjava/util/function/BiFunction;)I" } : Jvm.MethodName)) ∈ lw_all := lw_g (lw_at lw_m7 156 rfl) rfl
theorem q1658 : (Jvm.Cond.code ({ cls := "jdk/internal/util/Preconditions", name := "checkIndex", desc := "(IILjava/util/function/BiFunction;)I" } : Jvm.MethodName) prog_99_method_11_code (3 : Nat) (Option.some Jvm.ClassFile.FieldType.int)) ∈ lw_all := lw_g (lw_at lw_m7 157 rfl) rfl
theorem q1659 : (Jvm.Cond.methodLink "java/util/ArrayList" (144 : Nat) ({ cls := "java/util/ArrayList", name := "fastRemove", desc := "([Ljava/lang/Object;I)V" } : Jvm.MethodName)) ∈ lw_all := lw_g (lw_at lw_m7 158 rfl) rfl
theorem q1661 : (Jvm.Cond.instanceMethod ({ cls := "java/util/ArrayList", name := "fastRemove", desc := "([Ljava/lang/Object;I)V" } : Jvm.MethodName)) ∈ lw_all := lw_g (lw_at lw_m7 160 rfl) rfl
theorem q1662 : (Jvm.Cond.code ({ cls := "java/util/ArrayList", name := "fastRemove", desc := "([Ljava/lang/Object;I)V" } : Jvm.MethodName) prog_61_method_39_code (4 : Nat) (Option.none : Option Jvm.ClassFile.FieldType)) ∈ lw_all := lw_g (lw_at lw_m7 161 rfl) rfl
theorem q1663 : (Jvm.Cond.methodLink "java/util/ArrayList" (112 : Nat) ({ cls := "java/lang/System", name := "arraycopy", desc := "(Ljava/lang/Object;ILjava/lang/Object;II)V" } : Jvm.MethodName)) ∈ lw_all := lw_g (lw_at lw_m7 162 rfl) rfl
theorem q1679 : (Jvm.Cond.selects "java/util/PriorityQueue$Itr" ({ cls := "java/util/Iterator", name := "remove", desc := "()V" } : Jvm.MethodName) ({ cls := "java/util/PriorityQueue$Itr", name := "remove", desc := "()V" } : Jvm.MethodName)) ∈ lw_all := lw_g (lw_at lw_m7 178 rfl) rfl
theorem q1680 : (Jvm.Cond.unhidden "java/util/PriorityQueue$Itr" "remove" "()V") ∈ lw_tbl := lw_at lw_m7 179 rfl
theorem q1681 : (Jvm.Cond.instanceMethod ({ cls := "java/util/PriorityQueue$Itr", name := "remove", desc := "()V" } : Jvm.MethodName)) ∈ lw_all := lw_g (lw_at lw_m7 180 rfl) rfl
theorem q1682 : (Jvm.Cond.publicMethod ({ cls := "java/util/PriorityQueue$Itr", name := "remove", desc := "()V" } : Jvm.MethodName)) ∈ lw_tbl := lw_at lw_m7 181 rfl
theorem q1683 : (Jvm.Cond.code ({ cls := "java/util/PriorityQueue$Itr", name := "remove", desc := "()V" } : Jvm.MethodName) prog_76_method_4_code (2 : Nat) (Option.none : Option Jvm.ClassFile.FieldType)) ∈ lw_all := lw_g (lw_at lw_m7 182 rfl) rfl
theorem q1684 : (Jvm.Cond.methodLink "java/util/PriorityQueue$Itr" (59 : Nat) ({ cls := "java/util/PriorityQueue", name := "removeAt", desc := "(I)Ljava/lang/Object;" } : Jvm.MethodName)) ∈ lw_all := lw_g (lw_at lw_m7 183 rfl) rfl
theorem q1685 : (Jvm.Cond.instanceMethod ({ cls := "java/util/PriorityQueue", name := "removeAt", desc := "(I)Ljava/lang/Object;" } : Jvm.MethodName)) ∈ lw_all := lw_g (lw_at lw_m7 184 rfl) rfl
theorem q1686 : (Jvm.Cond.selects "java/util/PriorityQueue" ({ cls := "java/util/PriorityQueue", name := "removeAt", desc := "(I)Ljava/lang/Object;" } : Jvm.MethodName) ({ cls := "java/util/PriorityQueue", name := "removeAt", desc := "(I)Ljava/lang/Object;" } : Jvm.MethodName)) ∈ lw_all := lw_g (lw_at lw_m7 185 rfl) rfl
theorem q1687 : (Jvm.Cond.code ({ cls := "java/util/PriorityQueue", name := "removeAt", desc := "(I)Ljava/lang/Object;" } : Jvm.MethodName) prog_75_method_26_code (5 : Nat) (Option.some (Jvm.ClassFile.FieldType.object "java/lang/Object"))) ∈ lw_all := lw_g (lw_at lw_m7 186 rfl) rfl
theorem q1688 : (Jvm.Cond.methodLink "java/util/PriorityQueue" (133 : Nat) ({ cls := "java/util/PriorityQueue", name := "siftDown", desc := "(ILjava/lang/Object;)V" } : Jvm.MethodName)) ∈ lw_all := lw_g (lw_at lw_m7 187 rfl) rfl
theorem q1690 : (Jvm.Cond.instanceMethod ({ cls := "java/util/PriorityQueue", name := "siftDown", desc := "(ILjava/lang/Object;)V" } : Jvm.MethodName)) ∈ lw_all := lw_g (lw_at lw_m7 189 rfl) rfl
theorem q1691 : (Jvm.Cond.code ({ cls := "java/util/PriorityQueue", name := "siftDown", desc := "(ILjava/lang/Object;)V" } : Jvm.MethodName) prog_75_method_30_code (3 : Nat) (Option.none : Option Jvm.ClassFile.FieldType)) ∈ lw_all := lw_g (lw_at lw_m7 190 rfl) rfl
theorem q1692 : (Jvm.Cond.methodLink "java/util/PriorityQueue" (129 : Nat) ({ cls := "java/util/PriorityQueue", name := "siftDownUsingComparator", desc := "(ILjava/lang/Object;[Ljava/lang/Object;ILjava/util/Comparator;)V" } : Jvm.MethodName)) ∈ lw_all := lw_g (lw_at lw_m7 191 rfl) rfl
theorem q1693 : (Jvm.Cond.static ({ cls := "java/util/PriorityQueue", name := "siftDownUsingComparator", desc := "(ILjava/lang/Object;[Ljava/lang/Object;ILjava/util/Comparator;)V" } : Jvm.MethodName)) ∈ lw_all := lw_g (lw_at lw_m7 192 rfl) rfl
theorem q1694 : (Jvm.Cond.code ({ cls := "java/util/PriorityQueue", name := "siftDownUsingComparator", desc := "(ILjava/lang/Object;[Ljava/lang/Object;ILjava/util/Comparator;)V" } : Jvm.MethodName) prog_75_method_32_code (9 : Nat) (Option.none : Option Jvm.ClassFile.FieldType)) ∈ lw_all := lw_g (lw_at lw_m7 193 rfl) rfl
theorem q1696 : (Jvm.Cond.methodLink "java/util/PriorityQueue" (149 : Nat) ({ cls := "java/util/Comparator", name := "compare", desc := "(Ljava/lang/Object;Ljava/lang/Object;)I" } : Jvm.MethodName)) ∈ lw_all := lw_g (lw_at lw_m7 195 rfl) rfl
theorem q1703 : (Jvm.Cond.methodLink "java/util/PriorityQueue" (100 : Nat) ({ cls := "java/util/PriorityQueue", name := "siftUp", desc := "(ILjava/lang/Object;)V" } : Jvm.MethodName)) ∈ lw_all := lw_g (lw_at lw_m7 202 rfl) rfl
theorem q1705 : (Jvm.Cond.instanceMethod ({ cls := "java/util/PriorityQueue", name := "siftUp", desc := "(ILjava/lang/Object;)V" } : Jvm.MethodName)) ∈ lw_all := lw_g (lw_at lw_m7 204 rfl) rfl
theorem q1706 : (Jvm.Cond.code ({ cls := "java/util/PriorityQueue", name := "siftUp", desc := "(ILjava/lang/Object;)V" } : Jvm.MethodName) prog_75_method_27_code (3 : Nat) (Option.none : Option Jvm.ClassFile.FieldType)) ∈ lw_all := lw_g (lw_at lw_m7 205 rfl) rfl
theorem q1707 : (Jvm.Cond.methodLink "java/util/PriorityQueue" (136 : Nat) ({ cls := "java/util/PriorityQueue", name := "siftUpUsingComparator", desc := "(ILjava/lang/Object;[Ljava/lang/Object;Ljava/util/Comparator;)V" } : Jvm.MethodName)) ∈ lw_all := lw_g (lw_at lw_m7 206 rfl) rfl
theorem q1708 : (Jvm.Cond.static ({ cls := "java/util/PriorityQueue", name := "siftUpUsingComparator", desc := "(ILjava/lang/Object;[Ljava/lang/Object;Ljava/util/Comparator;)V" } : Jvm.MethodName)) ∈ lw_all := lw_g (lw_at lw_m7 207 rfl) rfl
theorem q1709 : (Jvm.Cond.code ({ cls := "java/util/PriorityQueue", name := "siftUpUsingComparator", desc := "(ILjava/lang/Object;[Ljava/lang/Object;Ljava/util/Comparator;)V" } : Jvm.MethodName) prog_75_method_29_code (6 : Nat) (Option.none : Option Jvm.ClassFile.FieldType)) ∈ lw_all := lw_g (lw_at lw_m7 208 rfl) rfl
theorem q1757 : (Jvm.Cond.methodLink "java/util/PriorityQueue$Itr" (68 : Nat) ({ cls := "java/util/PriorityQueue", name := "removeEq", desc := "(Ljava/lang/Object;)V" } : Jvm.MethodName)) ∈ lw_all := lw_g (lw_at lw_m8 16 rfl) rfl
theorem q1758 : (Jvm.Cond.instanceMethod ({ cls := "java/util/PriorityQueue", name := "removeEq", desc := "(Ljava/lang/Object;)V" } : Jvm.MethodName)) ∈ lw_all := lw_g (lw_at lw_m8 17 rfl) rfl
theorem q1759 : (Jvm.Cond.selects "java/util/PriorityQueue" ({ cls := "java/util/PriorityQueue", name := "removeEq", desc := "(Ljava/lang/Object;)V" } : Jvm.MethodName) ({ cls := "java/util/PriorityQueue", name := "removeEq", desc := "(Ljava/lang/Object;)V" } : Jvm.MethodName)) ∈ lw_all := lw_g (lw_at lw_m8 18 rfl) rfl
theorem q1760 : (Jvm.Cond.code ({ cls := "java/util/PriorityQueue", name := "removeEq", desc := "(Ljava/lang/Object;)V" } : Jvm.MethodName) prog_75_method_18_code (5 : Nat) (Option.none : Option Jvm.ClassFile.FieldType)) ∈ lw_all := lw_g (lw_at lw_m8 19 rfl) rfl
theorem q1761 : (Jvm.Cond.methodLink "java/util/PriorityQueue" (111 : Nat) ({ cls := "java/util/PriorityQueue", name := "removeAt", desc := "(I)Ljava/lang/Object;" } : Jvm.MethodName)) ∈ lw_all := lw_g (lw_at lw_m8 20 rfl) rfl
theorem q1766 : (Jvm.Cond.instanceMethod ({ cls := "java/util/TreeMap$PrivateEntryIterator", name := "remove", desc := "()V" } : Jvm.MethodName)) ∈ lw_all := lw_g (lw_at lw_m8 25 rfl) rfl
theorem q1767 : (Jvm.Cond.publicMethod ({ cls := "java/util/TreeMap$PrivateEntryIterator", name := "remove", desc := "()V" } : Jvm.MethodName)) ∈ lw_tbl := lw_at lw_m8 26 rfl
theorem q1768 : (Jvm.Cond.code ({ cls := "java/util/TreeMap$PrivateEntryIterator", name := "remove", desc := "()V" } : Jvm.MethodName) prog_93_method_5_code (1 : Nat) (Option.none : Option Jvm.ClassFile.FieldType)) ∈ lw_all := lw_g (lw_at lw_m8 27 rfl) rfl
theorem q1771 : (Jvm.Cond.methodLinkNest "java/util/TreeMap$PrivateEntryIterator" (53 : Nat) ({ cls := "java/util/TreeMap", name := "deleteEntry", desc := "(Ljava/util/TreeMap$Entry;)V" } : Jvm.MethodName) "java/util/TreeMap") ∈ lw_tbl := lw_at lw_m8 30 rfl
theorem q1773 : (Jvm.Cond.instanceMethod ({ cls := "java/util/TreeMap", name := "deleteEntry", desc := "(Ljava/util/TreeMap$Entry;)V" } : Jvm.MethodName)) ∈ lw_all := lw_g (lw_at lw_m8 32 rfl) rfl
theorem q1774 : (Jvm.Cond.code ({ cls := "java/util/TreeMap", name := "deleteEntry", desc := "(Ljava/util/TreeMap$Entry;)V" } : Jvm.MethodName) prog_83_method_84_code (3 : Nat) (Option.none : Option Jvm.ClassFile.FieldType)) ∈ lw_all := lw_g (lw_at lw_m8 33 rfl) rfl
theorem q1775 : (Jvm.Cond.methodLink "java/util/TreeMap" (68 : Nat) ({ cls := "java/util/TreeMap", name := "successor", desc := "(Ljava/util/TreeMap$Entry;)Ljava/util/TreeMap$Entry;" } : Jvm.MethodName)) ∈ lw_all := lw_g (lw_at lw_m8 34 rfl) rfl
theorem q1776 : (Jvm.Cond.methodLink "java/util/TreeMap" (317 : Nat) ({ cls := "java/util/TreeMap", name := "fixAfterDeletion", desc := "(Ljava/util/TreeMap$Entry;)V" } : Jvm.MethodName)) ∈ lw_all := lw_g (lw_at lw_m8 35 rfl) rfl
theorem q1778 : (Jvm.Cond.instanceMethod ({ cls := "java/util/TreeMap", name := "fixAfterDeletion", desc := "(Ljava/util/TreeMap$Entry;)V" } : Jvm.MethodName)) ∈ lw_all := lw_g (lw_at lw_m8 37 rfl) rfl
theorem q1779 : (Jvm.Cond.code ({ cls := "java/util/TreeMap", name := "fixAfterDeletion", desc := "(Ljava/util/TreeMap$Entry;)V" } : Jvm.MethodName) prog_83_method_85_code (3 : Nat) (Option.none : Option Jvm.ClassFile.FieldType)) ∈ lw_all := lw_g (lw_at lw_m8 38 rfl) rfl
theorem q1780 : (Jvm.Cond.selects "java/util/TreeMap$NavigableSubMap$SubMapEntryIterator" ({ cls := "java/util/Iterator", name := "remove", desc := "()V" } : Jvm.MethodName) ({ cls := "java/util/TreeMap$NavigableSubMap$SubMapEntryIterator", name := "remove", desc := "()V" } : Jvm.MethodName)) ∈ lw_all := lw_g (lw_at lw_m8 39 rfl) rfl
theorem q1781 : (Jvm.Cond.unhidden "java/util/TreeMap$NavigableSubMap$SubMapEntryIterator" "remove" "()V") ∈ lw_tbl := lw_at lw_m8 40 rfl
theorem q1782 : (Jvm.Cond.instanceMethod ({ cls := "java/util/TreeMap$NavigableSubMap$SubMapEntryIterator", name := "remove", desc := "()V" } : Jvm.MethodName)) ∈ lw_all := lw_g (lw_at lw_m8 41 rfl) rfl
theorem q1783 : (Jvm.Cond.publicMethod ({ cls := "java/util/TreeMap$NavigableSubMap$SubMapEntryIterator", name := "remove", desc := "()V" } : Jvm.MethodName)) ∈ lw_tbl := lw_at lw_m8 42 rfl
theorem q1784 : (Jvm.Cond.code ({ cls := "java/util/TreeMap$NavigableSubMap$SubMapEntryIterator", name := "remove", desc := "()V" } : Jvm.MethodName) prog_91_method_3_code (1 : Nat) (Option.none : Option Jvm.ClassFile.FieldType)) ∈ lw_all := lw_g (lw_at lw_m8 43 rfl) rfl
theorem q1785 : (Jvm.Cond.methodLink "java/util/TreeMap$NavigableSubMap$SubMapEntryIterator" (13 : Nat) ({ cls := "java/util/TreeMap$NavigableSubMap$SubMapEntryIterator", name := "removeAscending", desc := "()V" } : Jvm.MethodName)) ∈ lw_all := lw_g (lw_at lw_m8 44 rfl) rfl
theorem q1786 : (Jvm.Cond.sameMethod "java/util/TreeMap$NavigableSubMap$SubMapEntryIterator" "java/util/TreeMap$NavigableSubMap$SubMapIterator" "removeAscending" "()V") ∈ lw_all := lw_g (lw_at lw_m8 45 rfl) rfl
theorem q1788 : (Jvm.Cond.selects "java/util/TreeMap$NavigableSubMap$SubMapEntryIterator" ({ cls := "java/util/TreeMap$NavigableSubMap$SubMapEntryIterator", name := "removeAscending", desc := "()V" } : Jvm.MethodName) ({ cls := "java/util/TreeMap$NavigableSubMap$SubMapIterator", name := "removeAscending", desc := "()V" } : Jvm.MethodName)) ∈ lw_all := lw_g (lw_at lw_m8 47 rfl) rfl
theorem q1789 : (Jvm.Cond.instanceMethod ({ cls := "java/util/TreeMap$NavigableSubMap$SubMapIterator", name := "removeAscending", desc := "()V" } : Jvm.MethodName)) ∈ lw_all := lw_g (lw_at lw_m8 48 rfl) rfl
theorem q1790 : (Jvm.Cond.code ({ cls := "java/util/TreeMap$NavigableSubMap$SubMapIterator", name := "removeAscending", desc := "()V" } : Jvm.MethodName) prog_92_method_5_code (1 : Nat) (Option.none : Option Jvm.ClassFile.FieldType)) ∈ lw_all := lw_g (lw_at lw_m8 49 rfl) rfl
theorem q1793 : (Jvm.Cond.methodLinkNest "java/util/TreeMap$NavigableSubMap$SubMapIterator" (69 : Nat) ({ cls := "java/util/TreeMap", name := "deleteEntry", desc := "(Ljava/util/TreeMap$Entry;)V" } : Jvm.MethodName) "java/util/TreeMap") ∈ lw_tbl := lw_at lw_m8 52 rfl
theorem q1794 : (Jvm.Cond.selects "java/util/TreeMap$ValueIterator" ({ cls := "java/util/Iterator", name := "remove", desc := "()V" } : Jvm.MethodName) ({ cls := "java/util/TreeMap$PrivateEntryIterator", name := "remove", desc := "()V" } : Jvm.MethodName)) ∈ lw_all := lw_g (lw_at lw_m8 53 rfl) rfl
theorem q1795 : (Jvm.Cond.unhidden "java/util/TreeMap$ValueIterator" "remove" "()V") ∈ lw_tbl := lw_at lw_m8 54 rfl
theorem q1801 : (Jvm.Cond.methodLink "java/util/TreeMap$EntrySet" (52 : Nat) ({ cls := "java/util/TreeMap", name := "clear", desc := "()V" } : Jvm.MethodName)) ∈ lw_all := lw_g (lw_at lw_m8 60 rfl) rfl
theorem q1802 : (Jvm.Cond.methodLink "Leafcredit" (431 : Nat) ({ cls := "java/util/TreeMap", name := "floorEntry", desc := "(Ljava/lang/Object;)Ljava/util/Map$Entry;" } : Jvm.MethodName)) ∈ lw_all := lw_g (lw_at lw_m8 61 rfl) rfl
theorem q1803 : (Jvm.Cond.instanceMethod ({ cls := "java/util/TreeMap", name := "floorEntry", desc := "(Ljava/lang/Object;)Ljava/util/Map$Entry;" } : Jvm.MethodName)) ∈ lw_all := lw_g (lw_at lw_m8 62 rfl) rfl
theorem q1804 : (Jvm.Cond.selects "java/util/TreeMap" ({ cls := "java/util/TreeMap", name := "floorEntry", desc := "(Ljava/lang/Object;)Ljava/util/Map$Entry;" } : Jvm.MethodName) ({ cls := "java/util/TreeMap", name := "floorEntry", desc := "(Ljava/lang/Object;)Ljava/util/Map$Entry;" } : Jvm.MethodName)) ∈ lw_all := lw_g (lw_at lw_m8 63 rfl) rfl
theorem q1805 : (Jvm.Cond.code ({ cls := "java/util/TreeMap", name := "floorEntry", desc := "(Ljava/lang/Object;)Ljava/util/Map$Entry;" } : Jvm.MethodName) prog_83_method_43_code (2 : Nat) (Option.some (Jvm.ClassFile.FieldType.object "java/util/Map$Entry"))) ∈ lw_all := lw_g (lw_at lw_m8 64 rfl) rfl
theorem q1806 : (Jvm.Cond.methodLink "java/util/TreeMap" (210 : Nat) ({ cls := "java/util/TreeMap", name := "getFloorEntry", desc := "(Ljava/lang/Object;)Ljava/util/TreeMap$Entry;" } : Jvm.MethodName)) ∈ lw_all := lw_g (lw_at lw_m8 65 rfl) rfl
theorem q1807 : (Jvm.Cond.instanceMethod ({ cls := "java/util/TreeMap", name := "getFloorEntry", desc := "(Ljava/lang/Object;)Ljava/util/TreeMap$Entry;" } : Jvm.MethodName)) ∈ lw_all := lw_g (lw_at lw_m8 66 rfl) rfl
theorem q1808 : (Jvm.Cond.selects "java/util/TreeMap" ({ cls := "java/util/TreeMap", name := "getFloorEntry", desc := "(Ljava/lang/Object;)Ljava/util/TreeMap$Entry;" } : Jvm.MethodName) ({ cls := "java/util/TreeMap", name := "getFloorEntry", desc := "(Ljava/lang/Object;)Ljava/util/TreeMap$Entry;" } : Jvm.MethodName)) ∈ lw_all := lw_g (lw_at lw_m8 67 rfl) rfl
theorem q1809 : (Jvm.Cond.code ({ cls := "java/util/TreeMap", name := "getFloorEntry", desc := "(Ljava/lang/Object;)Ljava/util/TreeMap$Entry;" } : Jvm.MethodName) prog_83_method_18_code (6 : Nat) (Option.some (Jvm.ClassFile.FieldType.object "java/util/TreeMap$Entry"))) ∈ lw_all := lw_g (lw_at lw_m8 68 rfl) rfl
theorem q1810 : (Jvm.Cond.methodLink "LeafcreditLaw" (145 : Nat) ({ cls := "LeafcreditLaw", name := "addAccount", desc := "(LLeafcredit;I[J)I" } : Jvm.MethodName)) ∈ lw_all := lw_g (lw_at lw_m8 69 rfl) rfl
theorem q1811 : (Jvm.Cond.static ({ cls := "LeafcreditLaw", name := "addAccount", desc := "(LLeafcredit;I[J)I" } : Jvm.MethodName)) ∈ lw_all := lw_g (lw_at lw_m8 70 rfl) rfl
theorem q1812 : (Jvm.Cond.codeWith ({ cls := "LeafcreditLaw", name := "addAccount", desc := "(LLeafcredit;I[J)I" } : Jvm.MethodName) method_3_code (4 : Nat) (Option.some Jvm.ClassFile.FieldType.int) [((0 : Nat), (9 : Nat), (12 : Nat), (13 : Nat)), ((0 : Nat), (9 : Nat), (15 : Nat), (15 : Nat))]) ∈ lw_all := lw_g (lw_at lw_m8 71 rfl) rfl
theorem q1813 : (Jvm.Cond.classLink "LeafcreditLaw" (13 : Nat) "java/lang/IllegalArgumentException") ∈ lw_all := lw_g (lw_at lw_m8 72 rfl) rfl
theorem q1814 : (Jvm.Cond.classLink "LeafcreditLaw" (15 : Nat) "java/lang/IllegalStateException") ∈ lw_all := lw_g (lw_at lw_m8 73 rfl) rfl
theorem q1815 : (Jvm.Cond.methodLink "LeafcreditLaw" (7 : Nat) ({ cls := "Leafcredit", name := "addAccount", desc := "(I)I" } : Jvm.MethodName)) ∈ lw_all := lw_g (lw_at lw_m8 74 rfl) rfl
theorem q1816 : (Jvm.Cond.instanceMethod ({ cls := "Leafcredit", name := "addAccount", desc := "(I)I" } : Jvm.MethodName)) ∈ lw_all := lw_g (lw_at lw_m8 75 rfl) rfl
theorem q1817 : (Jvm.Cond.selects "Leafcredit" ({ cls := "Leafcredit", name := "addAccount", desc := "(I)I" } : Jvm.MethodName) ({ cls := "Leafcredit", name := "addAccount", desc := "(I)I" } : Jvm.MethodName)) ∈ lw_all := lw_g (lw_at lw_m8 76 rfl) rfl
theorem q1818 : (Jvm.Cond.code ({ cls := "Leafcredit", name := "addAccount", desc := "(I)I" } : Jvm.MethodName) prog_1_method_16_code (2 : Nat) (Option.some Jvm.ClassFile.FieldType.int)) ∈ lw_all := lw_g (lw_at lw_m8 77 rfl) rfl
theorem q1819 : (Jvm.Cond.constant "Leafcredit" (183 : Nat) (1000000 : Int32)) ∈ lw_all := lw_g (lw_at lw_m8 78 rfl) rfl
theorem q1820 : (Jvm.Cond.methodLink "Leafcredit" (92 : Nat) ({ cls := "Leafcredit", name := "isBetween", desc := "(III)Z" } : Jvm.MethodName)) ∈ lw_all := lw_g (lw_at lw_m8 79 rfl) rfl
theorem q1821 : (Jvm.Cond.static ({ cls := "Leafcredit", name := "isBetween", desc := "(III)Z" } : Jvm.MethodName)) ∈ lw_all := lw_g (lw_at lw_m8 80 rfl) rfl
theorem q1822 : (Jvm.Cond.code ({ cls := "Leafcredit", name := "isBetween", desc := "(III)Z" } : Jvm.MethodName) prog_1_method_1_code (3 : Nat) (Option.some Jvm.ClassFile.FieldType.boolean)) ∈ lw_all := lw_g (lw_at lw_m8 81 rfl) rfl
theorem q1823 : (Jvm.Cond.methodLink "Leafcredit" (184 : Nat) ({ cls := "Leafcredit", name := "checkArgument", desc := "(Z)V" } : Jvm.MethodName)) ∈ lw_all := lw_g (lw_at lw_m8 82 rfl) rfl
theorem q1824 : (Jvm.Cond.static ({ cls := "Leafcredit", name := "checkArgument", desc := "(Z)V" } : Jvm.MethodName)) ∈ lw_all := lw_g (lw_at lw_m8 83 rfl) rfl
theorem q1825 : (Jvm.Cond.code ({ cls := "Leafcredit", name := "checkArgument", desc := "(Z)V" } : Jvm.MethodName) prog_1_method_4_code (1 : Nat) (Option.none : Option Jvm.ClassFile.FieldType)) ∈ lw_all := lw_g (lw_at lw_m8 84 rfl) rfl
theorem q1826 : (Jvm.Cond.classLink "Leafcredit" (73 : Nat) "java/lang/IllegalArgumentException") ∈ lw_all := lw_g (lw_at lw_m8 85 rfl) rfl
theorem q1827 : (Jvm.Cond.methodLink "Leafcredit" (75 : Nat) ({ cls := "java/lang/IllegalArgumentException", name := "<init>", desc := "()V" } : Jvm.MethodName)) ∈ lw_all := lw_g (lw_at lw_m8 86 rfl) rfl
theorem q1828 : (Jvm.Cond.methodLink "Leafcredit" (187 : Nat) ({ cls := "Leafcredit", name := "checkState", desc := "(Z)V" } : Jvm.MethodName)) ∈ lw_all := lw_g (lw_at lw_m8 87 rfl) rfl
theorem q1829 : (Jvm.Cond.static ({ cls := "Leafcredit", name := "checkState", desc := "(Z)V" } : Jvm.MethodName)) ∈ lw_all := lw_g (lw_at lw_m8 88 rfl) rfl
theorem q1830 : (Jvm.Cond.code ({ cls := "Leafcredit", name := "checkState", desc := "(Z)V" } : Jvm.MethodName) prog_1_method_5_code (1 : Nat) (Option.none : Option Jvm.ClassFile.FieldType)) ∈ lw_all := lw_g (lw_at lw_m8 89 rfl) rfl
theorem q1831 : (Jvm.Cond.classLink "Leafcredit" (76 : Nat) "java/lang/IllegalStateException") ∈ lw_all := lw_g (lw_at lw_m8 90 rfl) rfl
theorem q1832 : (Jvm.Cond.methodLink "Leafcredit" (78 : Nat) ({ cls := "java/lang/IllegalStateException", name := "<init>", desc := "()V" } : Jvm.MethodName)) ∈ lw_all := lw_g (lw_at lw_m8 91 rfl) rfl
theorem q1833 : (Jvm.Cond.methodLink "LeafcreditLaw" (154 : Nat) ({ cls := "LeafcreditLaw", name := "makePlant", desc := "(LLeafcredit;III[J)I" } : Jvm.MethodName)) ∈ lw_all := lw_g (lw_at lw_m8 92 rfl) rfl
theorem q1834 : (Jvm.Cond.static ({ cls := "LeafcreditLaw", name := "makePlant", desc := "(LLeafcredit;III[J)I" } : Jvm.MethodName)) ∈ lw_all := lw_g (lw_at lw_m8 93 rfl) rfl
theorem q1835 : (Jvm.Cond.codeWith ({ cls := "LeafcreditLaw", name := "makePlant", desc := "(LLeafcredit;III[J)I" } : Jvm.MethodName) method_4_code (6 : Nat) (Option.some Jvm.ClassFile.FieldType.int) [((0 : Nat), (12 : Nat), (15 : Nat), (21 : Nat)), ((0 : Nat), (12 : Nat), (19 : Nat), (13 : Nat))]) ∈ lw_all := lw_g (lw_at lw_m8 94 rfl) rfl
theorem q1836 : (Jvm.Cond.classLink "LeafcreditLaw" (21 : Nat) "java/lang/IndexOutOfBoundsException") ∈ lw_all := lw_g (lw_at lw_m8 95 rfl) rfl
theorem q1860 : (Jvm.Cond.methodLink "LeafcreditLaw" (17 : Nat) ({ cls := "Leafcredit", name := "makePlant", desc := "(III)I" } : Jvm.MethodName)) ∈ lw_all := lw_g (lw_at lw_m8 119 rfl) rfl
theorem q1861 : (Jvm.Cond.instanceMethod ({ cls := "Leafcredit", name := "makePlant", desc := "(III)I" } : Jvm.MethodName)) ∈ lw_all := lw_g (lw_at lw_m8 120 rfl) rfl
theorem q1862 : (Jvm.Cond.selects "Leafcredit" ({ cls := "Leafcredit", name := "makePlant", desc := "(III)I" } : Jvm.MethodName) ({ cls := "Leafcredit", name := "makePlant", desc := "(III)I" } : Jvm.MethodName)) ∈ lw_all := lw_g (lw_at lw_m8 121 rfl) rfl
theorem q1863 : (Jvm.Cond.code ({ cls := "Leafcredit", name := "makePlant", desc := "(III)I" } : Jvm.MethodName) prog_1_method_17_code (8 : Nat) (Option.some Jvm.ClassFile.FieldType.int)) ∈ lw_all := lw_g (lw_at lw_m8 122 rfl) rfl
theorem q1864 : (Jvm.Cond.methodLink "Leafcredit" (190 : Nat) ({ cls := "Leafcredit", name := "accountFrom", desc := "(II)LLeafcredit$Account;" } : Jvm.MethodName)) ∈ lw_all := lw_g (lw_at lw_m8 123 rfl) rfl
theorem q1866 : (Jvm.Cond.instanceMethod ({ cls := "Leafcredit", name := "accountFrom", desc := "(II)LLeafcredit$Account;" } : Jvm.MethodName)) ∈ lw_all := lw_g (lw_at lw_m8 125 rfl) rfl
theorem q1867 : (Jvm.Cond.code ({ cls := "Leafcredit", name := "accountFrom", desc := "(II)LLeafcredit$Account;" } : Jvm.MethodName) prog_1_method_9_code (3 : Nat) (Option.some (Jvm.ClassFile.FieldType.object "Leafcredit$Account"))) ∈ lw_all := lw_g (lw_at lw_m8 126 rfl) rfl
theorem q1868 : (Jvm.Cond.methodLink "Leafcredit" (96 : Nat) ({ cls := "Leafcredit", name := "checkIndex", desc := "(Z)V" } : Jvm.MethodName)) ∈ lw_all := lw_g (lw_at lw_m8 127 rfl) rfl
theorem q1869 : (Jvm.Cond.static ({ cls := "Leafcredit", name := "checkIndex", desc := "(Z)V" } : Jvm.MethodName)) ∈ lw_all := lw_g (lw_at lw_m8 128 rfl) rfl
theorem q1870 : (Jvm.Cond.code ({ cls := "Leafcredit", name := "checkIndex", desc := "(Z)V" } : Jvm.MethodName) prog_1_method_8_code (1 : Nat) (Option.none : Option Jvm.ClassFile.FieldType)) ∈ lw_all := lw_g (lw_at lw_m8 129 rfl) rfl
theorem q1871 : (Jvm.Cond.classLink "Leafcredit" (85 : Nat) "java/lang/IndexOutOfBoundsException") ∈ lw_all := lw_g (lw_at lw_m8 130 rfl) rfl
theorem q1872 : (Jvm.Cond.instantiable "java/lang/IndexOutOfBoundsException" (6 : Nat)) ∈ lw_all := lw_g (lw_at lw_m8 131 rfl) rfl
theorem q1873 : (Jvm.Cond.castable "java/lang/IndexOutOfBoundsException" "java/lang/IndexOutOfBoundsException") ∈ lw_tbl := lw_at lw_m8 132 rfl
theorem q1874 : (Jvm.Cond.selects "java/lang/IndexOutOfBoundsException" ({ cls := "java/lang/Throwable", name := "fillInStackTrace", desc := "(I)Ljava/lang/Throwable;" } : Jvm.MethodName) ({ cls := "java/lang/Throwable", name := "fillInStackTrace", desc := "(I)Ljava/lang/Throwable;" } : Jvm.MethodName)) ∈ lw_all := lw_g (lw_at lw_m8 133 rfl) rfl
theorem q1875 : (Jvm.Cond.lays "java/lang/IndexOutOfBoundsException" "java/lang/Throwable" "cause" "Ljava/lang/Throwable;") ∈ lw_all := lw_g (lw_at lw_m8 134 rfl) rfl
theorem q1876 : (Jvm.Cond.lays "java/lang/IndexOutOfBoundsException" "java/lang/Throwable" "stackTrace" "[Ljava/lang/StackTraceElement;") ∈ lw_all := lw_g (lw_at lw_m8 135 rfl) rfl
theorem q1877 : (Jvm.Cond.lays "java/lang/IndexOutOfBoundsException" "java/lang/Throwable" "suppressedExceptions" "Ljava/util/List;") ∈ lw_all := lw_g (lw_at lw_m8 136 rfl) rfl
theorem q1878 : (Jvm.Cond.lays "java/lang/IndexOutOfBoundsException" "java/lang/Throwable" "detailMessage" "Ljava/lang/String;") ∈ lw_all := lw_g (lw_at lw_m8 137 rfl) rfl
theorem q1879 : (Jvm.Cond.lays "java/lang/IndexOutOfBoundsException" "java/lang/Throwable" "backtrace" "Ljava/lang/Object;") ∈ lw_all := lw_g (lw_at lw_m8 138 rfl) rfl
theorem q1880 : (Jvm.Cond.methodLink "Leafcredit" (87 : Nat) ({ cls := "java/lang/IndexOutOfBoundsException", name := "<init>", desc := "()V" } : Jvm.MethodName)) ∈ lw_all := lw_g (lw_at lw_m8 139 rfl) rfl
theorem q1881 : (Jvm.Cond.instanceMethod ({ cls := "java/lang/IndexOutOfBoundsException", name := "<init>", desc := "()V" } : Jvm.MethodName)) ∈ lw_all := lw_g (lw_at lw_m8 140 rfl) rfl
theorem q1882 : (Jvm.Cond.code ({ cls := "java/lang/IndexOutOfBoundsException", name := "<init>", desc := "()V" } : Jvm.MethodName) prog_32_method_1_code (1 : Nat) (Option.none : Option Jvm.ClassFile.FieldType)) ∈ lw_all := lw_g (lw_at lw_m8 141 rfl) rfl
theorem q1883 : (Jvm.Cond.methodLink "java/lang/IndexOutOfBoundsException" (1 : Nat) ({ cls := "java/lang/RuntimeException", name := "<init>", desc := "()V" } : Jvm.MethodName)) ∈ lw_all := lw_g (lw_at lw_m8 142 rfl) rfl
theorem q1887 : (Jvm.Cond.methodLink "Leafcredit" (100 : Nat) ({ cls := "java/util/List", name := "get", desc := "(I)Ljava/lang/Object;" } : Jvm.MethodName)) ∈ lw_all := lw_g (lw_at lw_m8 146 rfl) rfl
theorem q1888 : (Jvm.Cond.interfaceMethod "java/util/List" "java/util/List" "get" "(I)Ljava/lang/Object;") ∈ lw_tbl := lw_at lw_m8 147 rfl
theorem q1889 : (Jvm.Cond.declares ({ cls := "java/util/List", name := "get", desc := "(I)Ljava/lang/Object;" } : Jvm.MethodName)) ∈ lw_tbl := lw_at lw_m8 148 rfl
theorem q1890 : (Jvm.Cond.selects "java/util/ArrayList" ({ cls := "java/util/List", name := "get", desc := "(I)Ljava/lang/Object;" } : Jvm.MethodName) ({ cls := "java/util/ArrayList", name := "get", desc := "(I)Ljava/lang/Object;" } : Jvm.MethodName)) ∈ lw_all := lw_g (lw_at lw_m8 149 rfl) rfl
theorem q1891 : (Jvm.Cond.unhidden "java/util/ArrayList" "get" "(I)Ljava/lang/Object;") ∈ lw_tbl := lw_at lw_m8 150 rfl
theorem q1892 : (Jvm.Cond.instanceMethod ({ cls := "java/util/ArrayList", name := "get", desc := "(I)Ljava/lang/Object;" } : Jvm.MethodName)) ∈ lw_all := lw_g (lw_at lw_m8 151 rfl) rfl
theorem q1893 : (Jvm.Cond.publicMethod ({ cls := "java/util/ArrayList", name := "get", desc := "(I)Ljava/lang/Object;" } : Jvm.MethodName)) ∈ lw_tbl := lw_at lw_m8 152 rfl
theorem q1894 : (Jvm.Cond.code ({ cls := "java/util/ArrayList", name := "get", desc := "(I)Ljava/lang/Object;" } : Jvm.MethodName) prog_61_method_20_code (2 : Nat) (Option.some (Jvm.ClassFile.FieldType.object "java/lang/Object"))) ∈ lw_all := lw_g (lw_at lw_m8 153 rfl) rfl
theorem q1895 : (Jvm.Cond.methodLink "java/util/ArrayList" (123 : Nat) ({ cls := "java/util/ArrayList", name := "elementData", desc := "(I)Ljava/lang/Object;" } : Jvm.MethodName)) ∈ lw_all := lw_g (lw_at lw_m8 154 rfl) rfl
theorem q1896 : (Jvm.Cond.instanceMethod ({ cls := "java/util/ArrayList", name := "elementData", desc := "(I)Ljava/lang/Object;" } : Jvm.MethodName)) ∈ lw_all := lw_g (lw_at lw_m8 155 rfl) rfl
theorem q1897 : (Jvm.Cond.selects "java/util/ArrayList" ({ cls := "java/util/ArrayList", name := "elementData", desc := "(I)Ljava/lang/Object;" } : Jvm.MethodName) ({ cls := "java/util/ArrayList", name := "elementData", desc := "(I)Ljava/lang/Object;" } : Jvm.MethodName)) ∈ lw_all := lw_g (lw_at lw_m8 156 rfl) rfl
theorem q1898 : (Jvm.Cond.code ({ cls := "java/util/ArrayList", name := "elementData", desc := "(I)Ljava/lang/Object;" } : Jvm.MethodName) prog_61_method_18_code (2 : Nat) (Option.some (Jvm.ClassFile.FieldType.object "java/lang/Object"))) ∈ lw_all := lw_g (lw_at lw_m8 157 rfl) rfl
theorem q1899 : (Jvm.Cond.classLink "Leafcredit" (198 : Nat) "Leafcredit$Plant") ∈ lw_all := lw_g (lw_at lw_m8 158 rfl) rfl
theorem q1900 : (Jvm.Cond.instantiable "Leafcredit$Plant" (9 : Nat)) ∈ lw_all := lw_g (lw_at lw_m8 159 rfl) rfl
theorem q1901 : (Jvm.Cond.methodLinkNest "Leafcredit" (200 : Nat) ({ cls := "Leafcredit$Plant", name := "<init>", desc := "()V" } : Jvm.MethodName) "Leafcredit") ∈ lw_tbl := lw_at lw_m8 160 rfl
theorem q1902 : (Jvm.Cond.instanceMethod ({ cls := "Leafcredit$Plant", name := "<init>", desc := "()V" } : Jvm.MethodName)) ∈ lw_all := lw_g (lw_at lw_m8 161 rfl) rfl
theorem q1903 : (Jvm.Cond.code ({ cls := "Leafcredit$Plant", name := "<init>", desc := "()V" } : Jvm.MethodName) prog_10_method_1_code (1 : Nat) (Option.none : Option Jvm.ClassFile.FieldType)) ∈ lw_all := lw_g (lw_at lw_m8 162 rfl) rfl
theorem q1904 : (Jvm.Cond.methodLink "Leafcredit$Plant" (3 : Nat) ({ cls := "java/lang/Object", name := "<init>", desc := "()V" } : Jvm.MethodName)) ∈ lw_all := lw_g (lw_at lw_m8 163 rfl) rfl
theorem q1905 : (Jvm.Cond.classLink "Leafcredit$Plant" (9 : Nat) "java/util/TreeMap") ∈ lw_all := lw_g (lw_at lw_m8 164 rfl) rfl
theorem q1906 : (Jvm.Cond.methodLink "Leafcredit$Plant" (11 : Nat) ({ cls := "java/util/TreeMap", name := "<init>", desc := "()V" } : Jvm.MethodName)) ∈ lw_all := lw_g (lw_at lw_m8 165 rfl) rfl
theorem q1907 : (Jvm.Cond.fieldLinkNest "Leafcredit" (201 : Nat) "Leafcredit$Plant" "benchmark" "I" "Leafcredit") ∈ lw_tbl := lw_at lw_m8 166 rfl
theorem q1908 : (Jvm.Cond.fieldLink "Leafcredit$Plant" (46 : Nat) "Leafcredit$Plant" "uncertainty" "I") ∈ lw_all := lw_g (lw_at lw_m8 167 rfl) rfl
theorem q1909 : (Jvm.Cond.fieldLinkNest "Leafcredit" (204 : Nat) "Leafcredit$Plant" "uncertainty" "I" "Leafcredit") ∈ lw_tbl := lw_at lw_m8 168 rfl
theorem q1910 : (Jvm.Cond.fieldLink "Leafcredit$Plant" (12 : Nat) "Leafcredit$Plant" "emissions" "Ljava/util/TreeMap;") ∈ lw_all := lw_g (lw_at lw_m8 169 rfl) rfl
theorem q1911 : (Jvm.Cond.fieldLinkNest "Leafcredit$Account" (48 : Nat) "Leafcredit$Plant" "emissions" "Ljava/util/TreeMap;" "Leafcredit") ∈ lw_tbl := lw_at lw_m8 170 rfl
theorem q1912 : (Jvm.Cond.fieldLinkNest "Leafcredit" (241 : Nat) "Leafcredit$Plant" "emissions" "Ljava/util/TreeMap;" "Leafcredit") ∈ lw_tbl := lw_at lw_m8 171 rfl
theorem q1913 : (Jvm.Cond.fieldLink "Leafcredit$Plant" (18 : Nat) "Leafcredit$Plant" "activities" "Ljava/util/TreeMap;") ∈ lw_all := lw_g (lw_at lw_m8 172 rfl) rfl
theorem q1914 : (Jvm.Cond.fieldLinkNest "Leafcredit" (235 : Nat) "Leafcredit$Plant" "activities" "Ljava/util/TreeMap;" "Leafcredit") ∈ lw_tbl := lw_at lw_m8 173 rfl
theorem q1915 : (Jvm.Cond.fieldLink "Leafcredit$Plant" (21 : Nat) "Leafcredit$Plant" "used" "I") ∈ lw_all := lw_g (lw_at lw_m8 174 rfl) rfl
theorem q1916 : (Jvm.Cond.fieldLink "Leafcredit$Plant" (31 : Nat) "Leafcredit$Plant" "sum" "J") ∈ lw_all := lw_g (lw_at lw_m8 175 rfl) rfl
theorem q1917 : (Jvm.Cond.fieldLinkNest "Leafcredit" (222 : Nat) "Leafcredit$Plant" "sum" "J" "Leafcredit") ∈ lw_tbl := lw_at lw_m8 176 rfl
theorem q1918 : (Jvm.Cond.fieldLink "Leafcredit$Plant" (37 : Nat) "Leafcredit$Plant" "greatest" "J") ∈ lw_all := lw_g (lw_at lw_m8 177 rfl) rfl
theorem q1919 : (Jvm.Cond.fieldLinkNest "Leafcredit" (226 : Nat) "Leafcredit$Plant" "greatest" "J" "Leafcredit") ∈ lw_tbl := lw_at lw_m8 178 rfl
theorem q1920 : (Jvm.Cond.fieldLink "Leafcredit$Plant" (28 : Nat) "Leafcredit$Plant" "reports" "I") ∈ lw_all := lw_g (lw_at lw_m8 179 rfl) rfl
theorem q1921 : (Jvm.Cond.fieldLinkNest "Leafcredit" (219 : Nat) "Leafcredit$Plant" "reports" "I" "Leafcredit") ∈ lw_tbl := lw_at lw_m8 180 rfl
theorem q1922 : (Jvm.Cond.fieldLink "Leafcredit$Plant" (25 : Nat) "Leafcredit$Plant" "lastReport" "I") ∈ lw_all := lw_g (lw_at lw_m8 181 rfl) rfl
theorem q1923 : (Jvm.Cond.fieldLinkNest "Leafcredit" (214 : Nat) "Leafcredit$Plant" "lastReport" "I" "Leafcredit") ∈ lw_tbl := lw_at lw_m8 182 rfl
theorem q1943 : (Jvm.Cond.methodLink "LeafcreditLaw" (158 : Nat) ({ cls := "LeafcreditLaw", name := "report", desc := "(LLeafcredit;III[J)I" } : Jvm.MethodName)) ∈ lw_all := lw_g (lw_at lw_m8 202 rfl) rfl
theorem q1944 : (Jvm.Cond.static ({ cls := "LeafcreditLaw", name := "report", desc := "(LLeafcredit;III[J)I" } : Jvm.MethodName)) ∈ lw_all := lw_g (lw_at lw_m8 203 rfl) rfl
theorem q1945 : (Jvm.Cond.codeWith ({ cls := "LeafcreditLaw", name := "report", desc := "(LLeafcredit;III[J)I" } : Jvm.MethodName) method_5_code (6 : Nat) (Option.some Jvm.ClassFile.FieldType.int) [((0 : Nat), (12 : Nat), (15 : Nat), (21 : Nat)), ((0 : Nat), (12 : Nat), (19 : Nat), (13 : Nat)), ((0 : Nat), (12 : Nat), (23 : Nat), (26 : Nat)), ((0 : Nat), (12 : Nat), (27 : Nat), (15 : Nat))]) ∈ lw_all := lw_g (lw_at lw_m8 204 rfl) rfl
theorem q1946 : (Jvm.Cond.classLink "LeafcreditLaw" (26 : Nat) "java/lang/UnsupportedOperationException") ∈ lw_all := lw_g (lw_at lw_m8 205 rfl) rfl
theorem q1947 : (Jvm.Cond.methodLink "LeafcreditLaw" (23 : Nat) ({ cls := "Leafcredit", name := "report", desc := "(III)I" } : Jvm.MethodName)) ∈ lw_all := lw_g (lw_at lw_m8 206 rfl) rfl
theorem q1948 : (Jvm.Cond.instanceMethod ({ cls := "Leafcredit", name := "report", desc := "(III)I" } : Jvm.MethodName)) ∈ lw_all := lw_g (lw_at lw_m8 207 rfl) rfl
theorem q1949 : (Jvm.Cond.selects "Leafcredit" ({ cls := "Leafcredit", name := "report", desc := "(III)I" } : Jvm.MethodName) ({ cls := "Leafcredit", name := "report", desc := "(III)I" } : Jvm.MethodName)) ∈ lw_all := lw_g (lw_at lw_m8 208 rfl) rfl
theorem q1950 : (Jvm.Cond.code ({ cls := "Leafcredit", name := "report", desc := "(III)I" } : Jvm.MethodName) prog_1_method_18_code (7 : Nat) (Option.some Jvm.ClassFile.FieldType.int)) ∈ lw_all := lw_g (lw_at lw_m8 209 rfl) rfl
theorem q1951 : (Jvm.Cond.constant "Leafcredit" (208 : Nat) (2000000000 : Int32)) ∈ lw_all := lw_g (lw_at lw_m8 210 rfl) rfl
theorem q1952 : (Jvm.Cond.methodLink "Leafcredit" (209 : Nat) ({ cls := "Leafcredit", name := "checkPossible", desc := "(Z)V" } : Jvm.MethodName)) ∈ lw_all := lw_g (lw_at lw_m8 211 rfl) rfl
theorem q1953 : (Jvm.Cond.static ({ cls := "Leafcredit", name := "checkPossible", desc := "(Z)V" } : Jvm.MethodName)) ∈ lw_all := lw_g (lw_at lw_m8 212 rfl) rfl
theorem q1954 : (Jvm.Cond.code ({ cls := "Leafcredit", name := "checkPossible", desc := "(Z)V" } : Jvm.MethodName) prog_1_method_7_code (1 : Nat) (Option.none : Option Jvm.ClassFile.FieldType)) ∈ lw_all := lw_g (lw_at lw_m8 213 rfl) rfl
theorem q1955 : (Jvm.Cond.classLink "Leafcredit" (82 : Nat) "java/lang/UnsupportedOperationException") ∈ lw_all := lw_g (lw_at lw_m8 214 rfl) rfl
theorem q1956 : (Jvm.Cond.instantiable "java/lang/UnsupportedOperationException" (6 : Nat)) ∈ lw_all := lw_g (lw_at lw_m8 215 rfl) rfl
theorem q1957 : (Jvm.Cond.castable "java/lang/UnsupportedOperationException" "java/lang/UnsupportedOperationException") ∈ lw_tbl := lw_at lw_m8 216 rfl
theorem q1958 : (Jvm.Cond.selects "java/lang/UnsupportedOperationException" ({ cls := "java/lang/Throwable", name := "fillInStackTrace", desc := "(I)Ljava/lang/Throwable;" } : Jvm.MethodName) ({ cls := "java/lang/Throwable", name := "fillInStackTrace", desc := "(I)Ljava/lang/Throwable;" } : Jvm.MethodName)) ∈ lw_all := lw_g (lw_at lw_m8 217 rfl) rfl
theorem q1959 : (Jvm.Cond.lays "java/lang/UnsupportedOperationException" "java/lang/Throwable" "cause" "Ljava/lang/Throwable;") ∈ lw_all := lw_g (lw_at lw_m8 218 rfl) rfl
theorem q1960 : (Jvm.Cond.lays "java/lang/UnsupportedOperationException" "java/lang/Throwable" "stackTrace" "[Ljava/lang/StackTraceElement;") ∈ lw_all := lw_g (lw_at lw_m8 219 rfl) rfl
theorem q1961 : (Jvm.Cond.lays "java/lang/UnsupportedOperationException" "java/lang/Throwable" "suppressedExceptions" "Ljava/util/List;") ∈ lw_all := lw_g (lw_at lw_m8 220 rfl) rfl
theorem q1962 : (Jvm.Cond.lays "java/lang/UnsupportedOperationException" "java/lang/Throwable" "detailMessage" "Ljava/lang/String;") ∈ lw_all := lw_g (lw_at lw_m8 221 rfl) rfl
theorem q1963 : (Jvm.Cond.lays "java/lang/UnsupportedOperationException" "java/lang/Throwable" "backtrace" "Ljava/lang/Object;") ∈ lw_all := lw_g (lw_at lw_m8 222 rfl) rfl
theorem q1964 : (Jvm.Cond.methodLink "Leafcredit" (84 : Nat) ({ cls := "java/lang/UnsupportedOperationException", name := "<init>", desc := "()V" } : Jvm.MethodName)) ∈ lw_all := lw_g (lw_at lw_m8 223 rfl) rfl
theorem q1965 : (Jvm.Cond.instanceMethod ({ cls := "java/lang/UnsupportedOperationException", name := "<init>", desc := "()V" } : Jvm.MethodName)) ∈ lw_all := lw_g (lw_at lw_m8 224 rfl) rfl
theorem q1966 : (Jvm.Cond.code ({ cls := "java/lang/UnsupportedOperationException", name := "<init>", desc := "()V" } : Jvm.MethodName) prog_48_method_1_code (1 : Nat) (Option.none : Option Jvm.ClassFile.FieldType)) ∈ lw_all := lw_g (lw_at lw_m8 225 rfl) rfl
theorem q1967 : (Jvm.Cond.methodLink "java/lang/UnsupportedOperationException" (1 : Nat) ({ cls := "java/lang/RuntimeException", name := "<init>", desc := "()V" } : Jvm.MethodName)) ∈ lw_all := lw_g (lw_at lw_m8 226 rfl) rfl
theorem q1970 : (Jvm.Cond.constantLong "Leafcredit" (212 : Nat) (1000000 : Int64)) ∈ lw_all := lw_g (lw_at lw_m8 229 rfl) rfl
theorem q1971 : (Jvm.Cond.constantLong "Leafcredit" (217 : Nat) (2000000000 : Int64)) ∈ lw_all := lw_g (lw_at lw_m8 230 rfl) rfl
theorem q1972 : (Jvm.Cond.methodLink "Leafcredit" (229 : Nat) ({ cls := "java/lang/Math", name := "max", desc := "(JJ)J" } : Jvm.MethodName)) ∈ lw_all := lw_g (lw_at lw_m8 231 rfl) rfl
theorem q1973 : (Jvm.Cond.static ({ cls := "java/lang/Math", name := "max", desc := "(JJ)J" } : Jvm.MethodName)) ∈ lw_all := lw_g (lw_at lw_m8 232 rfl) rfl
theorem q1974 : (Jvm.Cond.code ({ cls := "java/lang/Math", name := "max", desc := "(JJ)J" } : Jvm.MethodName) prog_38_method_66_code (4 : Nat) (Option.some Jvm.ClassFile.FieldType.long)) ∈ lw_all := lw_g (lw_at lw_m8 233 rfl) rfl
theorem q1975 : (Jvm.Cond.methodLink "LeafcreditLaw" (161 : Nat) ({ cls := "LeafcreditLaw", name := "tellActivity", desc := "(LLeafcredit;II[J)I" } : Jvm.MethodName)) ∈ lw_all := lw_g (lw_at lw_m8 234 rfl) rfl
theorem q1976 : (Jvm.Cond.static ({ cls := "LeafcreditLaw", name := "tellActivity", desc := "(LLeafcredit;II[J)I" } : Jvm.MethodName)) ∈ lw_all := lw_g (lw_at lw_m8 235 rfl) rfl
theorem q1977 : (Jvm.Cond.codeWith ({ cls := "LeafcreditLaw", name := "tellActivity", desc := "(LLeafcredit;II[J)I" } : Jvm.MethodName) method_6_code (5 : Nat) (Option.some Jvm.ClassFile.FieldType.int) [((0 : Nat), (10 : Nat), (13 : Nat), (21 : Nat)), ((0 : Nat), (10 : Nat), (17 : Nat), (13 : Nat)), ((0 : Nat), (10 : Nat), (21 : Nat), (26 : Nat))]) ∈ lw_all := lw_g (lw_at lw_m8 236 rfl) rfl
theorem q1978 : (Jvm.Cond.methodLink "LeafcreditLaw" (28 : Nat) ({ cls := "Leafcredit", name := "tellActivity", desc := "(II)I" } : Jvm.MethodName)) ∈ lw_all := lw_g (lw_at lw_m8 237 rfl) rfl
theorem q1979 : (Jvm.Cond.instanceMethod ({ cls := "Leafcredit", name := "tellActivity", desc := "(II)I" } : Jvm.MethodName)) ∈ lw_all := lw_g (lw_at lw_m8 238 rfl) rfl
theorem q1980 : (Jvm.Cond.selects "Leafcredit" ({ cls := "Leafcredit", name := "tellActivity", desc := "(II)I" } : Jvm.MethodName) ({ cls := "Leafcredit", name := "tellActivity", desc := "(II)I" } : Jvm.MethodName)) ∈ lw_all := lw_g (lw_at lw_m8 239 rfl) rfl
theorem q1981 : (Jvm.Cond.code ({ cls := "Leafcredit", name := "tellActivity", desc := "(II)I" } : Jvm.MethodName) prog_1_method_19_code (5 : Nat) (Option.some Jvm.ClassFile.FieldType.int)) ∈ lw_all := lw_g (lw_at lw_m9 0 rfl) rfl
theorem q1982 : (Jvm.Cond.methodLink "Leafcredit" (118 : Nat) ({ cls := "Leafcredit", name := "year", desc := "()I" } : Jvm.MethodName)) ∈ lw_all := lw_g (lw_at lw_m9 1 rfl) rfl
theorem q1984 : (Jvm.Cond.instanceMethod ({ cls := "Leafcredit", name := "year", desc := "()I" } : Jvm.MethodName)) ∈ lw_all := lw_g (lw_at lw_m9 3 rfl) rfl
theorem q1985 : (Jvm.Cond.code ({ cls := "Leafcredit", name := "year", desc := "()I" } : Jvm.MethodName) prog_1_method_11_code (1 : Nat) (Option.some Jvm.ClassFile.FieldType.int)) ∈ lw_all := lw_g (lw_at lw_m9 4 rfl) rfl
theorem q1986 : (Jvm.Cond.classLink "Leafcredit" (111 : Nat) "java/lang/Integer") ∈ lw_all := lw_g (lw_at lw_m9 5 rfl) rfl
theorem q1987 : (Jvm.Cond.methodLink "Leafcredit" (238 : Nat) ({ cls := "java/lang/Integer", name := "intValue", desc := "()I" } : Jvm.MethodName)) ∈ lw_all := lw_g (lw_at lw_m9 6 rfl) rfl
theorem q1988 : (Jvm.Cond.instanceMethod ({ cls := "java/lang/Integer", name := "intValue", desc := "()I" } : Jvm.MethodName)) ∈ lw_all := lw_g (lw_at lw_m9 7 rfl) rfl
theorem q1989 : (Jvm.Cond.selects "java/lang/Integer" ({ cls := "java/lang/Integer", name := "intValue", desc := "()I" } : Jvm.MethodName) ({ cls := "java/lang/Integer", name := "intValue", desc := "()I" } : Jvm.MethodName)) ∈ lw_all := lw_g (lw_at lw_m9 8 rfl) rfl
theorem q1990 : (Jvm.Cond.code ({ cls := "java/lang/Integer", name := "intValue", desc := "()I" } : Jvm.MethodName) prog_33_method_27_code (1 : Nat) (Option.some Jvm.ClassFile.FieldType.int)) ∈ lw_all := lw_g (lw_at lw_m9 9 rfl) rfl
theorem q1991 : (Jvm.Cond.methodLink "LeafcreditLaw" (165 : Nat) ({ cls := "LeafcreditLaw", name := "emissionOf", desc := "(LLeafcredit;II[J)I" } : Jvm.MethodName)) ∈ lw_all := lw_g (lw_at lw_m9 10 rfl) rfl
theorem q1992 : (Jvm.Cond.static ({ cls := "LeafcreditLaw", name := "emissionOf", desc := "(LLeafcredit;II[J)I" } : Jvm.MethodName)) ∈ lw_all := lw_g (lw_at lw_m9 11 rfl) rfl
theorem q1993 : (Jvm.Cond.codeWith ({ cls := "LeafcreditLaw", name := "emissionOf", desc := "(LLeafcredit;II[J)I" } : Jvm.MethodName) method_7_code (5 : Nat) (Option.some Jvm.ClassFile.FieldType.int) [((0 : Nat), (9 : Nat), (12 : Nat), (21 : Nat)), ((0 : Nat), (9 : Nat), (16 : Nat), (26 : Nat)), ((0 : Nat), (9 : Nat), (20 : Nat), (36 : Nat))]) ∈ lw_all := lw_g (lw_at lw_m9 12 rfl) rfl
theorem q1994 : (Jvm.Cond.classLink "LeafcreditLaw" (36 : Nat) "java/util/NoSuchElementException") ∈ lw_all := lw_g (lw_at lw_m9 13 rfl) rfl
theorem q1995 : (Jvm.Cond.methodLink "LeafcreditLaw" (32 : Nat) ({ cls := "Leafcredit", name := "emissionOf", desc := "(II)J" } : Jvm.MethodName)) ∈ lw_all := lw_g (lw_at lw_m9 14 rfl) rfl
theorem q1996 : (Jvm.Cond.instanceMethod ({ cls := "Leafcredit", name := "emissionOf", desc := "(II)J" } : Jvm.MethodName)) ∈ lw_all := lw_g (lw_at lw_m9 15 rfl) rfl
theorem q1997 : (Jvm.Cond.selects "Leafcredit" ({ cls := "Leafcredit", name := "emissionOf", desc := "(II)J" } : Jvm.MethodName) ({ cls := "Leafcredit", name := "emissionOf", desc := "(II)J" } : Jvm.MethodName)) ∈ lw_all := lw_g (lw_at lw_m9 16 rfl) rfl
theorem q1998 : (Jvm.Cond.code ({ cls := "Leafcredit", name := "emissionOf", desc := "(II)J" } : Jvm.MethodName) prog_1_method_20_code (4 : Nat) (Option.some Jvm.ClassFile.FieldType.long)) ∈ lw_all := lw_g (lw_at lw_m9 17 rfl) rfl
theorem q1999 : (Jvm.Cond.methodLink "Leafcredit" (244 : Nat) ({ cls := "java/util/TreeMap", name := "containsKey", desc := "(Ljava/lang/Object;)Z" } : Jvm.MethodName)) ∈ lw_all := lw_g (lw_at lw_m9 18 rfl) rfl
theorem q2000 : (Jvm.Cond.instanceMethod ({ cls := "java/util/TreeMap", name := "containsKey", desc := "(Ljava/lang/Object;)Z" } : Jvm.MethodName)) ∈ lw_all := lw_g (lw_at lw_m9 19 rfl) rfl
theorem q2001 : (Jvm.Cond.selects "java/util/TreeMap" ({ cls := "java/util/TreeMap", name := "containsKey", desc := "(Ljava/lang/Object;)Z" } : Jvm.MethodName) ({ cls := "java/util/TreeMap", name := "containsKey", desc := "(Ljava/lang/Object;)Z" } : Jvm.MethodName)) ∈ lw_all := lw_g (lw_at lw_m9 20 rfl) rfl
theorem q2002 : (Jvm.Cond.code ({ cls := "java/util/TreeMap", name := "containsKey", desc := "(Ljava/lang/Object;)Z" } : Jvm.MethodName) prog_83_method_6_code (2 : Nat) (Option.some Jvm.ClassFile.FieldType.boolean)) ∈ lw_all := lw_g (lw_at lw_m9 21 rfl) rfl
theorem q2003 : (Jvm.Cond.methodLink "java/util/TreeMap" (50 : Nat) ({ cls := "java/util/TreeMap", name := "getEntry", desc := "(Ljava/lang/Object;)Ljava/util/TreeMap$Entry;" } : Jvm.MethodName)) ∈ lw_all := lw_g (lw_at lw_m9 22 rfl) rfl
theorem q2004 : (Jvm.Cond.instanceMethod ({ cls := "java/util/TreeMap", name := "getEntry", desc := "(Ljava/lang/Object;)Ljava/util/TreeMap$Entry;" } : Jvm.MethodName)) ∈ lw_all := lw_g (lw_at lw_m9 23 rfl) rfl
theorem q2005 : (Jvm.Cond.selects "java/util/TreeMap" ({ cls := "java/util/TreeMap", name := "getEntry", desc := "(Ljava/lang/Object;)Ljava/util/TreeMap$Entry;" } : Jvm.MethodName) ({ cls := "java/util/TreeMap", name := "getEntry", desc := "(Ljava/lang/Object;)Ljava/util/TreeMap$Entry;" } : Jvm.MethodName)) ∈ lw_all := lw_g (lw_at lw_m9 24 rfl) rfl
theorem q2006 : (Jvm.Cond.code ({ cls := "java/util/TreeMap", name := "getEntry", desc := "(Ljava/lang/Object;)Ljava/util/TreeMap$Entry;" } : Jvm.MethodName) prog_83_method_15_code (5 : Nat) (Option.some (Jvm.ClassFile.FieldType.object "java/util/TreeMap$Entry"))) ∈ lw_all := lw_g (lw_at lw_m9 25 rfl) rfl
theorem q2011 : (Jvm.Cond.methodLink "Leafcredit" (247 : Nat) ({ cls := "Leafcredit", name := "checkElement", desc := "(Z)V" } : Jvm.MethodName)) ∈ lw_all := lw_g (lw_at lw_m9 30 rfl) rfl
theorem q2012 : (Jvm.Cond.static ({ cls := "Leafcredit", name := "checkElement", desc := "(Z)V" } : Jvm.MethodName)) ∈ lw_all := lw_g (lw_at lw_m9 31 rfl) rfl
theorem q2013 : (Jvm.Cond.code ({ cls := "Leafcredit", name := "checkElement", desc := "(Z)V" } : Jvm.MethodName) prog_1_method_6_code (1 : Nat) (Option.none : Option Jvm.ClassFile.FieldType)) ∈ lw_all := lw_g (lw_at lw_m9 32 rfl) rfl
theorem q2014 : (Jvm.Cond.classLink "Leafcredit" (79 : Nat) "java/util/NoSuchElementException") ∈ lw_all := lw_g (lw_at lw_m9 33 rfl) rfl
theorem q2015 : (Jvm.Cond.methodLink "Leafcredit" (81 : Nat) ({ cls := "java/util/NoSuchElementException", name := "<init>", desc := "()V" } : Jvm.MethodName)) ∈ lw_all := lw_g (lw_at lw_m9 34 rfl) rfl
theorem q2016 : (Jvm.Cond.methodLink "Leafcredit" (250 : Nat) ({ cls := "java/util/TreeMap", name := "get", desc := "(Ljava/lang/Object;)Ljava/lang/Object;" } : Jvm.MethodName)) ∈ lw_all := lw_g (lw_at lw_m9 35 rfl) rfl
theorem q2017 : (Jvm.Cond.instanceMethod ({ cls := "java/util/TreeMap", name := "get", desc := "(Ljava/lang/Object;)Ljava/lang/Object;" } : Jvm.MethodName)) ∈ lw_all := lw_g (lw_at lw_m9 36 rfl) rfl
theorem q2018 : (Jvm.Cond.selects "java/util/TreeMap" ({ cls := "java/util/TreeMap", name := "get", desc := "(Ljava/lang/Object;)Ljava/lang/Object;" } : Jvm.MethodName) ({ cls := "java/util/TreeMap", name := "get", desc := "(Ljava/lang/Object;)Ljava/lang/Object;" } : Jvm.MethodName)) ∈ lw_all := lw_g (lw_at lw_m9 37 rfl) rfl
theorem q2019 : (Jvm.Cond.code ({ cls := "java/util/TreeMap", name := "get", desc := "(Ljava/lang/Object;)Ljava/lang/Object;" } : Jvm.MethodName) prog_83_method_8_code (3 : Nat) (Option.some (Jvm.ClassFile.FieldType.object "java/lang/Object"))) ∈ lw_all := lw_g (lw_at lw_m9 38 rfl) rfl
theorem q2020 : (Jvm.Cond.classLink "Leafcredit" (253 : Nat) "java/lang/Long") ∈ lw_all := lw_g (lw_at lw_m9 39 rfl) rfl
theorem q2021 : (Jvm.Cond.methodLink "Leafcredit" (255 : Nat) ({ cls := "java/lang/Long", name := "longValue", desc := "()J" } : Jvm.MethodName)) ∈ lw_all := lw_g (lw_at lw_m9 40 rfl) rfl
theorem q2022 : (Jvm.Cond.instanceMethod ({ cls := "java/lang/Long", name := "longValue", desc := "()J" } : Jvm.MethodName)) ∈ lw_all := lw_g (lw_at lw_m9 41 rfl) rfl
theorem q2023 : (Jvm.Cond.selects "java/lang/Long" ({ cls := "java/lang/Long", name := "longValue", desc := "()J" } : Jvm.MethodName) ({ cls := "java/lang/Long", name := "longValue", desc := "()J" } : Jvm.MethodName)) ∈ lw_all := lw_g (lw_at lw_m9 42 rfl) rfl
theorem q2024 : (Jvm.Cond.code ({ cls := "java/lang/Long", name := "longValue", desc := "()J" } : Jvm.MethodName) prog_36_method_31_code (1 : Nat) (Option.some Jvm.ClassFile.FieldType.long)) ∈ lw_all := lw_g (lw_at lw_m9 43 rfl) rfl
theorem q2025 : (Jvm.Cond.methodLink "LeafcreditLaw" (168 : Nat) ({ cls := "LeafcreditLaw", name := "owed", desc := "(LLeafcredit;II[J)I" } : Jvm.MethodName)) ∈ lw_all := lw_g (lw_at lw_m9 44 rfl) rfl
theorem q2026 : (Jvm.Cond.static ({ cls := "LeafcreditLaw", name := "owed", desc := "(LLeafcredit;II[J)I" } : Jvm.MethodName)) ∈ lw_all := lw_g (lw_at lw_m9 45 rfl) rfl
theorem q2027 : (Jvm.Cond.codeWith ({ cls := "LeafcreditLaw", name := "owed", desc := "(LLeafcredit;II[J)I" } : Jvm.MethodName) method_8_code (5 : Nat) (Option.some Jvm.ClassFile.FieldType.int) [((0 : Nat), (9 : Nat), (12 : Nat), (21 : Nat)), ((0 : Nat), (9 : Nat), (16 : Nat), (36 : Nat))]) ∈ lw_all := lw_g (lw_at lw_m9 46 rfl) rfl
theorem q2028 : (Jvm.Cond.methodLink "LeafcreditLaw" (38 : Nat) ({ cls := "Leafcredit", name := "owed", desc := "(II)J" } : Jvm.MethodName)) ∈ lw_all := lw_g (lw_at lw_m9 47 rfl) rfl
theorem q2029 : (Jvm.Cond.instanceMethod ({ cls := "Leafcredit", name := "owed", desc := "(II)J" } : Jvm.MethodName)) ∈ lw_all := lw_g (lw_at lw_m9 48 rfl) rfl
theorem q2030 : (Jvm.Cond.selects "Leafcredit" ({ cls := "Leafcredit", name := "owed", desc := "(II)J" } : Jvm.MethodName) ({ cls := "Leafcredit", name := "owed", desc := "(II)J" } : Jvm.MethodName)) ∈ lw_all := lw_g (lw_at lw_m9 49 rfl) rfl
theorem q2031 : (Jvm.Cond.code ({ cls := "Leafcredit", name := "owed", desc := "(II)J" } : Jvm.MethodName) prog_1_method_22_code (4 : Nat) (Option.some Jvm.ClassFile.FieldType.long)) ∈ lw_all := lw_g (lw_at lw_m9 50 rfl) rfl
theorem q2032 : (Jvm.Cond.methodLink "Leafcredit" (259 : Nat) ({ cls := "Leafcredit", name := "hasEnded", desc := "(I)Z" } : Jvm.MethodName)) ∈ lw_all := lw_g (lw_at lw_m9 51 rfl) rfl
theorem q2034 : (Jvm.Cond.instanceMethod ({ cls := "Leafcredit", name := "hasEnded", desc := "(I)Z" } : Jvm.MethodName)) ∈ lw_all := lw_g (lw_at lw_m9 53 rfl) rfl
theorem q2035 : (Jvm.Cond.code ({ cls := "Leafcredit", name := "hasEnded", desc := "(I)Z" } : Jvm.MethodName) prog_1_method_21_code (2 : Nat) (Option.some Jvm.ClassFile.FieldType.boolean)) ∈ lw_all := lw_g (lw_at lw_m9 54 rfl) rfl
theorem q2036 : (Jvm.Cond.classLink "Leafcredit" (266 : Nat) "[J") ∈ lw_all := lw_g (lw_at lw_m9 55 rfl) rfl
theorem q2037 : (Jvm.Cond.methodLink "LeafcreditLaw" (171 : Nat) ({ cls := "LeafcreditLaw", name := "freeShare", desc := "(LLeafcredit;I[J)I" } : Jvm.MethodName)) ∈ lw_all := lw_g (lw_at lw_m9 56 rfl) rfl
theorem q2038 : (Jvm.Cond.static ({ cls := "LeafcreditLaw", name := "freeShare", desc := "(LLeafcredit;I[J)I" } : Jvm.MethodName)) ∈ lw_all := lw_g (lw_at lw_m9 57 rfl) rfl
theorem q2039 : (Jvm.Cond.codeWith ({ cls := "LeafcreditLaw", name := "freeShare", desc := "(LLeafcredit;I[J)I" } : Jvm.MethodName) method_9_code (4 : Nat) (Option.some Jvm.ClassFile.FieldType.int) [((0 : Nat), (9 : Nat), (12 : Nat), (21 : Nat))]) ∈ lw_all := lw_g (lw_at lw_m9 58 rfl) rfl
theorem q2040 : (Jvm.Cond.methodLink "LeafcreditLaw" (41 : Nat) ({ cls := "Leafcredit", name := "freeShare", desc := "(I)I" } : Jvm.MethodName)) ∈ lw_all := lw_g (lw_at lw_m9 59 rfl) rfl
theorem q2041 : (Jvm.Cond.instanceMethod ({ cls := "Leafcredit", name := "freeShare", desc := "(I)I" } : Jvm.MethodName)) ∈ lw_all := lw_g (lw_at lw_m9 60 rfl) rfl
theorem q2042 : (Jvm.Cond.selects "Leafcredit" ({ cls := "Leafcredit", name := "freeShare", desc := "(I)I" } : Jvm.MethodName) ({ cls := "Leafcredit", name := "freeShare", desc := "(I)I" } : Jvm.MethodName)) ∈ lw_all := lw_g (lw_at lw_m9 61 rfl) rfl
theorem q2043 : (Jvm.Cond.code ({ cls := "Leafcredit", name := "freeShare", desc := "(I)I" } : Jvm.MethodName) prog_1_method_23_code (2 : Nat) (Option.some Jvm.ClassFile.FieldType.int)) ∈ lw_all := lw_g (lw_at lw_m9 62 rfl) rfl
theorem q2044 : (Jvm.Cond.methodLink "LeafcreditLaw" (174 : Nat) ({ cls := "LeafcreditLaw", name := "cash", desc := "(LLeafcredit;I[J)I" } : Jvm.MethodName)) ∈ lw_all := lw_g (lw_at lw_m9 63 rfl) rfl
theorem q2045 : (Jvm.Cond.static ({ cls := "LeafcreditLaw", name := "cash", desc := "(LLeafcredit;I[J)I" } : Jvm.MethodName)) ∈ lw_all := lw_g (lw_at lw_m9 64 rfl) rfl
theorem q2046 : (Jvm.Cond.codeWith ({ cls := "LeafcreditLaw", name := "cash", desc := "(LLeafcredit;I[J)I" } : Jvm.MethodName) method_10_code (4 : Nat) (Option.some Jvm.ClassFile.FieldType.int) [((0 : Nat), (8 : Nat), (11 : Nat), (21 : Nat))]) ∈ lw_all := lw_g (lw_at lw_m9 65 rfl) rfl
theorem q2047 : (Jvm.Cond.methodLink "LeafcreditLaw" (44 : Nat) ({ cls := "Leafcredit", name := "cash", desc := "(I)J" } : Jvm.MethodName)) ∈ lw_all := lw_g (lw_at lw_m9 66 rfl) rfl
theorem q2048 : (Jvm.Cond.instanceMethod ({ cls := "Leafcredit", name := "cash", desc := "(I)J" } : Jvm.MethodName)) ∈ lw_all := lw_g (lw_at lw_m9 67 rfl) rfl
theorem q2049 : (Jvm.Cond.selects "Leafcredit" ({ cls := "Leafcredit", name := "cash", desc := "(I)J" } : Jvm.MethodName) ({ cls := "Leafcredit", name := "cash", desc := "(I)J" } : Jvm.MethodName)) ∈ lw_all := lw_g (lw_at lw_m9 68 rfl) rfl
theorem q2050 : (Jvm.Cond.code ({ cls := "Leafcredit", name := "cash", desc := "(I)J" } : Jvm.MethodName) prog_1_method_24_code (2 : Nat) (Option.some Jvm.ClassFile.FieldType.long)) ∈ lw_all := lw_g (lw_at lw_m9 69 rfl) rfl
theorem q2051 : (Jvm.Cond.methodLink "LeafcreditLaw" (177 : Nat) ({ cls := "LeafcreditLaw", name := "setCap", desc := "(LLeafcredit;II[J)I" } : Jvm.MethodName)) ∈ lw_all := lw_g (lw_at lw_m9 70 rfl) rfl
theorem q2052 : (Jvm.Cond.static ({ cls := "LeafcreditLaw", name := "setCap", desc := "(LLeafcredit;II[J)I" } : Jvm.MethodName)) ∈ lw_all := lw_g (lw_at lw_m9 71 rfl) rfl
theorem q2053 : (Jvm.Cond.codeWith ({ cls := "LeafcreditLaw", name := "setCap", desc := "(LLeafcredit;II[J)I" } : Jvm.MethodName) method_11_code (5 : Nat) (Option.some Jvm.ClassFile.FieldType.int) [((0 : Nat), (10 : Nat), (13 : Nat), (13 : Nat))]) ∈ lw_all := lw_g (lw_at lw_m9 72 rfl) rfl
theorem q2054 : (Jvm.Cond.methodLink "LeafcreditLaw" (48 : Nat) ({ cls := "Leafcredit", name := "setCap", desc := "(II)I" } : Jvm.MethodName)) ∈ lw_all := lw_g (lw_at lw_m9 73 rfl) rfl
theorem q2055 : (Jvm.Cond.instanceMethod ({ cls := "Leafcredit", name := "setCap", desc := "(II)I" } : Jvm.MethodName)) ∈ lw_all := lw_g (lw_at lw_m9 74 rfl) rfl
theorem q2056 : (Jvm.Cond.selects "Leafcredit" ({ cls := "Leafcredit", name := "setCap", desc := "(II)I" } : Jvm.MethodName) ({ cls := "Leafcredit", name := "setCap", desc := "(II)I" } : Jvm.MethodName)) ∈ lw_all := lw_g (lw_at lw_m9 75 rfl) rfl
theorem q2057 : (Jvm.Cond.code ({ cls := "Leafcredit", name := "setCap", desc := "(II)I" } : Jvm.MethodName) prog_1_method_26_code (4 : Nat) (Option.some Jvm.ClassFile.FieldType.int)) ∈ lw_all := lw_g (lw_at lw_m9 76 rfl) rfl
theorem q2058 : (Jvm.Cond.methodLink "Leafcredit" (277 : Nat) ({ cls := "Leafcredit", name := "begin", desc := "()V" } : Jvm.MethodName)) ∈ lw_all := lw_g (lw_at lw_m9 77 rfl) rfl
theorem q2060 : (Jvm.Cond.instanceMethod ({ cls := "Leafcredit", name := "begin", desc := "()V" } : Jvm.MethodName)) ∈ lw_all := lw_g (lw_at lw_m9 79 rfl) rfl
theorem q2061 : (Jvm.Cond.code ({ cls := "Leafcredit", name := "begin", desc := "()V" } : Jvm.MethodName) prog_1_method_28_code (11 : Nat) (Option.none : Option Jvm.ClassFile.FieldType)) ∈ lw_all := lw_g (lw_at lw_m9 80 rfl) rfl
theorem q2062 : (Jvm.Cond.methodLink "Leafcredit" (295 : Nat) ({ cls := "Leafcredit$Plant", name := "average", desc := "(I)I" } : Jvm.MethodName)) ∈ lw_all := lw_g (lw_at lw_m9 81 rfl) rfl
theorem q2063 : (Jvm.Cond.instanceMethod ({ cls := "Leafcredit$Plant", name := "average", desc := "(I)I" } : Jvm.MethodName)) ∈ lw_all := lw_g (lw_at lw_m9 82 rfl) rfl
theorem q2064 : (Jvm.Cond.selects "Leafcredit$Plant" ({ cls := "Leafcredit$Plant", name := "average", desc := "(I)I" } : Jvm.MethodName) ({ cls := "Leafcredit$Plant", name := "average", desc := "(I)I" } : Jvm.MethodName)) ∈ lw_all := lw_g (lw_at lw_m9 83 rfl) rfl
theorem q2065 : (Jvm.Cond.code ({ cls := "Leafcredit$Plant", name := "average", desc := "(I)I" } : Jvm.MethodName) prog_10_method_4_code (4 : Nat) (Option.some Jvm.ClassFile.FieldType.int)) ∈ lw_all := lw_g (lw_at lw_m9 84 rfl) rfl
theorem q2066 : (Jvm.Cond.methodLink "Leafcredit$Plant" (71 : Nat) ({ cls := "java/lang/Integer", name := "valueOf", desc := "(I)Ljava/lang/Integer;" } : Jvm.MethodName)) ∈ lw_all := lw_g (lw_at lw_m9 85 rfl) rfl
theorem q2073 : (Jvm.Cond.methodLink "java/util/Map" (1 : Nat) ({ cls := "java/util/Map", name := "get", desc := "(Ljava/lang/Object;)Ljava/lang/Object;" } : Jvm.MethodName)) ∈ lw_all := lw_g (lw_at lw_m9 92 rfl) rfl
theorem q2074 : (Jvm.Cond.interfaceMethod "java/util/Map" "java/util/Map" "get" "(Ljava/lang/Object;)Ljava/lang/Object;") ∈ lw_tbl := lw_at lw_m9 93 rfl
theorem q2075 : (Jvm.Cond.declares ({ cls := "java/util/Map", name := "get", desc := "(Ljava/lang/Object;)Ljava/lang/Object;" } : Jvm.MethodName)) ∈ lw_tbl := lw_at lw_m9 94 rfl
theorem q2076 : (Jvm.Cond.castable "java/util/TreeMap" "java/util/Map") ∈ lw_tbl := lw_at lw_m9 95 rfl
theorem q2077 : (Jvm.Cond.selects "java/util/TreeMap" ({ cls := "java/util/Map", name := "get", desc := "(Ljava/lang/Object;)Ljava/lang/Object;" } : Jvm.MethodName) ({ cls := "java/util/TreeMap", name := "get", desc := "(Ljava/lang/Object;)Ljava/lang/Object;" } : Jvm.MethodName)) ∈ lw_all := lw_g (lw_at lw_m9 96 rfl) rfl
theorem q2078 : (Jvm.Cond.unhidden "java/util/TreeMap" "get" "(Ljava/lang/Object;)Ljava/lang/Object;") ∈ lw_tbl := lw_at lw_m9 97 rfl
theorem q2079 : (Jvm.Cond.publicMethod ({ cls := "java/util/TreeMap", name := "get", desc := "(Ljava/lang/Object;)Ljava/lang/Object;" } : Jvm.MethodName)) ∈ lw_tbl := lw_at lw_m9 98 rfl
theorem q2080 : (Jvm.Cond.castable "java/util/TreeMap$AscendingSubMap" "java/util/Map") ∈ lw_tbl := lw_at lw_m9 99 rfl
theorem q2081 : (Jvm.Cond.selects "java/util/TreeMap$AscendingSubMap" ({ cls := "java/util/Map", name := "get", desc := "(Ljava/lang/Object;)Ljava/lang/Object;" } : Jvm.MethodName) ({ cls := "java/util/TreeMap$NavigableSubMap", name := "get", desc := "(Ljava/lang/Object;)Ljava/lang/Object;" } : Jvm.MethodName)) ∈ lw_all := lw_g (lw_at lw_m9 100 rfl) rfl
theorem q2082 : (Jvm.Cond.unhidden "java/util/TreeMap$AscendingSubMap" "get" "(Ljava/lang/Object;)Ljava/lang/Object;") ∈ lw_tbl := lw_at lw_m9 101 rfl
theorem q2083 : (Jvm.Cond.instanceMethod ({ cls := "java/util/TreeMap$NavigableSubMap", name := "get", desc := "(Ljava/lang/Object;)Ljava/lang/Object;" } : Jvm.MethodName)) ∈ lw_all := lw_g (lw_at lw_m9 102 rfl) rfl
theorem q2084 : (Jvm.Cond.publicMethod ({ cls := "java/util/TreeMap$NavigableSubMap", name := "get", desc := "(Ljava/lang/Object;)Ljava/lang/Object;" } : Jvm.MethodName)) ∈ lw_tbl := lw_at lw_m9 103 rfl
theorem q2085 : (Jvm.Cond.code ({ cls := "java/util/TreeMap$NavigableSubMap", name := "get", desc := "(Ljava/lang/Object;)Ljava/lang/Object;" } : Jvm.MethodName) prog_89_method_33_code (2 : Nat) (Option.some (Jvm.ClassFile.FieldType.object "java/lang/Object"))) ∈ lw_all := lw_g (lw_at lw_m9 104 rfl) rfl
theorem q2086 : (Jvm.Cond.methodLink "java/util/TreeMap$NavigableSubMap" (53 : Nat) ({ cls := "java/util/TreeMap$NavigableSubMap", name := "inRange", desc := "(Ljava/lang/Object;)Z" } : Jvm.MethodName)) ∈ lw_all := lw_g (lw_at lw_m9 105 rfl) rfl
theorem q2087 : (Jvm.Cond.instanceMethod ({ cls := "java/util/TreeMap$NavigableSubMap", name := "inRange", desc := "(Ljava/lang/Object;)Z" } : Jvm.MethodName)) ∈ lw_all := lw_g (lw_at lw_m9 106 rfl) rfl
theorem q2088 : (Jvm.Cond.sameMethod "java/util/TreeMap$NavigableSubMap" "java/util/TreeMap$NavigableSubMap" "inRange" "(Ljava/lang/Object;)Z") ∈ lw_all := lw_g (lw_at lw_m9 107 rfl) rfl
theorem q2089 : (Jvm.Cond.selects "java/util/TreeMap$AscendingSubMap" ({ cls := "java/util/TreeMap$NavigableSubMap", name := "inRange", desc := "(Ljava/lang/Object;)Z" } : Jvm.MethodName) ({ cls := "java/util/TreeMap$NavigableSubMap", name := "inRange", desc := "(Ljava/lang/Object;)Z" } : Jvm.MethodName)) ∈ lw_all := lw_g (lw_at lw_m9 108 rfl) rfl
theorem q2090 : (Jvm.Cond.code ({ cls := "java/util/TreeMap$NavigableSubMap", name := "inRange", desc := "(Ljava/lang/Object;)Z" } : Jvm.MethodName) prog_89_method_4_code (2 : Nat) (Option.some Jvm.ClassFile.FieldType.boolean)) ∈ lw_all := lw_g (lw_at lw_m9 109 rfl) rfl
theorem q2091 : (Jvm.Cond.methodLink "java/util/TreeMap$NavigableSubMap" (46 : Nat) ({ cls := "java/util/TreeMap$NavigableSubMap", name := "tooLow", desc := "(Ljava/lang/Object;)Z" } : Jvm.MethodName)) ∈ lw_all := lw_g (lw_at lw_m9 110 rfl) rfl
theorem q2092 : (Jvm.Cond.instanceMethod ({ cls := "java/util/TreeMap$NavigableSubMap", name := "tooLow", desc := "(Ljava/lang/Object;)Z" } : Jvm.MethodName)) ∈ lw_all := lw_g (lw_at lw_m9 111 rfl) rfl
theorem q2093 : (Jvm.Cond.sameMethod "java/util/TreeMap$NavigableSubMap" "java/util/TreeMap$NavigableSubMap" "tooLow" "(Ljava/lang/Object;)Z") ∈ lw_all := lw_g (lw_at lw_m9 112 rfl) rfl
theorem q2094 : (Jvm.Cond.selects "java/util/TreeMap$AscendingSubMap" ({ cls := "java/util/TreeMap$NavigableSubMap", name := "tooLow", desc := "(Ljava/lang/Object;)Z" } : Jvm.MethodName) ({ cls := "java/util/TreeMap$NavigableSubMap", name := "tooLow", desc := "(Ljava/lang/Object;)Z" } : Jvm.MethodName)) ∈ lw_all := lw_g (lw_at lw_m9 113 rfl) rfl
theorem q2095 : (Jvm.Cond.code ({ cls := "java/util/TreeMap$NavigableSubMap", name := "tooLow", desc := "(Ljava/lang/Object;)Z" } : Jvm.MethodName) prog_89_method_2_code (3 : Nat) (Option.some Jvm.ClassFile.FieldType.boolean)) ∈ lw_all := lw_g (lw_at lw_m9 114 rfl) rfl
theorem q2096 : (Jvm.Cond.methodLink "java/util/TreeMap$NavigableSubMap" (143 : Nat) ({ cls := "java/util/TreeMap", name := "get", desc := "(Ljava/lang/Object;)Ljava/lang/Object;" } : Jvm.MethodName)) ∈ lw_all := lw_g (lw_at lw_m9 115 rfl) rfl
theorem q2098 : (Jvm.Cond.methodLink "java/util/Map" (7 : Nat) ({ cls := "java/util/Map", name := "containsKey", desc := "(Ljava/lang/Object;)Z" } : Jvm.MethodName)) ∈ lw_all := lw_g (lw_at lw_m9 117 rfl) rfl
theorem q2099 : (Jvm.Cond.interfaceMethod "java/util/Map" "java/util/Map" "containsKey" "(Ljava/lang/Object;)Z") ∈ lw_tbl := lw_at lw_m9 118 rfl
theorem q2100 : (Jvm.Cond.declares ({ cls := "java/util/Map", name := "containsKey", desc := "(Ljava/lang/Object;)Z" } : Jvm.MethodName)) ∈ lw_tbl := lw_at lw_m9 119 rfl
theorem q2101 : (Jvm.Cond.selects "java/util/TreeMap" ({ cls := "java/util/Map", name := "containsKey", desc := "(Ljava/lang/Object;)Z" } : Jvm.MethodName) ({ cls := "java/util/TreeMap", name := "containsKey", desc := "(Ljava/lang/Object;)Z" } : Jvm.MethodName)) ∈ lw_all := lw_g (lw_at lw_m9 120 rfl) rfl
theorem q2102 : (Jvm.Cond.unhidden "java/util/TreeMap" "containsKey" "(Ljava/lang/Object;)Z") ∈ lw_tbl := lw_at lw_m9 121 rfl
theorem q2103 : (Jvm.Cond.publicMethod ({ cls := "java/util/TreeMap", name := "containsKey", desc := "(Ljava/lang/Object;)Z" } : Jvm.MethodName)) ∈ lw_tbl := lw_at lw_m9 122 rfl
theorem q2104 : (Jvm.Cond.selects "java/util/TreeMap$AscendingSubMap" ({ cls := "java/util/Map", name := "containsKey", desc := "(Ljava/lang/Object;)Z" } : Jvm.MethodName) ({ cls := "java/util/TreeMap$NavigableSubMap", name := "containsKey", desc := "(Ljava/lang/Object;)Z" } : Jvm.MethodName)) ∈ lw_all := lw_g (lw_at lw_m9 123 rfl) rfl
theorem q2105 : (Jvm.Cond.unhidden "java/util/TreeMap$AscendingSubMap" "containsKey" "(Ljava/lang/Object;)Z") ∈ lw_tbl := lw_at lw_m9 124 rfl
theorem q2106 : (Jvm.Cond.instanceMethod ({ cls := "java/util/TreeMap$NavigableSubMap", name := "containsKey", desc := "(Ljava/lang/Object;)Z" } : Jvm.MethodName)) ∈ lw_all := lw_g (lw_at lw_m9 125 rfl) rfl
theorem q2107 : (Jvm.Cond.publicMethod ({ cls := "java/util/TreeMap$NavigableSubMap", name := "containsKey", desc := "(Ljava/lang/Object;)Z" } : Jvm.MethodName)) ∈ lw_tbl := lw_at lw_m9 126 rfl
theorem q2108 : (Jvm.Cond.code ({ cls := "java/util/TreeMap$NavigableSubMap", name := "containsKey", desc := "(Ljava/lang/Object;)Z" } : Jvm.MethodName) prog_89_method_26_code (2 : Nat) (Option.some Jvm.ClassFile.FieldType.boolean)) ∈ lw_all := lw_g (lw_at lw_m9 127 rfl) rfl
theorem q2109 : (Jvm.Cond.methodLink "java/util/TreeMap$NavigableSubMap" (106 : Nat) ({ cls := "java/util/TreeMap", name := "containsKey", desc := "(Ljava/lang/Object;)Z" } : Jvm.MethodName)) ∈ lw_all := lw_g (lw_at lw_m9 128 rfl) rfl
theorem q2110 : (Jvm.Cond.classLink "Leafcredit$Plant" (72 : Nat) "java/lang/Integer") ∈ lw_all := lw_g (lw_at lw_m9 129 rfl) rfl
theorem q2111 : (Jvm.Cond.methodLink "Leafcredit$Plant" (81 : Nat) ({ cls := "java/lang/Integer", name := "intValue", desc := "()I" } : Jvm.MethodName)) ∈ lw_all := lw_g (lw_at lw_m9 130 rfl) rfl
theorem q2112 : (Jvm.Cond.methodLink "Leafcredit$Plant" (85 : Nat) ({ cls := "java/lang/Math", name := "abs", desc := "(I)I" } : Jvm.MethodName)) ∈ lw_all := lw_g (lw_at lw_m9 131 rfl) rfl
theorem q2113 : (Jvm.Cond.static ({ cls := "java/lang/Math", name := "abs", desc := "(I)I" } : Jvm.MethodName)) ∈ lw_all := lw_g (lw_at lw_m9 132 rfl) rfl
theorem q2114 : (Jvm.Cond.code ({ cls := "java/lang/Math", name := "abs", desc := "(I)I" } : Jvm.MethodName) prog_38_method_59_code (1 : Nat) (Option.some Jvm.ClassFile.FieldType.int)) ∈ lw_all := lw_g (lw_at lw_m9 133 rfl) rfl
theorem q2115 : (Jvm.Cond.constantLong "Leafcredit$Plant" (91 : Nat) (100 : Int64)) ∈ lw_all := lw_g (lw_at lw_m9 134 rfl) rfl
theorem q2116 : (Jvm.Cond.constantLong "Leafcredit$Plant" (93 : Nat) (15 : Int64)) ∈ lw_all := lw_g (lw_at lw_m9 135 rfl) rfl
theorem q2117 : (Jvm.Cond.constantLong "Leafcredit" (299 : Nat) (1000 : Int64)) ∈ lw_all := lw_g (lw_at lw_m9 136 rfl) rfl
theorem q2118 : (Jvm.Cond.methodLink "Leafcredit" (280 : Nat) ({ cls := "Leafcredit", name := "cap", desc := "()I" } : Jvm.MethodName)) ∈ lw_all := lw_g (lw_at lw_m9 137 rfl) rfl
theorem q2120 : (Jvm.Cond.instanceMethod ({ cls := "Leafcredit", name := "cap", desc := "()I" } : Jvm.MethodName)) ∈ lw_all := lw_g (lw_at lw_m9 139 rfl) rfl
theorem q2121 : (Jvm.Cond.code ({ cls := "Leafcredit", name := "cap", desc := "()I" } : Jvm.MethodName) prog_1_method_25_code (1 : Nat) (Option.some Jvm.ClassFile.FieldType.int)) ∈ lw_all := lw_g (lw_at lw_m9 140 rfl) rfl
theorem q2122 : (Jvm.Cond.constantLong "Leafcredit" (301 : Nat) (40 : Int64)) ∈ lw_all := lw_g (lw_at lw_m9 141 rfl) rfl
theorem q2123 : (Jvm.Cond.constantLong "Leafcredit" (303 : Nat) (100 : Int64)) ∈ lw_all := lw_g (lw_at lw_m9 142 rfl) rfl
theorem q2124 : (Jvm.Cond.methodLink "Leafcredit" (305 : Nat) ({ cls := "Leafcredit", name := "make", desc := "(ICII)V" } : Jvm.MethodName)) ∈ lw_all := lw_g (lw_at lw_m9 143 rfl) rfl
theorem q2126 : (Jvm.Cond.instanceMethod ({ cls := "Leafcredit", name := "make", desc := "(ICII)V" } : Jvm.MethodName)) ∈ lw_all := lw_g (lw_at lw_m9 145 rfl) rfl
theorem q2127 : (Jvm.Cond.code ({ cls := "Leafcredit", name := "make", desc := "(ICII)V" } : Jvm.MethodName) prog_1_method_12_code (5 : Nat) (Option.none : Option Jvm.ClassFile.FieldType)) ∈ lw_all := lw_g (lw_at lw_m9 146 rfl) rfl
theorem q2128 : (Jvm.Cond.instantiable "Leafcredit$Piece" (9 : Nat)) ∈ lw_all := lw_g (lw_at lw_m9 147 rfl) rfl
theorem q2129 : (Jvm.Cond.methodLink "Leafcredit" (121 : Nat) ({ cls := "Leafcredit$Piece", name := "<init>", desc := "(IICIII)V" } : Jvm.MethodName)) ∈ lw_all := lw_g (lw_at lw_m9 148 rfl) rfl
theorem q2130 : (Jvm.Cond.instanceMethod ({ cls := "Leafcredit$Piece", name := "<init>", desc := "(IICIII)V" } : Jvm.MethodName)) ∈ lw_all := lw_g (lw_at lw_m9 149 rfl) rfl
theorem q2131 : (Jvm.Cond.code ({ cls := "Leafcredit$Piece", name := "<init>", desc := "(IICIII)V" } : Jvm.MethodName) prog_9_method_1_code (7 : Nat) (Option.none : Option Jvm.ClassFile.FieldType)) ∈ lw_all := lw_g (lw_at lw_m9 150 rfl) rfl
theorem q2132 : (Jvm.Cond.methodLink "Leafcredit$Piece" (1 : Nat) ({ cls := "java/lang/Object", name := "<init>", desc := "()V" } : Jvm.MethodName)) ∈ lw_all := lw_g (lw_at lw_m9 151 rfl) rfl
theorem q2133 : (Jvm.Cond.fieldLink "Leafcredit$Piece" (7 : Nat) "Leafcredit$Piece" "first" "I") ∈ lw_all := lw_g (lw_at lw_m9 152 rfl) rfl
theorem q2134 : (Jvm.Cond.fieldLinkNest "Leafcredit$ByUse" (18 : Nat) "Leafcredit$Piece" "first" "I" "Leafcredit") ∈ lw_tbl := lw_at lw_m9 153 rfl
theorem q2135 : (Jvm.Cond.fieldLinkNest "Leafcredit" (170 : Nat) "Leafcredit$Piece" "first" "I" "Leafcredit") ∈ lw_tbl := lw_at lw_m9 154 rfl
theorem q2136 : (Jvm.Cond.fieldLink "Leafcredit$Piece" (13 : Nat) "Leafcredit$Piece" "last" "I") ∈ lw_all := lw_g (lw_at lw_m9 155 rfl) rfl
theorem q2137 : (Jvm.Cond.fieldLinkNest "Leafcredit" (177 : Nat) "Leafcredit$Piece" "last" "I" "Leafcredit") ∈ lw_tbl := lw_at lw_m9 156 rfl
theorem q2138 : (Jvm.Cond.fieldLink "Leafcredit$Piece" (16 : Nat) "Leafcredit$Piece" "kind" "C") ∈ lw_all := lw_g (lw_at lw_m9 157 rfl) rfl
theorem q2139 : (Jvm.Cond.fieldLinkNest "Leafcredit" (354 : Nat) "Leafcredit$Piece" "kind" "C" "Leafcredit") ∈ lw_tbl := lw_at lw_m9 158 rfl
theorem q2140 : (Jvm.Cond.fieldLink "Leafcredit$Piece" (20 : Nat) "Leafcredit$Piece" "vintage" "I") ∈ lw_all := lw_g (lw_at lw_m9 159 rfl) rfl
theorem q2141 : (Jvm.Cond.fieldLinkNest "Leafcredit$ByUse" (27 : Nat) "Leafcredit$Piece" "vintage" "I" "Leafcredit") ∈ lw_tbl := lw_at lw_m9 160 rfl
theorem q2142 : (Jvm.Cond.fieldLinkNest "Leafcredit" (443 : Nat) "Leafcredit$Piece" "vintage" "I" "Leafcredit") ∈ lw_tbl := lw_at lw_m9 161 rfl
theorem q2143 : (Jvm.Cond.fieldLink "Leafcredit$Piece" (23 : Nat) "Leafcredit$Piece" "project" "I") ∈ lw_all := lw_g (lw_at lw_m9 162 rfl) rfl
theorem q2144 : (Jvm.Cond.fieldLinkNest "Leafcredit$ByUse" (15 : Nat) "Leafcredit$Piece" "project" "I" "Leafcredit") ∈ lw_tbl := lw_at lw_m9 163 rfl
theorem q2145 : (Jvm.Cond.fieldLink "Leafcredit$Piece" (26 : Nat) "Leafcredit$Piece" "holder" "I") ∈ lw_all := lw_g (lw_at lw_m9 164 rfl) rfl
theorem q2146 : (Jvm.Cond.fieldLinkNest "Leafcredit" (180 : Nat) "Leafcredit$Piece" "holder" "I" "Leafcredit") ∈ lw_tbl := lw_at lw_m9 165 rfl
theorem q2147 : (Jvm.Cond.fieldLink "Leafcredit$Piece" (29 : Nat) "Leafcredit$Piece" "lock" "I") ∈ lw_all := lw_g (lw_at lw_m9 166 rfl) rfl
theorem q2148 : (Jvm.Cond.fieldLinkNest "Leafcredit" (398 : Nat) "Leafcredit$Piece" "lock" "I" "Leafcredit") ∈ lw_tbl := lw_at lw_m9 167 rfl
theorem q2149 : (Jvm.Cond.fieldLink "Leafcredit$Piece" (32 : Nat) "Leafcredit$Piece" "isFrozen" "Z") ∈ lw_all := lw_g (lw_at lw_m9 168 rfl) rfl
theorem q2150 : (Jvm.Cond.fieldLinkNest "Leafcredit" (427 : Nat) "Leafcredit$Piece" "isFrozen" "Z" "Leafcredit") ∈ lw_tbl := lw_at lw_m9 169 rfl
theorem q2151 : (Jvm.Cond.fieldLink "Leafcredit$Piece" (42 : Nat) "Leafcredit$Piece" "moves" "I") ∈ lw_all := lw_g (lw_at lw_m9 170 rfl) rfl
theorem q2152 : (Jvm.Cond.fieldLinkNest "Leafcredit" (395 : Nat) "Leafcredit$Piece" "moves" "I" "Leafcredit") ∈ lw_tbl := lw_at lw_m9 171 rfl
theorem q2172 : (Jvm.Cond.arrayClass Jvm.ClassFile.FieldType.long) ∈ lw_all := lw_g (lw_at lw_m9 191 rfl) rfl
theorem q2173 : (Jvm.Cond.instantiable "Leafcredit$Entry" (3 : Nat)) ∈ lw_all := lw_g (lw_at lw_m9 192 rfl) rfl
theorem q2174 : (Jvm.Cond.methodLink "Leafcredit" (130 : Nat) ({ cls := "Leafcredit$Entry", name := "<init>", desc := "(III)V" } : Jvm.MethodName)) ∈ lw_all := lw_g (lw_at lw_m9 193 rfl) rfl
theorem q2175 : (Jvm.Cond.instanceMethod ({ cls := "Leafcredit$Entry", name := "<init>", desc := "(III)V" } : Jvm.MethodName)) ∈ lw_all := lw_g (lw_at lw_m9 194 rfl) rfl
theorem q2176 : (Jvm.Cond.code ({ cls := "Leafcredit$Entry", name := "<init>", desc := "(III)V" } : Jvm.MethodName) prog_7_method_1_code (4 : Nat) (Option.none : Option Jvm.ClassFile.FieldType)) ∈ lw_all := lw_g (lw_at lw_m9 195 rfl) rfl
theorem q2177 : (Jvm.Cond.methodLink "Leafcredit$Entry" (1 : Nat) ({ cls := "java/lang/Object", name := "<init>", desc := "()V" } : Jvm.MethodName)) ∈ lw_all := lw_g (lw_at lw_m9 196 rfl) rfl
theorem q2178 : (Jvm.Cond.fieldLink "Leafcredit$Entry" (7 : Nat) "Leafcredit$Entry" "first" "I") ∈ lw_all := lw_g (lw_at lw_m9 197 rfl) rfl
theorem q2179 : (Jvm.Cond.fieldLinkNest "Leafcredit" (507 : Nat) "Leafcredit$Entry" "first" "I" "Leafcredit") ∈ lw_tbl := lw_at lw_m9 198 rfl
theorem q2180 : (Jvm.Cond.fieldLink "Leafcredit$Entry" (13 : Nat) "Leafcredit$Entry" "last" "I") ∈ lw_all := lw_g (lw_at lw_m9 199 rfl) rfl
theorem q2181 : (Jvm.Cond.fieldLinkNest "Leafcredit" (512 : Nat) "Leafcredit$Entry" "last" "I" "Leafcredit") ∈ lw_tbl := lw_at lw_m9 200 rfl
theorem q2182 : (Jvm.Cond.fieldLink "Leafcredit$Entry" (16 : Nat) "Leafcredit$Entry" "holder" "I") ∈ lw_all := lw_g (lw_at lw_m9 201 rfl) rfl
theorem q2183 : (Jvm.Cond.fieldLinkNest "Leafcredit" (516 : Nat) "Leafcredit$Entry" "holder" "I" "Leafcredit") ∈ lw_tbl := lw_at lw_m9 202 rfl
theorem q2191 : (Jvm.Cond.methodLink "Leafcredit" (312 : Nat) ({ cls := "java/lang/Math", name := "max", desc := "(II)I" } : Jvm.MethodName)) ∈ lw_all := lw_g (lw_at lw_m9 210 rfl) rfl
theorem q2192 : (Jvm.Cond.methodLink "Leafcredit" (315 : Nat) ({ cls := "Leafcredit", name := "circulation", desc := "()I" } : Jvm.MethodName)) ∈ lw_all := lw_g (lw_at lw_m9 211 rfl) rfl
theorem q2193 : (Jvm.Cond.constantLong "Leafcredit" (318 : Nat) (24 : Int64)) ∈ lw_all := lw_g (lw_at lw_m9 212 rfl) rfl
theorem q2194 : (Jvm.Cond.methodLink "Leafcredit" (320 : Nat) ({ cls := "java/lang/Math", name := "min", desc := "(JJ)J" } : Jvm.MethodName)) ∈ lw_all := lw_g (lw_at lw_m9 213 rfl) rfl
theorem q2195 : (Jvm.Cond.static ({ cls := "java/lang/Math", name := "min", desc := "(JJ)J" } : Jvm.MethodName)) ∈ lw_all := lw_g (lw_at lw_m9 214 rfl) rfl
theorem q2196 : (Jvm.Cond.code ({ cls := "java/lang/Math", name := "min", desc := "(JJ)J" } : Jvm.MethodName) prog_38_method_70_code (4 : Nat) (Option.some Jvm.ClassFile.FieldType.long)) ∈ lw_all := lw_g (lw_at lw_m9 215 rfl) rfl
theorem q2197 : (Jvm.Cond.methodLink "Leafcredit" (323 : Nat) ({ cls := "java/lang/Math", name := "min", desc := "(II)I" } : Jvm.MethodName)) ∈ lw_all := lw_g (lw_at lw_m9 216 rfl) rfl
theorem q2198 : (Jvm.Cond.methodLink "LeafcreditLaw" (180 : Nat) ({ cls := "LeafcreditLaw", name := "setBounds", desc := "(LLeafcredit;III[J)I" } : Jvm.MethodName)) ∈ lw_all := lw_g (lw_at lw_m9 217 rfl) rfl
theorem q2199 : (Jvm.Cond.static ({ cls := "LeafcreditLaw", name := "setBounds", desc := "(LLeafcredit;III[J)I" } : Jvm.MethodName)) ∈ lw_all := lw_g (lw_at lw_m9 218 rfl) rfl
theorem q2200 : (Jvm.Cond.codeWith ({ cls := "LeafcreditLaw", name := "setBounds", desc := "(LLeafcredit;III[J)I" } : Jvm.MethodName) method_12_code (6 : Nat) (Option.some Jvm.ClassFile.FieldType.int) [((0 : Nat), (12 : Nat), (15 : Nat), (13 : Nat))]) ∈ lw_all := lw_g (lw_at lw_m9 219 rfl) rfl
theorem q2201 : (Jvm.Cond.methodLink "LeafcreditLaw" (51 : Nat) ({ cls := "Leafcredit", name := "setBounds", desc := "(III)I" } : Jvm.MethodName)) ∈ lw_all := lw_g (lw_at lw_m9 220 rfl) rfl
theorem q2202 : (Jvm.Cond.instanceMethod ({ cls := "Leafcredit", name := "setBounds", desc := "(III)I" } : Jvm.MethodName)) ∈ lw_all := lw_g (lw_at lw_m9 221 rfl) rfl
theorem q2203 : (Jvm.Cond.selects "Leafcredit" ({ cls := "Leafcredit", name := "setBounds", desc := "(III)I" } : Jvm.MethodName) ({ cls := "Leafcredit", name := "setBounds", desc := "(III)I" } : Jvm.MethodName)) ∈ lw_all := lw_g (lw_at lw_m9 222 rfl) rfl
theorem q2204 : (Jvm.Cond.code ({ cls := "Leafcredit", name := "setBounds", desc := "(III)I" } : Jvm.MethodName) prog_1_method_27_code (4 : Nat) (Option.some Jvm.ClassFile.FieldType.int)) ∈ lw_all := lw_g (lw_at lw_m9 223 rfl) rfl
theorem q2205 : (Jvm.Cond.methodLink "LeafcreditLaw" (183 : Nat) ({ cls := "LeafcreditLaw", name := "bid", desc := "(LLeafcredit;III[J)I" } : Jvm.MethodName)) ∈ lw_all := lw_g (lw_at lw_m9 224 rfl) rfl
theorem q2206 : (Jvm.Cond.static ({ cls := "LeafcreditLaw", name := "bid", desc := "(LLeafcredit;III[J)I" } : Jvm.MethodName)) ∈ lw_all := lw_g (lw_at lw_m9 225 rfl) rfl
theorem q2207 : (Jvm.Cond.codeWith ({ cls := "LeafcreditLaw", name := "bid", desc := "(LLeafcredit;III[J)I" } : Jvm.MethodName) method_13_code (6 : Nat) (Option.some Jvm.ClassFile.FieldType.int) [((0 : Nat), (12 : Nat), (15 : Nat), (21 : Nat)), ((0 : Nat), (12 : Nat), (19 : Nat), (13 : Nat)), ((0 : Nat), (12 : Nat), (23 : Nat), (26 : Nat)), ((0 : Nat), (12 : Nat), (27 : Nat), (15 : Nat))]) ∈ lw_all := lw_g (lw_at lw_m9 226 rfl) rfl
theorem q2208 : (Jvm.Cond.methodLink "LeafcreditLaw" (54 : Nat) ({ cls := "Leafcredit", name := "bid", desc := "(III)I" } : Jvm.MethodName)) ∈ lw_all := lw_g (lw_at lw_m9 227 rfl) rfl
theorem q2209 : (Jvm.Cond.instanceMethod ({ cls := "Leafcredit", name := "bid", desc := "(III)I" } : Jvm.MethodName)) ∈ lw_all := lw_g (lw_at lw_m9 228 rfl) rfl
theorem q2210 : (Jvm.Cond.selects "Leafcredit" ({ cls := "Leafcredit", name := "bid", desc := "(III)I" } : Jvm.MethodName) ({ cls := "Leafcredit", name := "bid", desc := "(III)I" } : Jvm.MethodName)) ∈ lw_all := lw_g (lw_at lw_m9 229 rfl) rfl
theorem q2211 : (Jvm.Cond.code ({ cls := "Leafcredit", name := "bid", desc := "(III)I" } : Jvm.MethodName) prog_1_method_29_code (9 : Nat) (Option.some Jvm.ClassFile.FieldType.int)) ∈ lw_all := lw_g (lw_at lw_m9 230 rfl) rfl
theorem q2212 : (Jvm.Cond.methodLink "Leafcredit" (325 : Nat) ({ cls := "java/util/PriorityQueue", name := "iterator", desc := "()Ljava/util/Iterator;" } : Jvm.MethodName)) ∈ lw_all := lw_g (lw_at lw_m9 231 rfl) rfl
theorem q2213 : (Jvm.Cond.classLink "Leafcredit" (326 : Nat) "Leafcredit$Bid") ∈ lw_all := lw_g (lw_at lw_m9 232 rfl) rfl
theorem q2214 : (Jvm.Cond.methodLink "Leafcredit" (336 : Nat) ({ cls := "java/util/PriorityQueue", name := "size", desc := "()I" } : Jvm.MethodName)) ∈ lw_all := lw_g (lw_at lw_m9 233 rfl) rfl
theorem q2215 : (Jvm.Cond.instanceMethod ({ cls := "java/util/PriorityQueue", name := "size", desc := "()I" } : Jvm.MethodName)) ∈ lw_all := lw_g (lw_at lw_m9 234 rfl) rfl
theorem q2216 : (Jvm.Cond.selects "java/util/PriorityQueue" ({ cls := "java/util/PriorityQueue", name := "size", desc := "()I" } : Jvm.MethodName) ({ cls := "java/util/PriorityQueue", name := "size", desc := "()I" } : Jvm.MethodName)) ∈ lw_all := lw_g (lw_at lw_m9 235 rfl) rfl
theorem q2217 : (Jvm.Cond.code ({ cls := "java/util/PriorityQueue", name := "size", desc := "()I" } : Jvm.MethodName) prog_75_method_23_code (1 : Nat) (Option.some Jvm.ClassFile.FieldType.int)) ∈ lw_all := lw_g (lw_at lw_m9 236 rfl) rfl
theorem q2218 : (Jvm.Cond.instantiable "Leafcredit$Bid" (4 : Nat)) ∈ lw_all := lw_g (lw_at lw_m9 237 rfl) rfl
theorem q2219 : (Jvm.Cond.methodLink "Leafcredit" (340 : Nat) ({ cls := "Leafcredit$Bid", name := "<init>", desc := "(ILLeafcredit$Account;II)V" } : Jvm.MethodName)) ∈ lw_all := lw_g (lw_at lw_m9 238 rfl) rfl
theorem q2220 : (Jvm.Cond.instanceMethod ({ cls := "Leafcredit$Bid", name := "<init>", desc := "(ILLeafcredit$Account;II)V" } : Jvm.MethodName)) ∈ lw_all := lw_g (lw_at lw_m9 239 rfl) rfl
theorem q2221 : (Jvm.Cond.code ({ cls := "Leafcredit$Bid", name := "<init>", desc := "(ILLeafcredit$Account;II)V" } : Jvm.MethodName) prog_3_method_1_code (5 : Nat) (Option.none : Option Jvm.ClassFile.FieldType)) ∈ lw_all := lw_g (lw_at lw_m10 0 rfl) rfl
theorem q2222 : (Jvm.Cond.methodLink "Leafcredit$Bid" (1 : Nat) ({ cls := "java/lang/Object", name := "<init>", desc := "()V" } : Jvm.MethodName)) ∈ lw_all := lw_g (lw_at lw_m10 1 rfl) rfl
theorem q2223 : (Jvm.Cond.fieldLink "Leafcredit$Bid" (7 : Nat) "Leafcredit$Bid" "number" "I") ∈ lw_all := lw_g (lw_at lw_m10 2 rfl) rfl
theorem q2224 : (Jvm.Cond.fieldLinkNest "Leafcredit$ByPrice" (19 : Nat) "Leafcredit$Bid" "number" "I" "Leafcredit") ∈ lw_tbl := lw_at lw_m10 3 rfl
theorem q2225 : (Jvm.Cond.fieldLink "Leafcredit$Bid" (13 : Nat) "Leafcredit$Bid" "account" "LLeafcredit$Account;") ∈ lw_all := lw_g (lw_at lw_m10 4 rfl) rfl
theorem q2226 : (Jvm.Cond.fieldLinkNest "Leafcredit" (328 : Nat) "Leafcredit$Bid" "account" "LLeafcredit$Account;" "Leafcredit") ∈ lw_tbl := lw_at lw_m10 5 rfl
theorem q2227 : (Jvm.Cond.fieldLink "Leafcredit$Bid" (17 : Nat) "Leafcredit$Bid" "units" "I") ∈ lw_all := lw_g (lw_at lw_m10 6 rfl) rfl
theorem q2228 : (Jvm.Cond.fieldLinkNest "Leafcredit" (332 : Nat) "Leafcredit$Bid" "units" "I" "Leafcredit") ∈ lw_tbl := lw_at lw_m10 7 rfl
theorem q2229 : (Jvm.Cond.fieldLink "Leafcredit$Bid" (20 : Nat) "Leafcredit$Bid" "price" "I") ∈ lw_all := lw_g (lw_at lw_m10 8 rfl) rfl
theorem q2230 : (Jvm.Cond.fieldLinkNest "Leafcredit$ByPrice" (7 : Nat) "Leafcredit$Bid" "price" "I" "Leafcredit") ∈ lw_tbl := lw_at lw_m10 9 rfl
theorem q2231 : (Jvm.Cond.fieldLinkNest "Leafcredit" (335 : Nat) "Leafcredit$Bid" "price" "I" "Leafcredit") ∈ lw_tbl := lw_at lw_m10 10 rfl
theorem q2241 : (Jvm.Cond.methodLink "Leafcredit" (343 : Nat) ({ cls := "java/util/PriorityQueue", name := "add", desc := "(Ljava/lang/Object;)Z" } : Jvm.MethodName)) ∈ lw_all := lw_g (lw_at lw_m10 20 rfl) rfl
theorem q2242 : (Jvm.Cond.instanceMethod ({ cls := "java/util/PriorityQueue", name := "add", desc := "(Ljava/lang/Object;)Z" } : Jvm.MethodName)) ∈ lw_all := lw_g (lw_at lw_m10 21 rfl) rfl
theorem q2243 : (Jvm.Cond.selects "java/util/PriorityQueue" ({ cls := "java/util/PriorityQueue", name := "add", desc := "(Ljava/lang/Object;)Z" } : Jvm.MethodName) ({ cls := "java/util/PriorityQueue", name := "add", desc := "(Ljava/lang/Object;)Z" } : Jvm.MethodName)) ∈ lw_all := lw_g (lw_at lw_m10 22 rfl) rfl
theorem q2244 : (Jvm.Cond.code ({ cls := "java/util/PriorityQueue", name := "add", desc := "(Ljava/lang/Object;)Z" } : Jvm.MethodName) prog_75_method_13_code (2 : Nat) (Option.some Jvm.ClassFile.FieldType.boolean)) ∈ lw_all := lw_g (lw_at lw_m10 23 rfl) rfl
theorem q2245 : (Jvm.Cond.methodLink "java/util/PriorityQueue" (89 : Nat) ({ cls := "java/util/PriorityQueue", name := "offer", desc := "(Ljava/lang/Object;)Z" } : Jvm.MethodName)) ∈ lw_all := lw_g (lw_at lw_m10 24 rfl) rfl
theorem q2246 : (Jvm.Cond.instanceMethod ({ cls := "java/util/PriorityQueue", name := "offer", desc := "(Ljava/lang/Object;)Z" } : Jvm.MethodName)) ∈ lw_all := lw_g (lw_at lw_m10 25 rfl) rfl
theorem q2247 : (Jvm.Cond.selects "java/util/PriorityQueue" ({ cls := "java/util/PriorityQueue", name := "offer", desc := "(Ljava/lang/Object;)Z" } : Jvm.MethodName) ({ cls := "java/util/PriorityQueue", name := "offer", desc := "(Ljava/lang/Object;)Z" } : Jvm.MethodName)) ∈ lw_all := lw_g (lw_at lw_m10 26 rfl) rfl
theorem q2248 : (Jvm.Cond.code ({ cls := "java/util/PriorityQueue", name := "offer", desc := "(Ljava/lang/Object;)Z" } : Jvm.MethodName) prog_75_method_14_code (3 : Nat) (Option.some Jvm.ClassFile.FieldType.boolean)) ∈ lw_all := lw_g (lw_at lw_m10 27 rfl) rfl
theorem q2249 : (Jvm.Cond.methodLink "java/util/PriorityQueue" (96 : Nat) ({ cls := "java/util/PriorityQueue", name := "grow", desc := "(I)V" } : Jvm.MethodName)) ∈ lw_all := lw_g (lw_at lw_m10 28 rfl) rfl
theorem q2251 : (Jvm.Cond.instanceMethod ({ cls := "java/util/PriorityQueue", name := "grow", desc := "(I)V" } : Jvm.MethodName)) ∈ lw_all := lw_g (lw_at lw_m10 30 rfl) rfl
theorem q2252 : (Jvm.Cond.code ({ cls := "java/util/PriorityQueue", name := "grow", desc := "(I)V" } : Jvm.MethodName) prog_75_method_12_code (4 : Nat) (Option.none : Option Jvm.ClassFile.FieldType)) ∈ lw_all := lw_g (lw_at lw_m10 31 rfl) rfl
theorem q2253 : (Jvm.Cond.methodLink "java/util/PriorityQueue" (80 : Nat) ({ cls := "jdk/internal/util/ArraysSupport", name := "newLength", desc := "(III)I" } : Jvm.MethodName)) ∈ lw_all := lw_g (lw_at lw_m10 32 rfl) rfl
theorem q2254 : (Jvm.Cond.methodLink "java/util/PriorityQueue" (86 : Nat) ({ cls := "java/util/Arrays", name := "copyOf", desc := "([Ljava/lang/Object;I)[Ljava/lang/Object;" } : Jvm.MethodName)) ∈ lw_all := lw_g (lw_at lw_m10 33 rfl) rfl
theorem q2255 : (Jvm.Cond.methodLink "LeafcreditLaw" (186 : Nat) ({ cls := "LeafcreditLaw", name := "auction", desc := "(LLeafcredit;II[J)I" } : Jvm.MethodName)) ∈ lw_all := lw_g (lw_at lw_m10 34 rfl) rfl
theorem q2256 : (Jvm.Cond.static ({ cls := "LeafcreditLaw", name := "auction", desc := "(LLeafcredit;II[J)I" } : Jvm.MethodName)) ∈ lw_all := lw_g (lw_at lw_m10 35 rfl) rfl
theorem q2257 : (Jvm.Cond.codeWith ({ cls := "LeafcreditLaw", name := "auction", desc := "(LLeafcredit;II[J)I" } : Jvm.MethodName) method_14_code (5 : Nat) (Option.some Jvm.ClassFile.FieldType.int) [((0 : Nat), (10 : Nat), (13 : Nat), (13 : Nat)), ((0 : Nat), (10 : Nat), (17 : Nat), (26 : Nat))]) ∈ lw_all := lw_g (lw_at lw_m10 36 rfl) rfl
theorem q2258 : (Jvm.Cond.methodLink "LeafcreditLaw" (57 : Nat) ({ cls := "Leafcredit", name := "auction", desc := "(II)I" } : Jvm.MethodName)) ∈ lw_all := lw_g (lw_at lw_m10 37 rfl) rfl
theorem q2259 : (Jvm.Cond.instanceMethod ({ cls := "Leafcredit", name := "auction", desc := "(II)I" } : Jvm.MethodName)) ∈ lw_all := lw_g (lw_at lw_m10 38 rfl) rfl
theorem q2260 : (Jvm.Cond.selects "Leafcredit" ({ cls := "Leafcredit", name := "auction", desc := "(II)I" } : Jvm.MethodName) ({ cls := "Leafcredit", name := "auction", desc := "(II)I" } : Jvm.MethodName)) ∈ lw_all := lw_g (lw_at lw_m10 39 rfl) rfl
theorem q2261 : (Jvm.Cond.code ({ cls := "Leafcredit", name := "auction", desc := "(II)I" } : Jvm.MethodName) prog_1_method_30_code (10 : Nat) (Option.some Jvm.ClassFile.FieldType.int)) ∈ lw_all := lw_g (lw_at lw_m10 40 rfl) rfl
theorem q2262 : (Jvm.Cond.methodLink "Leafcredit" (344 : Nat) ({ cls := "java/util/PriorityQueue", name := "isEmpty", desc := "()Z" } : Jvm.MethodName)) ∈ lw_all := lw_g (lw_at lw_m10 41 rfl) rfl
theorem q2263 : (Jvm.Cond.sameMethod "java/util/PriorityQueue" "java/util/AbstractCollection" "isEmpty" "()Z") ∈ lw_all := lw_g (lw_at lw_m10 42 rfl) rfl
theorem q2265 : (Jvm.Cond.selects "java/util/PriorityQueue" ({ cls := "java/util/PriorityQueue", name := "isEmpty", desc := "()Z" } : Jvm.MethodName) ({ cls := "java/util/AbstractCollection", name := "isEmpty", desc := "()Z" } : Jvm.MethodName)) ∈ lw_all := lw_g (lw_at lw_m10 44 rfl) rfl
theorem q2266 : (Jvm.Cond.instanceMethod ({ cls := "java/util/AbstractCollection", name := "isEmpty", desc := "()Z" } : Jvm.MethodName)) ∈ lw_all := lw_g (lw_at lw_m10 45 rfl) rfl
theorem q2267 : (Jvm.Cond.code ({ cls := "java/util/AbstractCollection", name := "isEmpty", desc := "()Z" } : Jvm.MethodName) prog_51_method_4_code (1 : Nat) (Option.some Jvm.ClassFile.FieldType.boolean)) ∈ lw_all := lw_g (lw_at lw_m10 46 rfl) rfl
theorem q2268 : (Jvm.Cond.methodLink "java/util/AbstractCollection" (7 : Nat) ({ cls := "java/util/AbstractCollection", name := "size", desc := "()I" } : Jvm.MethodName)) ∈ lw_all := lw_g (lw_at lw_m10 47 rfl) rfl
theorem q2269 : (Jvm.Cond.declares ({ cls := "java/util/AbstractCollection", name := "size", desc := "()I" } : Jvm.MethodName)) ∈ lw_tbl := lw_at lw_m10 48 rfl
theorem q2270 : (Jvm.Cond.sameMethod "java/util/AbstractCollection" "java/util/AbstractCollection" "size" "()I") ∈ lw_all := lw_g (lw_at lw_m10 49 rfl) rfl
theorem q2276 : (Jvm.Cond.sameMethod "java/util/AbstractMap" "java/util/AbstractMap" "size" "()I") ∈ lw_all := lw_g (lw_at lw_m10 55 rfl) rfl
theorem q2277 : (Jvm.Cond.selects "java/util/TreeMap" ({ cls := "java/util/AbstractMap", name := "size", desc := "()I" } : Jvm.MethodName) ({ cls := "java/util/TreeMap", name := "size", desc := "()I" } : Jvm.MethodName)) ∈ lw_all := lw_g (lw_at lw_m10 56 rfl) rfl
theorem q2278 : (Jvm.Cond.instanceMethod ({ cls := "java/util/TreeMap", name := "size", desc := "()I" } : Jvm.MethodName)) ∈ lw_all := lw_g (lw_at lw_m10 57 rfl) rfl
theorem q2279 : (Jvm.Cond.code ({ cls := "java/util/TreeMap", name := "size", desc := "()I" } : Jvm.MethodName) prog_83_method_5_code (1 : Nat) (Option.some Jvm.ClassFile.FieldType.int)) ∈ lw_all := lw_g (lw_at lw_m10 58 rfl) rfl
theorem q2283 : (Jvm.Cond.methodLink "java/util/TreeMap$NavigableSubMap" (101 : Nat) ({ cls := "java/util/TreeMap", name := "size", desc := "()I" } : Jvm.MethodName)) ∈ lw_all := lw_g (lw_at lw_m10 62 rfl) rfl
theorem q2288 : (Jvm.Cond.methodLink "java/util/TreeMap$NavigableSubMap" (105 : Nat) ({ cls := "java/util/Set", name := "size", desc := "()I" } : Jvm.MethodName)) ∈ lw_all := lw_g (lw_at lw_m10 67 rfl) rfl
theorem q2289 : (Jvm.Cond.interfaceMethod "java/util/Set" "java/util/Set" "size" "()I") ∈ lw_tbl := lw_at lw_m10 68 rfl
theorem q2290 : (Jvm.Cond.declares ({ cls := "java/util/Set", name := "size", desc := "()I" } : Jvm.MethodName)) ∈ lw_tbl := lw_at lw_m10 69 rfl
theorem q2291 : (Jvm.Cond.selects "java/util/TreeMap$AscendingSubMap$AscendingEntrySetView" ({ cls := "java/util/Set", name := "size", desc := "()I" } : Jvm.MethodName) ({ cls := "java/util/TreeMap$NavigableSubMap$EntrySetView", name := "size", desc := "()I" } : Jvm.MethodName)) ∈ lw_all := lw_g (lw_at lw_m10 70 rfl) rfl
theorem q2292 : (Jvm.Cond.unhidden "java/util/TreeMap$AscendingSubMap$AscendingEntrySetView" "size" "()I") ∈ lw_tbl := lw_at lw_m10 71 rfl
theorem q2293 : (Jvm.Cond.instanceMethod ({ cls := "java/util/TreeMap$NavigableSubMap$EntrySetView", name := "size", desc := "()I" } : Jvm.MethodName)) ∈ lw_all := lw_g (lw_at lw_m10 72 rfl) rfl
theorem q2294 : (Jvm.Cond.publicMethod ({ cls := "java/util/TreeMap$NavigableSubMap$EntrySetView", name := "size", desc := "()I" } : Jvm.MethodName)) ∈ lw_tbl := lw_at lw_m10 73 rfl
theorem q2295 : (Jvm.Cond.code ({ cls := "java/util/TreeMap$NavigableSubMap$EntrySetView", name := "size", desc := "()I" } : Jvm.MethodName) prog_90_method_2_code (2 : Nat) (Option.some Jvm.ClassFile.FieldType.int)) ∈ lw_all := lw_g (lw_at lw_m10 74 rfl) rfl
theorem q2296 : (Jvm.Cond.methodLink "java/util/TreeMap$NavigableSubMap$EntrySetView" (30 : Nat) ({ cls := "java/util/TreeMap", name := "size", desc := "()I" } : Jvm.MethodName)) ∈ lw_all := lw_g (lw_at lw_m10 75 rfl) rfl
theorem q2301 : (Jvm.Cond.methodLink "java/util/TreeMap$NavigableSubMap$EntrySetView" (45 : Nat) ({ cls := "java/util/Iterator", name := "hasNext", desc := "()Z" } : Jvm.MethodName)) ∈ lw_all := lw_g (lw_at lw_m10 80 rfl) rfl
theorem q2303 : (Jvm.Cond.methodLink "java/util/TreeMap$NavigableSubMap$EntrySetView" (51 : Nat) ({ cls := "java/util/Iterator", name := "next", desc := "()Ljava/lang/Object;" } : Jvm.MethodName)) ∈ lw_all := lw_g (lw_at lw_m10 82 rfl) rfl
theorem q2309 : (Jvm.Cond.methodLink "java/util/TreeMap$EntrySet" (48 : Nat) ({ cls := "java/util/TreeMap", name := "size", desc := "()I" } : Jvm.MethodName)) ∈ lw_all := lw_g (lw_at lw_m10 88 rfl) rfl
theorem q2310 : (Jvm.Cond.declares ({ cls := "java/util/AbstractMap", name := "size", desc := "()I" } : Jvm.MethodName)) ∈ lw_tbl := lw_at lw_m10 89 rfl
theorem q2313 : (Jvm.Cond.selects "java/util/PriorityQueue" ({ cls := "java/util/AbstractCollection", name := "size", desc := "()I" } : Jvm.MethodName) ({ cls := "java/util/PriorityQueue", name := "size", desc := "()I" } : Jvm.MethodName)) ∈ lw_all := lw_g (lw_at lw_m10 92 rfl) rfl
theorem q2319 : (Jvm.Cond.methodLink "java/util/TreeMap$Values" (24 : Nat) ({ cls := "java/util/TreeMap", name := "size", desc := "()I" } : Jvm.MethodName)) ∈ lw_all := lw_g (lw_at lw_m10 98 rfl) rfl
theorem q2320 : (Jvm.Cond.methodLink "Leafcredit" (347 : Nat) ({ cls := "java/util/PriorityQueue", name := "poll", desc := "()Ljava/lang/Object;" } : Jvm.MethodName)) ∈ lw_all := lw_g (lw_at lw_m10 99 rfl) rfl
theorem q2321 : (Jvm.Cond.instanceMethod ({ cls := "java/util/PriorityQueue", name := "poll", desc := "()Ljava/lang/Object;" } : Jvm.MethodName)) ∈ lw_all := lw_g (lw_at lw_m10 100 rfl) rfl
theorem q2322 : (Jvm.Cond.selects "java/util/PriorityQueue" ({ cls := "java/util/PriorityQueue", name := "poll", desc := "()Ljava/lang/Object;" } : Jvm.MethodName) ({ cls := "java/util/PriorityQueue", name := "poll", desc := "()Ljava/lang/Object;" } : Jvm.MethodName)) ∈ lw_all := lw_g (lw_at lw_m10 101 rfl) rfl
theorem q2323 : (Jvm.Cond.code ({ cls := "java/util/PriorityQueue", name := "poll", desc := "()Ljava/lang/Object;" } : Jvm.MethodName) prog_75_method_25_code (6 : Nat) (Option.some (Jvm.ClassFile.FieldType.object "java/lang/Object"))) ∈ lw_all := lw_g (lw_at lw_m10 102 rfl) rfl
theorem q2324 : (Jvm.Cond.methodLink "Leafcredit" (350 : Nat) ({ cls := "java/util/PriorityQueue", name := "clear", desc := "()V" } : Jvm.MethodName)) ∈ lw_all := lw_g (lw_at lw_m10 103 rfl) rfl
theorem q2325 : (Jvm.Cond.instanceMethod ({ cls := "java/util/PriorityQueue", name := "clear", desc := "()V" } : Jvm.MethodName)) ∈ lw_all := lw_g (lw_at lw_m10 104 rfl) rfl
theorem q2326 : (Jvm.Cond.selects "java/util/PriorityQueue" ({ cls := "java/util/PriorityQueue", name := "clear", desc := "()V" } : Jvm.MethodName) ({ cls := "java/util/PriorityQueue", name := "clear", desc := "()V" } : Jvm.MethodName)) ∈ lw_all := lw_g (lw_at lw_m10 105 rfl) rfl
theorem q2327 : (Jvm.Cond.code ({ cls := "java/util/PriorityQueue", name := "clear", desc := "()V" } : Jvm.MethodName) prog_75_method_24_code (4 : Nat) (Option.none : Option Jvm.ClassFile.FieldType)) ∈ lw_all := lw_g (lw_at lw_m10 106 rfl) rfl
theorem q2329 : (Jvm.Cond.methodLink "Leafcredit" (353 : Nat) ({ cls := "java/util/List", name := "isEmpty", desc := "()Z" } : Jvm.MethodName)) ∈ lw_all := lw_g (lw_at lw_m10 108 rfl) rfl
theorem q2330 : (Jvm.Cond.interfaceMethod "java/util/List" "java/util/List" "isEmpty" "()Z") ∈ lw_tbl := lw_at lw_m10 109 rfl
theorem q2331 : (Jvm.Cond.declares ({ cls := "java/util/List", name := "isEmpty", desc := "()Z" } : Jvm.MethodName)) ∈ lw_tbl := lw_at lw_m10 110 rfl
theorem q2332 : (Jvm.Cond.selects "java/util/ArrayList" ({ cls := "java/util/List", name := "isEmpty", desc := "()Z" } : Jvm.MethodName) ({ cls := "java/util/ArrayList", name := "isEmpty", desc := "()Z" } : Jvm.MethodName)) ∈ lw_all := lw_g (lw_at lw_m10 111 rfl) rfl
theorem q2333 : (Jvm.Cond.unhidden "java/util/ArrayList" "isEmpty" "()Z") ∈ lw_tbl := lw_at lw_m10 112 rfl
theorem q2334 : (Jvm.Cond.instanceMethod ({ cls := "java/util/ArrayList", name := "isEmpty", desc := "()Z" } : Jvm.MethodName)) ∈ lw_all := lw_g (lw_at lw_m10 113 rfl) rfl
theorem q2335 : (Jvm.Cond.publicMethod ({ cls := "java/util/ArrayList", name := "isEmpty", desc := "()Z" } : Jvm.MethodName)) ∈ lw_tbl := lw_at lw_m10 114 rfl
theorem q2336 : (Jvm.Cond.code ({ cls := "java/util/ArrayList", name := "isEmpty", desc := "()Z" } : Jvm.MethodName) prog_61_method_9_code (1 : Nat) (Option.some Jvm.ClassFile.FieldType.boolean)) ∈ lw_all := lw_g (lw_at lw_m10 115 rfl) rfl
theorem q2337 : (Jvm.Cond.methodLink "LeafcreditLaw" (189 : Nat) ({ cls := "LeafcreditLaw", name := "price", desc := "(LLeafcredit;[J)I" } : Jvm.MethodName)) ∈ lw_all := lw_g (lw_at lw_m10 116 rfl) rfl
theorem q2338 : (Jvm.Cond.static ({ cls := "LeafcreditLaw", name := "price", desc := "(LLeafcredit;[J)I" } : Jvm.MethodName)) ∈ lw_all := lw_g (lw_at lw_m10 117 rfl) rfl
theorem q2339 : (Jvm.Cond.codeWith ({ cls := "LeafcreditLaw", name := "price", desc := "(LLeafcredit;[J)I" } : Jvm.MethodName) method_15_code (3 : Nat) (Option.some Jvm.ClassFile.FieldType.int) [((0 : Nat), (8 : Nat), (11 : Nat), (36 : Nat))]) ∈ lw_all := lw_g (lw_at lw_m10 118 rfl) rfl
theorem q2340 : (Jvm.Cond.methodLink "LeafcreditLaw" (60 : Nat) ({ cls := "Leafcredit", name := "price", desc := "()I" } : Jvm.MethodName)) ∈ lw_all := lw_g (lw_at lw_m10 119 rfl) rfl
theorem q2341 : (Jvm.Cond.instanceMethod ({ cls := "Leafcredit", name := "price", desc := "()I" } : Jvm.MethodName)) ∈ lw_all := lw_g (lw_at lw_m10 120 rfl) rfl
theorem q2342 : (Jvm.Cond.selects "Leafcredit" ({ cls := "Leafcredit", name := "price", desc := "()I" } : Jvm.MethodName) ({ cls := "Leafcredit", name := "price", desc := "()I" } : Jvm.MethodName)) ∈ lw_all := lw_g (lw_at lw_m10 121 rfl) rfl
theorem q2343 : (Jvm.Cond.code ({ cls := "Leafcredit", name := "price", desc := "()I" } : Jvm.MethodName) prog_1_method_31_code (1 : Nat) (Option.some Jvm.ClassFile.FieldType.int)) ∈ lw_all := lw_g (lw_at lw_m10 122 rfl) rfl
theorem q2344 : (Jvm.Cond.methodLink "LeafcreditLaw" (205 : Nat) ({ cls := "LeafcreditLaw", name := "transfer", desc := "(LLeafcredit;IICI[J)I" } : Jvm.MethodName)) ∈ lw_all := lw_g (lw_at lw_m10 123 rfl) rfl
theorem q2345 : (Jvm.Cond.static ({ cls := "LeafcreditLaw", name := "transfer", desc := "(LLeafcredit;IICI[J)I" } : Jvm.MethodName)) ∈ lw_all := lw_g (lw_at lw_m10 124 rfl) rfl
theorem q2346 : (Jvm.Cond.codeWith ({ cls := "LeafcreditLaw", name := "transfer", desc := "(LLeafcredit;IICI[J)I" } : Jvm.MethodName) method_16_code (7 : Nat) (Option.some Jvm.ClassFile.FieldType.int) [((0 : Nat), (14 : Nat), (17 : Nat), (21 : Nat)), ((0 : Nat), (14 : Nat), (21 : Nat), (13 : Nat)), ((0 : Nat), (14 : Nat), (25 : Nat), (26 : Nat)), ((0 : Nat), (14 : Nat), (29 : Nat), (15 : Nat))]) ∈ lw_all := lw_g (lw_at lw_m10 125 rfl) rfl
theorem q2347 : (Jvm.Cond.methodLink "LeafcreditLaw" (64 : Nat) ({ cls := "Leafcredit", name := "transfer", desc := "(IICI)I" } : Jvm.MethodName)) ∈ lw_all := lw_g (lw_at lw_m10 126 rfl) rfl
theorem q2348 : (Jvm.Cond.instanceMethod ({ cls := "Leafcredit", name := "transfer", desc := "(IICI)I" } : Jvm.MethodName)) ∈ lw_all := lw_g (lw_at lw_m10 127 rfl) rfl
theorem q2349 : (Jvm.Cond.selects "Leafcredit" ({ cls := "Leafcredit", name := "transfer", desc := "(IICI)I" } : Jvm.MethodName) ({ cls := "Leafcredit", name := "transfer", desc := "(IICI)I" } : Jvm.MethodName)) ∈ lw_all := lw_g (lw_at lw_m10 128 rfl) rfl
theorem q2350 : (Jvm.Cond.code ({ cls := "Leafcredit", name := "transfer", desc := "(IICI)I" } : Jvm.MethodName) prog_1_method_35_code (8 : Nat) (Option.some Jvm.ClassFile.FieldType.int)) ∈ lw_all := lw_g (lw_at lw_m10 129 rfl) rfl
theorem q2351 : (Jvm.Cond.methodLink "Leafcredit" (358 : Nat) ({ cls := "Leafcredit", name := "isKind", desc := "(C)Z" } : Jvm.MethodName)) ∈ lw_all := lw_g (lw_at lw_m10 130 rfl) rfl
theorem q2352 : (Jvm.Cond.static ({ cls := "Leafcredit", name := "isKind", desc := "(C)Z" } : Jvm.MethodName)) ∈ lw_all := lw_g (lw_at lw_m10 131 rfl) rfl
theorem q2353 : (Jvm.Cond.code ({ cls := "Leafcredit", name := "isKind", desc := "(C)Z" } : Jvm.MethodName) prog_1_method_10_code (1 : Nat) (Option.some Jvm.ClassFile.FieldType.boolean)) ∈ lw_all := lw_g (lw_at lw_m10 132 rfl) rfl
theorem q2354 : (Jvm.Cond.methodLink "Leafcredit" (362 : Nat) ({ cls := "Leafcredit", name := "usableOf", desc := "(IC)I" } : Jvm.MethodName)) ∈ lw_all := lw_g (lw_at lw_m10 133 rfl) rfl
theorem q2356 : (Jvm.Cond.instanceMethod ({ cls := "Leafcredit", name := "usableOf", desc := "(IC)I" } : Jvm.MethodName)) ∈ lw_all := lw_g (lw_at lw_m10 135 rfl) rfl
theorem q2357 : (Jvm.Cond.code ({ cls := "Leafcredit", name := "usableOf", desc := "(IC)I" } : Jvm.MethodName) prog_1_method_13_code (6 : Nat) (Option.some Jvm.ClassFile.FieldType.int)) ∈ lw_all := lw_g (lw_at lw_m10 136 rfl) rfl
theorem q2358 : (Jvm.Cond.methodLink "Leafcredit" (156 : Nat) ({ cls := "Leafcredit$Piece", name := "isUsable", desc := "(ICI)Z" } : Jvm.MethodName)) ∈ lw_all := lw_g (lw_at lw_m10 137 rfl) rfl
theorem q2359 : (Jvm.Cond.instanceMethod ({ cls := "Leafcredit$Piece", name := "isUsable", desc := "(ICI)Z" } : Jvm.MethodName)) ∈ lw_all := lw_g (lw_at lw_m10 138 rfl) rfl
theorem q2360 : (Jvm.Cond.selects "Leafcredit$Piece" ({ cls := "Leafcredit$Piece", name := "isUsable", desc := "(ICI)Z" } : Jvm.MethodName) ({ cls := "Leafcredit$Piece", name := "isUsable", desc := "(ICI)Z" } : Jvm.MethodName)) ∈ lw_all := lw_g (lw_at lw_m10 139 rfl) rfl
theorem q2361 : (Jvm.Cond.code ({ cls := "Leafcredit$Piece", name := "isUsable", desc := "(ICI)Z" } : Jvm.MethodName) prog_9_method_3_code (4 : Nat) (Option.some Jvm.ClassFile.FieldType.boolean)) ∈ lw_all := lw_g (lw_at lw_m10 140 rfl) rfl
theorem q2362 : (Jvm.Cond.classLink "Leafcredit" (366 : Nat) "Leafcredit$Transfer") ∈ lw_all := lw_g (lw_at lw_m10 141 rfl) rfl
theorem q2363 : (Jvm.Cond.instantiable "Leafcredit$Transfer" (6 : Nat)) ∈ lw_all := lw_g (lw_at lw_m10 142 rfl) rfl
theorem q2364 : (Jvm.Cond.methodLink "Leafcredit" (368 : Nat) ({ cls := "Leafcredit$Transfer", name := "<init>", desc := "(LLeafcredit$Account;LLeafcredit$Account;CI)V" } : Jvm.MethodName)) ∈ lw_all := lw_g (lw_at lw_m10 143 rfl) rfl
theorem q2365 : (Jvm.Cond.instanceMethod ({ cls := "Leafcredit$Transfer", name := "<init>", desc := "(LLeafcredit$Account;LLeafcredit$Account;CI)V" } : Jvm.MethodName)) ∈ lw_all := lw_g (lw_at lw_m10 144 rfl) rfl
theorem q2366 : (Jvm.Cond.code ({ cls := "Leafcredit$Transfer", name := "<init>", desc := "(LLeafcredit$Account;LLeafcredit$Account;CI)V" } : Jvm.MethodName) prog_13_method_1_code (5 : Nat) (Option.none : Option Jvm.ClassFile.FieldType)) ∈ lw_all := lw_g (lw_at lw_m10 145 rfl) rfl
theorem q2367 : (Jvm.Cond.methodLink "Leafcredit$Transfer" (1 : Nat) ({ cls := "java/lang/Object", name := "<init>", desc := "()V" } : Jvm.MethodName)) ∈ lw_all := lw_g (lw_at lw_m10 146 rfl) rfl
theorem q2368 : (Jvm.Cond.classLink "Leafcredit$Transfer" (13 : Nat) "java/util/ArrayList") ∈ lw_all := lw_g (lw_at lw_m10 147 rfl) rfl
theorem q2369 : (Jvm.Cond.methodLink "Leafcredit$Transfer" (15 : Nat) ({ cls := "java/util/ArrayList", name := "<init>", desc := "()V" } : Jvm.MethodName)) ∈ lw_all := lw_g (lw_at lw_m10 148 rfl) rfl
theorem q2370 : (Jvm.Cond.fieldLink "Leafcredit$Transfer" (20 : Nat) "Leafcredit$Transfer" "from" "LLeafcredit$Account;") ∈ lw_all := lw_g (lw_at lw_m10 149 rfl) rfl
theorem q2371 : (Jvm.Cond.fieldLinkNest "Leafcredit" (375 : Nat) "Leafcredit$Transfer" "from" "LLeafcredit$Account;" "Leafcredit") ∈ lw_tbl := lw_at lw_m10 150 rfl
theorem q2372 : (Jvm.Cond.fieldLink "Leafcredit$Transfer" (24 : Nat) "Leafcredit$Transfer" "to" "LLeafcredit$Account;") ∈ lw_all := lw_g (lw_at lw_m10 151 rfl) rfl
theorem q2373 : (Jvm.Cond.fieldLinkNest "Leafcredit" (392 : Nat) "Leafcredit$Transfer" "to" "LLeafcredit$Account;" "Leafcredit") ∈ lw_tbl := lw_at lw_m10 152 rfl
theorem q2374 : (Jvm.Cond.fieldLink "Leafcredit$Transfer" (27 : Nat) "Leafcredit$Transfer" "kind" "C") ∈ lw_all := lw_g (lw_at lw_m10 153 rfl) rfl
theorem q2375 : (Jvm.Cond.fieldLinkNest "Leafcredit" (378 : Nat) "Leafcredit$Transfer" "kind" "C" "Leafcredit") ∈ lw_tbl := lw_at lw_m10 154 rfl
theorem q2376 : (Jvm.Cond.fieldLink "Leafcredit$Transfer" (30 : Nat) "Leafcredit$Transfer" "units" "I") ∈ lw_all := lw_g (lw_at lw_m10 155 rfl) rfl
theorem q2377 : (Jvm.Cond.fieldLinkNest "Leafcredit" (379 : Nat) "Leafcredit$Transfer" "units" "I" "Leafcredit") ∈ lw_tbl := lw_at lw_m10 156 rfl
theorem q2378 : (Jvm.Cond.fieldLink "Leafcredit$Transfer" (7 : Nat) "Leafcredit$Transfer" "state" "C") ∈ lw_all := lw_g (lw_at lw_m10 157 rfl) rfl
theorem q2379 : (Jvm.Cond.fieldLinkNest "Leafcredit" (408 : Nat) "Leafcredit$Transfer" "state" "C" "Leafcredit") ∈ lw_tbl := lw_at lw_m10 158 rfl
theorem q2380 : (Jvm.Cond.fieldLink "Leafcredit$Transfer" (16 : Nat) "Leafcredit$Transfer" "rows" "Ljava/util/List;") ∈ lw_all := lw_g (lw_at lw_m10 159 rfl) rfl
theorem q2381 : (Jvm.Cond.fieldLinkNest "Leafcredit" (401 : Nat) "Leafcredit$Transfer" "rows" "Ljava/util/List;" "Leafcredit") ∈ lw_tbl := lw_at lw_m10 160 rfl
theorem q2395 : (Jvm.Cond.methodLink "Leafcredit" (371 : Nat) ({ cls := "Leafcredit", name := "move", desc := "(LLeafcredit$Transfer;)V" } : Jvm.MethodName)) ∈ lw_all := lw_g (lw_at lw_m10 174 rfl) rfl
theorem q2397 : (Jvm.Cond.instanceMethod ({ cls := "Leafcredit", name := "move", desc := "(LLeafcredit$Transfer;)V" } : Jvm.MethodName)) ∈ lw_all := lw_g (lw_at lw_m10 176 rfl) rfl
theorem q2398 : (Jvm.Cond.code ({ cls := "Leafcredit", name := "move", desc := "(LLeafcredit$Transfer;)V" } : Jvm.MethodName) prog_1_method_36_code (6 : Nat) (Option.none : Option Jvm.ClassFile.FieldType)) ∈ lw_all := lw_g (lw_at lw_m10 177 rfl) rfl
theorem q2399 : (Jvm.Cond.classLink "Leafcredit" (380 : Nat) "Leafcredit$ByUse") ∈ lw_all := lw_g (lw_at lw_m10 178 rfl) rfl
theorem q2400 : (Jvm.Cond.instantiable "Leafcredit$ByUse" (1 : Nat)) ∈ lw_all := lw_g (lw_at lw_m10 179 rfl) rfl
theorem q2401 : (Jvm.Cond.methodLink "Leafcredit" (382 : Nat) ({ cls := "Leafcredit$ByUse", name := "<init>", desc := "(I)V" } : Jvm.MethodName)) ∈ lw_all := lw_g (lw_at lw_m10 180 rfl) rfl
theorem q2402 : (Jvm.Cond.instanceMethod ({ cls := "Leafcredit$ByUse", name := "<init>", desc := "(I)V" } : Jvm.MethodName)) ∈ lw_all := lw_g (lw_at lw_m10 181 rfl) rfl
theorem q2403 : (Jvm.Cond.code ({ cls := "Leafcredit$ByUse", name := "<init>", desc := "(I)V" } : Jvm.MethodName) prog_5_method_1_code (2 : Nat) (Option.none : Option Jvm.ClassFile.FieldType)) ∈ lw_all := lw_g (lw_at lw_m10 182 rfl) rfl
theorem q2404 : (Jvm.Cond.methodLink "Leafcredit$ByUse" (3 : Nat) ({ cls := "java/lang/Object", name := "<init>", desc := "()V" } : Jvm.MethodName)) ∈ lw_all := lw_g (lw_at lw_m10 183 rfl) rfl
theorem q2405 : (Jvm.Cond.fieldLink "Leafcredit$ByUse" (9 : Nat) "Leafcredit$ByUse" "project" "I") ∈ lw_all := lw_g (lw_at lw_m10 184 rfl) rfl
theorem q2409 : (Jvm.Cond.methodLink "Leafcredit" (385 : Nat) ({ cls := "Leafcredit", name := "taken", desc := "(ICILjava/util/Comparator;)Ljava/util/List;" } : Jvm.MethodName)) ∈ lw_all := lw_g (lw_at lw_m10 188 rfl) rfl
theorem q2411 : (Jvm.Cond.instanceMethod ({ cls := "Leafcredit", name := "taken", desc := "(ICILjava/util/Comparator;)Ljava/util/List;" } : Jvm.MethodName)) ∈ lw_all := lw_g (lw_at lw_m10 190 rfl) rfl
theorem q2412 : (Jvm.Cond.code ({ cls := "Leafcredit", name := "taken", desc := "(ICILjava/util/Comparator;)Ljava/util/List;" } : Jvm.MethodName) prog_1_method_14_code (11 : Nat) (Option.some (Jvm.ClassFile.FieldType.object "java/util/List"))) ∈ lw_all := lw_g (lw_at lw_m10 191 rfl) rfl
theorem q2414 : (Jvm.Cond.methodLink "Leafcredit" (161 : Nat) ({ cls := "java/util/Comparator", name := "compare", desc := "(Ljava/lang/Object;Ljava/lang/Object;)I" } : Jvm.MethodName)) ∈ lw_all := lw_g (lw_at lw_m10 193 rfl) rfl
theorem q2416 : (Jvm.Cond.methodLink "Leafcredit" (167 : Nat) ({ cls := "java/util/List", name := "add", desc := "(ILjava/lang/Object;)V" } : Jvm.MethodName)) ∈ lw_all := lw_g (lw_at lw_m10 195 rfl) rfl
theorem q2417 : (Jvm.Cond.interfaceMethod "java/util/List" "java/util/List" "add" "(ILjava/lang/Object;)V") ∈ lw_tbl := lw_at lw_m10 196 rfl
theorem q2418 : (Jvm.Cond.declares ({ cls := "java/util/List", name := "add", desc := "(ILjava/lang/Object;)V" } : Jvm.MethodName)) ∈ lw_tbl := lw_at lw_m10 197 rfl
theorem q2419 : (Jvm.Cond.selects "java/util/ArrayList" ({ cls := "java/util/List", name := "add", desc := "(ILjava/lang/Object;)V" } : Jvm.MethodName) ({ cls := "java/util/ArrayList", name := "add", desc := "(ILjava/lang/Object;)V" } : Jvm.MethodName)) ∈ lw_all := lw_g (lw_at lw_m10 198 rfl) rfl
theorem q2420 : (Jvm.Cond.unhidden "java/util/ArrayList" "add" "(ILjava/lang/Object;)V") ∈ lw_tbl := lw_at lw_m10 199 rfl
theorem q2421 : (Jvm.Cond.instanceMethod ({ cls := "java/util/ArrayList", name := "add", desc := "(ILjava/lang/Object;)V" } : Jvm.MethodName)) ∈ lw_all := lw_g (lw_at lw_m10 200 rfl) rfl
theorem q2422 : (Jvm.Cond.publicMethod ({ cls := "java/util/ArrayList", name := "add", desc := "(ILjava/lang/Object;)V" } : Jvm.MethodName)) ∈ lw_tbl := lw_at lw_m10 201 rfl
theorem q2423 : (Jvm.Cond.code ({ cls := "java/util/ArrayList", name := "add", desc := "(ILjava/lang/Object;)V" } : Jvm.MethodName) prog_61_method_26_code (5 : Nat) (Option.none : Option Jvm.ClassFile.FieldType)) ∈ lw_all := lw_g (lw_at lw_m10 202 rfl) rfl
theorem q2424 : (Jvm.Cond.methodLink "java/util/ArrayList" (135 : Nat) ({ cls := "java/util/ArrayList", name := "rangeCheckForAdd", desc := "(I)V" } : Jvm.MethodName)) ∈ lw_all := lw_g (lw_at lw_m10 203 rfl) rfl
theorem q2426 : (Jvm.Cond.instanceMethod ({ cls := "java/util/ArrayList", name := "rangeCheckForAdd", desc := "(I)V" } : Jvm.MethodName)) ∈ lw_all := lw_g (lw_at lw_m10 205 rfl) rfl
theorem q2427 : (Jvm.Cond.code ({ cls := "java/util/ArrayList", name := "rangeCheckForAdd", desc := "(I)V" } : Jvm.MethodName) prog_61_method_45_code (2 : Nat) (Option.none : Option Jvm.ClassFile.FieldType)) ∈ lw_all := lw_g (lw_at lw_m10 206 rfl) rfl
theorem q2630 : (Jvm.Cond.methodLink "Leafcredit" (173 : Nat) ({ cls := "Leafcredit$Piece", name := "part", desc := "(I)LLeafcredit$Piece;" } : Jvm.MethodName)) ∈ lw_all := lw_g (lw_at lw_m11 169 rfl) rfl
theorem q2631 : (Jvm.Cond.instanceMethod ({ cls := "Leafcredit$Piece", name := "part", desc := "(I)LLeafcredit$Piece;" } : Jvm.MethodName)) ∈ lw_all := lw_g (lw_at lw_m11 170 rfl) rfl
theorem q2632 : (Jvm.Cond.selects "Leafcredit$Piece" ({ cls := "Leafcredit$Piece", name := "part", desc := "(I)LLeafcredit$Piece;" } : Jvm.MethodName) ({ cls := "Leafcredit$Piece", name := "part", desc := "(I)LLeafcredit$Piece;" } : Jvm.MethodName)) ∈ lw_all := lw_g (lw_at lw_m11 171 rfl) rfl
theorem q2633 : (Jvm.Cond.code ({ cls := "Leafcredit$Piece", name := "part", desc := "(I)LLeafcredit$Piece;" } : Jvm.MethodName) prog_9_method_5_code (3 : Nat) (Option.some (Jvm.ClassFile.FieldType.object "Leafcredit$Piece"))) ∈ lw_all := lw_g (lw_at lw_m11 172 rfl) rfl
theorem q2634 : (Jvm.Cond.classLink "Leafcredit$Piece" (8 : Nat) "Leafcredit$Piece") ∈ lw_all := lw_g (lw_at lw_m11 173 rfl) rfl
theorem q2635 : (Jvm.Cond.methodLink "Leafcredit$Piece" (45 : Nat) ({ cls := "Leafcredit$Piece", name := "<init>", desc := "(IICIII)V" } : Jvm.MethodName)) ∈ lw_all := lw_g (lw_at lw_m11 174 rfl) rfl
theorem q2636 : (Jvm.Cond.methodLink "Leafcredit" (404 : Nat) ({ cls := "Leafcredit", name := "write", desc := "(Ljava/util/List;I)V" } : Jvm.MethodName)) ∈ lw_all := lw_g (lw_at lw_m11 175 rfl) rfl
theorem q2638 : (Jvm.Cond.instanceMethod ({ cls := "Leafcredit", name := "write", desc := "(Ljava/util/List;I)V" } : Jvm.MethodName)) ∈ lw_all := lw_g (lw_at lw_m11 177 rfl) rfl
theorem q2639 : (Jvm.Cond.code ({ cls := "Leafcredit", name := "write", desc := "(Ljava/util/List;I)V" } : Jvm.MethodName) prog_1_method_15_code (6 : Nat) (Option.none : Option Jvm.ClassFile.FieldType)) ∈ lw_all := lw_g (lw_at lw_m11 178 rfl) rfl
theorem q2640 : (Jvm.Cond.methodLink "LeafcreditLaw" (209 : Nat) ({ cls := "LeafcreditLaw", name := "confirm", desc := "(LLeafcredit;I[J)I" } : Jvm.MethodName)) ∈ lw_all := lw_g (lw_at lw_m11 179 rfl) rfl
theorem q2641 : (Jvm.Cond.static ({ cls := "LeafcreditLaw", name := "confirm", desc := "(LLeafcredit;I[J)I" } : Jvm.MethodName)) ∈ lw_all := lw_g (lw_at lw_m11 180 rfl) rfl
theorem q2642 : (Jvm.Cond.codeWith ({ cls := "LeafcreditLaw", name := "confirm", desc := "(LLeafcredit;I[J)I" } : Jvm.MethodName) method_17_code (4 : Nat) (Option.some Jvm.ClassFile.FieldType.int) [((0 : Nat), (9 : Nat), (12 : Nat), (21 : Nat)), ((0 : Nat), (9 : Nat), (15 : Nat), (26 : Nat))]) ∈ lw_all := lw_g (lw_at lw_m11 181 rfl) rfl
theorem q2643 : (Jvm.Cond.methodLink "LeafcreditLaw" (68 : Nat) ({ cls := "Leafcredit", name := "confirm", desc := "(I)I" } : Jvm.MethodName)) ∈ lw_all := lw_g (lw_at lw_m11 182 rfl) rfl
theorem q2644 : (Jvm.Cond.instanceMethod ({ cls := "Leafcredit", name := "confirm", desc := "(I)I" } : Jvm.MethodName)) ∈ lw_all := lw_g (lw_at lw_m11 183 rfl) rfl
theorem q2645 : (Jvm.Cond.selects "Leafcredit" ({ cls := "Leafcredit", name := "confirm", desc := "(I)I" } : Jvm.MethodName) ({ cls := "Leafcredit", name := "confirm", desc := "(I)I" } : Jvm.MethodName)) ∈ lw_all := lw_g (lw_at lw_m11 184 rfl) rfl
theorem q2646 : (Jvm.Cond.code ({ cls := "Leafcredit", name := "confirm", desc := "(I)I" } : Jvm.MethodName) prog_1_method_38_code (3 : Nat) (Option.some Jvm.ClassFile.FieldType.int)) ∈ lw_all := lw_g (lw_at lw_m11 185 rfl) rfl
theorem q2647 : (Jvm.Cond.methodLink "Leafcredit" (411 : Nat) ({ cls := "Leafcredit", name := "transferWith", desc := "(I)LLeafcredit$Transfer;" } : Jvm.MethodName)) ∈ lw_all := lw_g (lw_at lw_m11 186 rfl) rfl
theorem q2649 : (Jvm.Cond.instanceMethod ({ cls := "Leafcredit", name := "transferWith", desc := "(I)LLeafcredit$Transfer;" } : Jvm.MethodName)) ∈ lw_all := lw_g (lw_at lw_m11 188 rfl) rfl
theorem q2650 : (Jvm.Cond.code ({ cls := "Leafcredit", name := "transferWith", desc := "(I)LLeafcredit$Transfer;" } : Jvm.MethodName) prog_1_method_37_code (2 : Nat) (Option.some (Jvm.ClassFile.FieldType.object "Leafcredit$Transfer"))) ∈ lw_all := lw_g (lw_at lw_m11 189 rfl) rfl
theorem q2651 : (Jvm.Cond.methodLink "LeafcreditLaw" (212 : Nat) ({ cls := "LeafcreditLaw", name := "trust", desc := "(LLeafcredit;II[J)I" } : Jvm.MethodName)) ∈ lw_all := lw_g (lw_at lw_m11 190 rfl) rfl
theorem q2652 : (Jvm.Cond.static ({ cls := "LeafcreditLaw", name := "trust", desc := "(LLeafcredit;II[J)I" } : Jvm.MethodName)) ∈ lw_all := lw_g (lw_at lw_m11 191 rfl) rfl
theorem q2653 : (Jvm.Cond.codeWith ({ cls := "LeafcreditLaw", name := "trust", desc := "(LLeafcredit;II[J)I" } : Jvm.MethodName) method_18_code (5 : Nat) (Option.some Jvm.ClassFile.FieldType.int) [((0 : Nat), (17 : Nat), (20 : Nat), (21 : Nat)), ((0 : Nat), (17 : Nat), (24 : Nat), (13 : Nat))]) ∈ lw_all := lw_g (lw_at lw_m11 192 rfl) rfl
theorem q2654 : (Jvm.Cond.methodLink "LeafcreditLaw" (71 : Nat) ({ cls := "Leafcredit", name := "trust", desc := "(II)Z" } : Jvm.MethodName)) ∈ lw_all := lw_g (lw_at lw_m11 193 rfl) rfl
theorem q2655 : (Jvm.Cond.instanceMethod ({ cls := "Leafcredit", name := "trust", desc := "(II)Z" } : Jvm.MethodName)) ∈ lw_all := lw_g (lw_at lw_m11 194 rfl) rfl
theorem q2656 : (Jvm.Cond.selects "Leafcredit" ({ cls := "Leafcredit", name := "trust", desc := "(II)Z" } : Jvm.MethodName) ({ cls := "Leafcredit", name := "trust", desc := "(II)Z" } : Jvm.MethodName)) ∈ lw_all := lw_g (lw_at lw_m11 195 rfl) rfl
theorem q2657 : (Jvm.Cond.code ({ cls := "Leafcredit", name := "trust", desc := "(II)Z" } : Jvm.MethodName) prog_1_method_39_code (5 : Nat) (Option.some Jvm.ClassFile.FieldType.boolean)) ∈ lw_all := lw_g (lw_at lw_m11 196 rfl) rfl
theorem q2658 : (Jvm.Cond.methodLink "LeafcreditLaw" (215 : Nat) ({ cls := "LeafcreditLaw", name := "freeze", desc := "(LLeafcredit;I[J)I" } : Jvm.MethodName)) ∈ lw_all := lw_g (lw_at lw_m11 197 rfl) rfl
theorem q2659 : (Jvm.Cond.static ({ cls := "LeafcreditLaw", name := "freeze", desc := "(LLeafcredit;I[J)I" } : Jvm.MethodName)) ∈ lw_all := lw_g (lw_at lw_m11 198 rfl) rfl
theorem q2660 : (Jvm.Cond.codeWith ({ cls := "LeafcreditLaw", name := "freeze", desc := "(LLeafcredit;I[J)I" } : Jvm.MethodName) method_19_code (4 : Nat) (Option.some Jvm.ClassFile.FieldType.int) [((0 : Nat), (9 : Nat), (12 : Nat), (21 : Nat)), ((0 : Nat), (9 : Nat), (15 : Nat), (26 : Nat))]) ∈ lw_all := lw_g (lw_at lw_m11 199 rfl) rfl
theorem q2661 : (Jvm.Cond.methodLink "LeafcreditLaw" (75 : Nat) ({ cls := "Leafcredit", name := "freeze", desc := "(I)I" } : Jvm.MethodName)) ∈ lw_all := lw_g (lw_at lw_m11 200 rfl) rfl
theorem q2662 : (Jvm.Cond.instanceMethod ({ cls := "Leafcredit", name := "freeze", desc := "(I)I" } : Jvm.MethodName)) ∈ lw_all := lw_g (lw_at lw_m11 201 rfl) rfl
theorem q2663 : (Jvm.Cond.selects "Leafcredit" ({ cls := "Leafcredit", name := "freeze", desc := "(I)I" } : Jvm.MethodName) ({ cls := "Leafcredit", name := "freeze", desc := "(I)I" } : Jvm.MethodName)) ∈ lw_all := lw_g (lw_at lw_m11 202 rfl) rfl
theorem q2664 : (Jvm.Cond.code ({ cls := "Leafcredit", name := "freeze", desc := "(I)I" } : Jvm.MethodName) prog_1_method_41_code (8 : Nat) (Option.some Jvm.ClassFile.FieldType.int)) ∈ lw_all := lw_g (lw_at lw_m11 203 rfl) rfl
theorem q2665 : (Jvm.Cond.methodLink "Leafcredit" (420 : Nat) ({ cls := "Leafcredit", name := "piecesOf", desc := "([I)Ljava/util/Map;" } : Jvm.MethodName)) ∈ lw_all := lw_g (lw_at lw_m11 204 rfl) rfl
theorem q2667 : (Jvm.Cond.instanceMethod ({ cls := "Leafcredit", name := "piecesOf", desc := "([I)Ljava/util/Map;" } : Jvm.MethodName)) ∈ lw_all := lw_g (lw_at lw_m11 206 rfl) rfl
theorem q2668 : (Jvm.Cond.code ({ cls := "Leafcredit", name := "piecesOf", desc := "([I)Ljava/util/Map;" } : Jvm.MethodName) prog_1_method_40_code (2 : Nat) (Option.some (Jvm.ClassFile.FieldType.object "java/util/Map"))) ∈ lw_all := lw_g (lw_at lw_m11 207 rfl) rfl
theorem q2670 : (Jvm.Cond.methodLink "Leafcredit" (424 : Nat) ({ cls := "java/util/Map", name := "values", desc := "()Ljava/util/Collection;" } : Jvm.MethodName)) ∈ lw_all := lw_g (lw_at lw_m11 209 rfl) rfl
theorem q2671 : (Jvm.Cond.interfaceMethod "java/util/Map" "java/util/Map" "values" "()Ljava/util/Collection;") ∈ lw_tbl := lw_at lw_m11 210 rfl
theorem q2672 : (Jvm.Cond.declares ({ cls := "java/util/Map", name := "values", desc := "()Ljava/util/Collection;" } : Jvm.MethodName)) ∈ lw_tbl := lw_at lw_m11 211 rfl
theorem q2673 : (Jvm.Cond.selects "java/util/TreeMap" ({ cls := "java/util/Map", name := "values", desc := "()Ljava/util/Collection;" } : Jvm.MethodName) ({ cls := "java/util/TreeMap", name := "values", desc := "()Ljava/util/Collection;" } : Jvm.MethodName)) ∈ lw_all := lw_g (lw_at lw_m11 212 rfl) rfl
theorem q2674 : (Jvm.Cond.unhidden "java/util/TreeMap" "values" "()Ljava/util/Collection;") ∈ lw_tbl := lw_at lw_m11 213 rfl
theorem q2675 : (Jvm.Cond.publicMethod ({ cls := "java/util/TreeMap", name := "values", desc := "()Ljava/util/Collection;" } : Jvm.MethodName)) ∈ lw_tbl := lw_at lw_m11 214 rfl
theorem q2676 : (Jvm.Cond.selects "java/util/TreeMap$AscendingSubMap" ({ cls := "java/util/Map", name := "values", desc := "()Ljava/util/Collection;" } : Jvm.MethodName) ({ cls := "java/util/AbstractMap", name := "values", desc := "()Ljava/util/Collection;" } : Jvm.MethodName)) ∈ lw_all := lw_g (lw_at lw_m11 215 rfl) rfl
theorem q2677 : (Jvm.Cond.unhidden "java/util/TreeMap$AscendingSubMap" "values" "()Ljava/util/Collection;") ∈ lw_tbl := lw_at lw_m11 216 rfl
theorem q2678 : (Jvm.Cond.instanceMethod ({ cls := "java/util/AbstractMap", name := "values", desc := "()Ljava/util/Collection;" } : Jvm.MethodName)) ∈ lw_all := lw_g (lw_at lw_m11 217 rfl) rfl
theorem q2679 : (Jvm.Cond.publicMethod ({ cls := "java/util/AbstractMap", name := "values", desc := "()Ljava/util/Collection;" } : Jvm.MethodName)) ∈ lw_tbl := lw_at lw_m11 218 rfl
theorem q2680 : (Jvm.Cond.code ({ cls := "java/util/AbstractMap", name := "values", desc := "()Ljava/util/Collection;" } : Jvm.MethodName) prog_53_method_12_code (2 : Nat) (Option.some (Jvm.ClassFile.FieldType.object "java/util/Collection"))) ∈ lw_all := lw_g (lw_at lw_m11 219 rfl) rfl
theorem q2681 : (Jvm.Cond.classLink "java/util/AbstractMap" (75 : Nat) "java/util/AbstractMap$2") ∈ lw_all := lw_g (lw_at lw_m11 220 rfl) rfl
theorem q2682 : (Jvm.Cond.instantiable "java/util/AbstractMap$2" (1 : Nat)) ∈ lw_all := lw_g (lw_at lw_m11 221 rfl) rfl
theorem q2683 : (Jvm.Cond.methodLink "java/util/AbstractMap" (77 : Nat) ({ cls := "java/util/AbstractMap$2", name := "<init>", desc := "(Ljava/util/AbstractMap;)V" } : Jvm.MethodName)) ∈ lw_all := lw_g (lw_at lw_m11 222 rfl) rfl
theorem q2684 : (Jvm.Cond.instanceMethod ({ cls := "java/util/AbstractMap$2", name := "<init>", desc := "(Ljava/util/AbstractMap;)V" } : Jvm.MethodName)) ∈ lw_all := lw_g (lw_at lw_m11 223 rfl) rfl
theorem q2685 : (Jvm.Cond.code ({ cls := "java/util/AbstractMap$2", name := "<init>", desc := "(Ljava/util/AbstractMap;)V" } : Jvm.MethodName) prog_54_method_1_code (2 : Nat) (Option.none : Option Jvm.ClassFile.FieldType)) ∈ lw_all := lw_g (lw_at lw_m11 224 rfl) rfl
theorem q2686 : (Jvm.Cond.methodLink "java/util/AbstractMap$2" (7 : Nat) ({ cls := "java/util/AbstractCollection", name := "<init>", desc := "()V" } : Jvm.MethodName)) ∈ lw_all := lw_g (lw_at lw_m11 225 rfl) rfl
theorem q2687 : (Jvm.Cond.fieldLink "java/util/AbstractMap$2" (1 : Nat) "java/util/AbstractMap$2" "this$0" "Ljava/util/AbstractMap;") ∈ lw_all := lw_g (lw_at lw_m11 226 rfl) rfl
theorem q2688 : (Jvm.Cond.fieldLink "java/util/AbstractMap$2$1" (13 : Nat) "java/util/AbstractMap$2" "this$0" "Ljava/util/AbstractMap;") ∈ lw_all := lw_g (lw_at lw_m11 227 rfl) rfl
theorem q2692 : (Jvm.Cond.methodLink "LeafcreditLaw" (218 : Nat) ({ cls := "LeafcreditLaw", name := "release", desc := "(LLeafcredit;I[J)I" } : Jvm.MethodName)) ∈ lw_all := lw_g (lw_at lw_m11 231 rfl) rfl
theorem q2693 : (Jvm.Cond.static ({ cls := "LeafcreditLaw", name := "release", desc := "(LLeafcredit;I[J)I" } : Jvm.MethodName)) ∈ lw_all := lw_g (lw_at lw_m11 232 rfl) rfl
theorem q2694 : (Jvm.Cond.codeWith ({ cls := "LeafcreditLaw", name := "release", desc := "(LLeafcredit;I[J)I" } : Jvm.MethodName) method_20_code (4 : Nat) (Option.some Jvm.ClassFile.FieldType.int) [((0 : Nat), (9 : Nat), (12 : Nat), (21 : Nat)), ((0 : Nat), (9 : Nat), (15 : Nat), (26 : Nat))]) ∈ lw_all := lw_g (lw_at lw_m11 233 rfl) rfl
theorem q2695 : (Jvm.Cond.methodLink "LeafcreditLaw" (78 : Nat) ({ cls := "Leafcredit", name := "release", desc := "(I)I" } : Jvm.MethodName)) ∈ lw_all := lw_g (lw_at lw_m11 234 rfl) rfl
theorem q2696 : (Jvm.Cond.instanceMethod ({ cls := "Leafcredit", name := "release", desc := "(I)I" } : Jvm.MethodName)) ∈ lw_all := lw_g (lw_at lw_m11 235 rfl) rfl
theorem q2697 : (Jvm.Cond.selects "Leafcredit" ({ cls := "Leafcredit", name := "release", desc := "(I)I" } : Jvm.MethodName) ({ cls := "Leafcredit", name := "release", desc := "(I)I" } : Jvm.MethodName)) ∈ lw_all := lw_g (lw_at lw_m11 236 rfl) rfl
theorem q2698 : (Jvm.Cond.code ({ cls := "Leafcredit", name := "release", desc := "(I)I" } : Jvm.MethodName) prog_1_method_42_code (8 : Nat) (Option.some Jvm.ClassFile.FieldType.int)) ∈ lw_all := lw_g (lw_at lw_m11 237 rfl) rfl
theorem q2699 : (Jvm.Cond.methodLink "LeafcreditLaw" (221 : Nat) ({ cls := "LeafcreditLaw", name := "stateOf", desc := "(LLeafcredit;I[J)I" } : Jvm.MethodName)) ∈ lw_all := lw_g (lw_at lw_m11 238 rfl) rfl
theorem q2700 : (Jvm.Cond.static ({ cls := "LeafcreditLaw", name := "stateOf", desc := "(LLeafcredit;I[J)I" } : Jvm.MethodName)) ∈ lw_all := lw_g (lw_at lw_m11 239 rfl) rfl
theorem q2701 : (Jvm.Cond.codeWith ({ cls := "LeafcreditLaw", name := "stateOf", desc := "(LLeafcredit;I[J)I" } : Jvm.MethodName) method_21_code (4 : Nat) (Option.some Jvm.ClassFile.FieldType.int) [((0 : Nat), (9 : Nat), (12 : Nat), (21 : Nat))]) ∈ lw_all := lw_g (lw_at lw_m12 0 rfl) rfl
theorem q2702 : (Jvm.Cond.methodLink "LeafcreditLaw" (81 : Nat) ({ cls := "Leafcredit", name := "stateOf", desc := "(I)C" } : Jvm.MethodName)) ∈ lw_all := lw_g (lw_at lw_m12 1 rfl) rfl
theorem q2703 : (Jvm.Cond.instanceMethod ({ cls := "Leafcredit", name := "stateOf", desc := "(I)C" } : Jvm.MethodName)) ∈ lw_all := lw_g (lw_at lw_m12 2 rfl) rfl
theorem q2704 : (Jvm.Cond.selects "Leafcredit" ({ cls := "Leafcredit", name := "stateOf", desc := "(I)C" } : Jvm.MethodName) ({ cls := "Leafcredit", name := "stateOf", desc := "(I)C" } : Jvm.MethodName)) ∈ lw_all := lw_g (lw_at lw_m12 3 rfl) rfl
theorem q2705 : (Jvm.Cond.code ({ cls := "Leafcredit", name := "stateOf", desc := "(I)C" } : Jvm.MethodName) prog_1_method_43_code (2 : Nat) (Option.some Jvm.ClassFile.FieldType.char)) ∈ lw_all := lw_g (lw_at lw_m12 4 rfl) rfl
theorem q2706 : (Jvm.Cond.methodLink "LeafcreditLaw" (224 : Nat) ({ cls := "LeafcreditLaw", name := "units", desc := "(LLeafcredit;IC[J)I" } : Jvm.MethodName)) ∈ lw_all := lw_g (lw_at lw_m12 5 rfl) rfl
theorem q2707 : (Jvm.Cond.static ({ cls := "LeafcreditLaw", name := "units", desc := "(LLeafcredit;IC[J)I" } : Jvm.MethodName)) ∈ lw_all := lw_g (lw_at lw_m12 6 rfl) rfl
theorem q2708 : (Jvm.Cond.codeWith ({ cls := "LeafcreditLaw", name := "units", desc := "(LLeafcredit;IC[J)I" } : Jvm.MethodName) method_22_code (5 : Nat) (Option.some Jvm.ClassFile.FieldType.int) [((0 : Nat), (10 : Nat), (13 : Nat), (21 : Nat)), ((0 : Nat), (10 : Nat), (17 : Nat), (13 : Nat))]) ∈ lw_all := lw_g (lw_at lw_m12 7 rfl) rfl
theorem q2709 : (Jvm.Cond.methodLink "LeafcreditLaw" (85 : Nat) ({ cls := "Leafcredit", name := "units", desc := "(IC)I" } : Jvm.MethodName)) ∈ lw_all := lw_g (lw_at lw_m12 8 rfl) rfl
theorem q2710 : (Jvm.Cond.instanceMethod ({ cls := "Leafcredit", name := "units", desc := "(IC)I" } : Jvm.MethodName)) ∈ lw_all := lw_g (lw_at lw_m12 9 rfl) rfl
theorem q2711 : (Jvm.Cond.selects "Leafcredit" ({ cls := "Leafcredit", name := "units", desc := "(IC)I" } : Jvm.MethodName) ({ cls := "Leafcredit", name := "units", desc := "(IC)I" } : Jvm.MethodName)) ∈ lw_all := lw_g (lw_at lw_m12 10 rfl) rfl
theorem q2712 : (Jvm.Cond.code ({ cls := "Leafcredit", name := "units", desc := "(IC)I" } : Jvm.MethodName) prog_1_method_44_code (6 : Nat) (Option.some Jvm.ClassFile.FieldType.int)) ∈ lw_all := lw_g (lw_at lw_m12 11 rfl) rfl
theorem q2713 : (Jvm.Cond.methodLink "LeafcreditLaw" (228 : Nat) ({ cls := "LeafcreditLaw", name := "usable", desc := "(LLeafcredit;IC[J)I" } : Jvm.MethodName)) ∈ lw_all := lw_g (lw_at lw_m12 12 rfl) rfl
theorem q2714 : (Jvm.Cond.static ({ cls := "LeafcreditLaw", name := "usable", desc := "(LLeafcredit;IC[J)I" } : Jvm.MethodName)) ∈ lw_all := lw_g (lw_at lw_m12 13 rfl) rfl
theorem q2715 : (Jvm.Cond.codeWith ({ cls := "LeafcreditLaw", name := "usable", desc := "(LLeafcredit;IC[J)I" } : Jvm.MethodName) method_23_code (5 : Nat) (Option.some Jvm.ClassFile.FieldType.int) [((0 : Nat), (10 : Nat), (13 : Nat), (21 : Nat)), ((0 : Nat), (10 : Nat), (17 : Nat), (13 : Nat))]) ∈ lw_all := lw_g (lw_at lw_m12 14 rfl) rfl
theorem q2716 : (Jvm.Cond.methodLink "LeafcreditLaw" (89 : Nat) ({ cls := "Leafcredit", name := "usable", desc := "(IC)I" } : Jvm.MethodName)) ∈ lw_all := lw_g (lw_at lw_m12 15 rfl) rfl
theorem q2717 : (Jvm.Cond.instanceMethod ({ cls := "Leafcredit", name := "usable", desc := "(IC)I" } : Jvm.MethodName)) ∈ lw_all := lw_g (lw_at lw_m12 16 rfl) rfl
theorem q2718 : (Jvm.Cond.selects "Leafcredit" ({ cls := "Leafcredit", name := "usable", desc := "(IC)I" } : Jvm.MethodName) ({ cls := "Leafcredit", name := "usable", desc := "(IC)I" } : Jvm.MethodName)) ∈ lw_all := lw_g (lw_at lw_m12 17 rfl) rfl
theorem q2719 : (Jvm.Cond.code ({ cls := "Leafcredit", name := "usable", desc := "(IC)I" } : Jvm.MethodName) prog_1_method_45_code (3 : Nat) (Option.some Jvm.ClassFile.FieldType.int)) ∈ lw_all := lw_g (lw_at lw_m12 18 rfl) rfl
theorem q2720 : (Jvm.Cond.methodLink "LeafcreditLaw" (235 : Nat) ({ cls := "LeafcreditLaw", name := "holderOf", desc := "(LLeafcredit;I[J)I" } : Jvm.MethodName)) ∈ lw_all := lw_g (lw_at lw_m12 19 rfl) rfl
theorem q2721 : (Jvm.Cond.static ({ cls := "LeafcreditLaw", name := "holderOf", desc := "(LLeafcredit;I[J)I" } : Jvm.MethodName)) ∈ lw_all := lw_g (lw_at lw_m12 20 rfl) rfl
theorem q2722 : (Jvm.Cond.codeWith ({ cls := "LeafcreditLaw", name := "holderOf", desc := "(LLeafcredit;I[J)I" } : Jvm.MethodName) method_24_code (4 : Nat) (Option.some Jvm.ClassFile.FieldType.int) [((0 : Nat), (9 : Nat), (12 : Nat), (21 : Nat))]) ∈ lw_all := lw_g (lw_at lw_m12 21 rfl) rfl
theorem q2723 : (Jvm.Cond.methodLink "LeafcreditLaw" (92 : Nat) ({ cls := "Leafcredit", name := "holderOf", desc := "(I)I" } : Jvm.MethodName)) ∈ lw_all := lw_g (lw_at lw_m12 22 rfl) rfl
theorem q2724 : (Jvm.Cond.instanceMethod ({ cls := "Leafcredit", name := "holderOf", desc := "(I)I" } : Jvm.MethodName)) ∈ lw_all := lw_g (lw_at lw_m12 23 rfl) rfl
theorem q2725 : (Jvm.Cond.selects "Leafcredit" ({ cls := "Leafcredit", name := "holderOf", desc := "(I)I" } : Jvm.MethodName) ({ cls := "Leafcredit", name := "holderOf", desc := "(I)I" } : Jvm.MethodName)) ∈ lw_all := lw_g (lw_at lw_m12 24 rfl) rfl
theorem q2726 : (Jvm.Cond.code ({ cls := "Leafcredit", name := "holderOf", desc := "(I)I" } : Jvm.MethodName) prog_1_method_48_code (2 : Nat) (Option.some Jvm.ClassFile.FieldType.int)) ∈ lw_all := lw_g (lw_at lw_m12 25 rfl) rfl
theorem q2727 : (Jvm.Cond.methodLink "Leafcredit" (440 : Nat) ({ cls := "Leafcredit", name := "pieceWith", desc := "(I)LLeafcredit$Piece;" } : Jvm.MethodName)) ∈ lw_all := lw_g (lw_at lw_m12 26 rfl) rfl
theorem q2729 : (Jvm.Cond.instanceMethod ({ cls := "Leafcredit", name := "pieceWith", desc := "(I)LLeafcredit$Piece;" } : Jvm.MethodName)) ∈ lw_all := lw_g (lw_at lw_m12 28 rfl) rfl
theorem q2730 : (Jvm.Cond.code ({ cls := "Leafcredit", name := "pieceWith", desc := "(I)LLeafcredit$Piece;" } : Jvm.MethodName) prog_1_method_47_code (2 : Nat) (Option.some (Jvm.ClassFile.FieldType.object "Leafcredit$Piece"))) ∈ lw_all := lw_g (lw_at lw_m12 29 rfl) rfl
theorem q2731 : (Jvm.Cond.methodLink "LeafcreditLaw" (238 : Nat) ({ cls := "LeafcreditLaw", name := "vintageOf", desc := "(LLeafcredit;I[J)I" } : Jvm.MethodName)) ∈ lw_all := lw_g (lw_at lw_m12 30 rfl) rfl
theorem q2732 : (Jvm.Cond.static ({ cls := "LeafcreditLaw", name := "vintageOf", desc := "(LLeafcredit;I[J)I" } : Jvm.MethodName)) ∈ lw_all := lw_g (lw_at lw_m12 31 rfl) rfl
theorem q2733 : (Jvm.Cond.codeWith ({ cls := "LeafcreditLaw", name := "vintageOf", desc := "(LLeafcredit;I[J)I" } : Jvm.MethodName) method_25_code (4 : Nat) (Option.some Jvm.ClassFile.FieldType.int) [((0 : Nat), (9 : Nat), (12 : Nat), (21 : Nat))]) ∈ lw_all := lw_g (lw_at lw_m12 32 rfl) rfl
theorem q2734 : (Jvm.Cond.methodLink "LeafcreditLaw" (95 : Nat) ({ cls := "Leafcredit", name := "vintageOf", desc := "(I)I" } : Jvm.MethodName)) ∈ lw_all := lw_g (lw_at lw_m12 33 rfl) rfl
theorem q2735 : (Jvm.Cond.instanceMethod ({ cls := "Leafcredit", name := "vintageOf", desc := "(I)I" } : Jvm.MethodName)) ∈ lw_all := lw_g (lw_at lw_m12 34 rfl) rfl
theorem q2736 : (Jvm.Cond.selects "Leafcredit" ({ cls := "Leafcredit", name := "vintageOf", desc := "(I)I" } : Jvm.MethodName) ({ cls := "Leafcredit", name := "vintageOf", desc := "(I)I" } : Jvm.MethodName)) ∈ lw_all := lw_g (lw_at lw_m12 35 rfl) rfl
theorem q2737 : (Jvm.Cond.code ({ cls := "Leafcredit", name := "vintageOf", desc := "(I)I" } : Jvm.MethodName) prog_1_method_49_code (2 : Nat) (Option.some Jvm.ClassFile.FieldType.int)) ∈ lw_all := lw_g (lw_at lw_m12 36 rfl) rfl
theorem q2738 : (Jvm.Cond.methodLink "LeafcreditLaw" (241 : Nat) ({ cls := "LeafcreditLaw", name := "isFrozen", desc := "(LLeafcredit;I[J)I" } : Jvm.MethodName)) ∈ lw_all := lw_g (lw_at lw_m12 37 rfl) rfl
theorem q2739 : (Jvm.Cond.static ({ cls := "LeafcreditLaw", name := "isFrozen", desc := "(LLeafcredit;I[J)I" } : Jvm.MethodName)) ∈ lw_all := lw_g (lw_at lw_m12 38 rfl) rfl
theorem q2740 : (Jvm.Cond.codeWith ({ cls := "LeafcreditLaw", name := "isFrozen", desc := "(LLeafcredit;I[J)I" } : Jvm.MethodName) method_26_code (4 : Nat) (Option.some Jvm.ClassFile.FieldType.int) [((0 : Nat), (16 : Nat), (19 : Nat), (21 : Nat))]) ∈ lw_all := lw_g (lw_at lw_m12 39 rfl) rfl
theorem q2741 : (Jvm.Cond.methodLink "LeafcreditLaw" (98 : Nat) ({ cls := "Leafcredit", name := "isFrozen", desc := "(I)Z" } : Jvm.MethodName)) ∈ lw_all := lw_g (lw_at lw_m12 40 rfl) rfl
theorem q2742 : (Jvm.Cond.instanceMethod ({ cls := "Leafcredit", name := "isFrozen", desc := "(I)Z" } : Jvm.MethodName)) ∈ lw_all := lw_g (lw_at lw_m12 41 rfl) rfl
theorem q2743 : (Jvm.Cond.selects "Leafcredit" ({ cls := "Leafcredit", name := "isFrozen", desc := "(I)Z" } : Jvm.MethodName) ({ cls := "Leafcredit", name := "isFrozen", desc := "(I)Z" } : Jvm.MethodName)) ∈ lw_all := lw_g (lw_at lw_m12 42 rfl) rfl
theorem q2744 : (Jvm.Cond.code ({ cls := "Leafcredit", name := "isFrozen", desc := "(I)Z" } : Jvm.MethodName) prog_1_method_50_code (2 : Nat) (Option.some Jvm.ClassFile.FieldType.boolean)) ∈ lw_all := lw_g (lw_at lw_m12 43 rfl) rfl
theorem q2745 : (Jvm.Cond.methodLink "LeafcreditLaw" (248 : Nat) ({ cls := "LeafcreditLaw", name := "surrender", desc := "(LLeafcredit;IICI[J)I" } : Jvm.MethodName)) ∈ lw_all := lw_g (lw_at lw_m12 44 rfl) rfl
theorem q2746 : (Jvm.Cond.static ({ cls := "LeafcreditLaw", name := "surrender", desc := "(LLeafcredit;IICI[J)I" } : Jvm.MethodName)) ∈ lw_all := lw_g (lw_at lw_m12 45 rfl) rfl
theorem q2747 : (Jvm.Cond.codeWith ({ cls := "LeafcreditLaw", name := "surrender", desc := "(LLeafcredit;IICI[J)I" } : Jvm.MethodName) method_27_code (7 : Nat) (Option.some Jvm.ClassFile.FieldType.int) [((0 : Nat), (13 : Nat), (16 : Nat), (21 : Nat)), ((0 : Nat), (13 : Nat), (20 : Nat), (13 : Nat)), ((0 : Nat), (13 : Nat), (24 : Nat), (36 : Nat)), ((0 : Nat), (13 : Nat), (28 : Nat), (26 : Nat))]) ∈ lw_all := lw_g (lw_at lw_m12 46 rfl) rfl
theorem q2748 : (Jvm.Cond.methodLink "LeafcreditLaw" (102 : Nat) ({ cls := "Leafcredit", name := "surrender", desc := "(IICI)J" } : Jvm.MethodName)) ∈ lw_all := lw_g (lw_at lw_m12 47 rfl) rfl
theorem q2749 : (Jvm.Cond.instanceMethod ({ cls := "Leafcredit", name := "surrender", desc := "(IICI)J" } : Jvm.MethodName)) ∈ lw_all := lw_g (lw_at lw_m12 48 rfl) rfl
theorem q2750 : (Jvm.Cond.selects "Leafcredit" ({ cls := "Leafcredit", name := "surrender", desc := "(IICI)J" } : Jvm.MethodName) ({ cls := "Leafcredit", name := "surrender", desc := "(IICI)J" } : Jvm.MethodName)) ∈ lw_all := lw_g (lw_at lw_m12 49 rfl) rfl
theorem q2751 : (Jvm.Cond.code ({ cls := "Leafcredit", name := "surrender", desc := "(IICI)J" } : Jvm.MethodName) prog_1_method_52_code (8 : Nat) (Option.some Jvm.ClassFile.FieldType.long)) ∈ lw_all := lw_g (lw_at lw_m12 50 rfl) rfl
theorem q2752 : (Jvm.Cond.constantLong "Leafcredit" (450 : Nat) (10 : Int64)) ∈ lw_all := lw_g (lw_at lw_m12 51 rfl) rfl
theorem q2753 : (Jvm.Cond.methodLink "LeafcreditLaw" (251 : Nat) ({ cls := "LeafcreditLaw", name := "surrendered", desc := "(LLeafcredit;C[J)I" } : Jvm.MethodName)) ∈ lw_all := lw_g (lw_at lw_m12 52 rfl) rfl
theorem q2754 : (Jvm.Cond.static ({ cls := "LeafcreditLaw", name := "surrendered", desc := "(LLeafcredit;C[J)I" } : Jvm.MethodName)) ∈ lw_all := lw_g (lw_at lw_m12 53 rfl) rfl
theorem q2755 : (Jvm.Cond.codeWith ({ cls := "LeafcreditLaw", name := "surrendered", desc := "(LLeafcredit;C[J)I" } : Jvm.MethodName) method_28_code (4 : Nat) (Option.some Jvm.ClassFile.FieldType.int) [((0 : Nat), (9 : Nat), (12 : Nat), (13 : Nat))]) ∈ lw_all := lw_g (lw_at lw_m12 54 rfl) rfl
theorem q2756 : (Jvm.Cond.methodLink "LeafcreditLaw" (106 : Nat) ({ cls := "Leafcredit", name := "surrendered", desc := "(C)I" } : Jvm.MethodName)) ∈ lw_all := lw_g (lw_at lw_m12 55 rfl) rfl
theorem q2757 : (Jvm.Cond.instanceMethod ({ cls := "Leafcredit", name := "surrendered", desc := "(C)I" } : Jvm.MethodName)) ∈ lw_all := lw_g (lw_at lw_m12 56 rfl) rfl
theorem q2758 : (Jvm.Cond.selects "Leafcredit" ({ cls := "Leafcredit", name := "surrendered", desc := "(C)I" } : Jvm.MethodName) ({ cls := "Leafcredit", name := "surrendered", desc := "(C)I" } : Jvm.MethodName)) ∈ lw_all := lw_g (lw_at lw_m12 57 rfl) rfl
theorem q2759 : (Jvm.Cond.code ({ cls := "Leafcredit", name := "surrendered", desc := "(C)I" } : Jvm.MethodName) prog_1_method_53_code (2 : Nat) (Option.some Jvm.ClassFile.FieldType.int)) ∈ lw_all := lw_g (lw_at lw_m12 58 rfl) rfl
theorem q2760 : (Jvm.Cond.methodLink "LeafcreditLaw" (263 : Nat) ({ cls := "LeafcreditLaw", name := "addProject", desc := "(LLeafcredit;IIIIZ[J)I" } : Jvm.MethodName)) ∈ lw_all := lw_g (lw_at lw_m12 59 rfl) rfl
theorem q2761 : (Jvm.Cond.static ({ cls := "LeafcreditLaw", name := "addProject", desc := "(LLeafcredit;IIIIZ[J)I" } : Jvm.MethodName)) ∈ lw_all := lw_g (lw_at lw_m12 60 rfl) rfl
theorem q2762 : (Jvm.Cond.codeWith ({ cls := "LeafcreditLaw", name := "addProject", desc := "(LLeafcredit;IIIIZ[J)I" } : Jvm.MethodName) method_29_code (8 : Nat) (Option.some Jvm.ClassFile.FieldType.int) [((0 : Nat), (16 : Nat), (19 : Nat), (21 : Nat)), ((0 : Nat), (16 : Nat), (23 : Nat), (13 : Nat)), ((0 : Nat), (16 : Nat), (27 : Nat), (15 : Nat))]) ∈ lw_all := lw_g (lw_at lw_m12 61 rfl) rfl
theorem q2763 : (Jvm.Cond.methodLink "LeafcreditLaw" (110 : Nat) ({ cls := "Leafcredit", name := "addProject", desc := "(IIIIZ)I" } : Jvm.MethodName)) ∈ lw_all := lw_g (lw_at lw_m12 62 rfl) rfl
theorem q2764 : (Jvm.Cond.instanceMethod ({ cls := "Leafcredit", name := "addProject", desc := "(IIIIZ)I" } : Jvm.MethodName)) ∈ lw_all := lw_g (lw_at lw_m12 63 rfl) rfl
theorem q2765 : (Jvm.Cond.selects "Leafcredit" ({ cls := "Leafcredit", name := "addProject", desc := "(IIIIZ)I" } : Jvm.MethodName) ({ cls := "Leafcredit", name := "addProject", desc := "(IIIIZ)I" } : Jvm.MethodName)) ∈ lw_all := lw_g (lw_at lw_m12 64 rfl) rfl
theorem q2766 : (Jvm.Cond.code ({ cls := "Leafcredit", name := "addProject", desc := "(IIIIZ)I" } : Jvm.MethodName) prog_1_method_56_code (7 : Nat) (Option.some Jvm.ClassFile.FieldType.int)) ∈ lw_all := lw_g (lw_at lw_m12 65 rfl) rfl
theorem q2767 : (Jvm.Cond.classLink "Leafcredit" (455 : Nat) "Leafcredit$Project") ∈ lw_all := lw_g (lw_at lw_m12 66 rfl) rfl
theorem q2768 : (Jvm.Cond.instantiable "Leafcredit$Project" (7 : Nat)) ∈ lw_all := lw_g (lw_at lw_m12 67 rfl) rfl
theorem q2769 : (Jvm.Cond.methodLink "Leafcredit" (457 : Nat) ({ cls := "Leafcredit$Project", name := "<init>", desc := "(LLeafcredit$Account;IIIZ)V" } : Jvm.MethodName)) ∈ lw_all := lw_g (lw_at lw_m12 68 rfl) rfl
theorem q2770 : (Jvm.Cond.instanceMethod ({ cls := "Leafcredit$Project", name := "<init>", desc := "(LLeafcredit$Account;IIIZ)V" } : Jvm.MethodName)) ∈ lw_all := lw_g (lw_at lw_m12 69 rfl) rfl
theorem q2771 : (Jvm.Cond.code ({ cls := "Leafcredit$Project", name := "<init>", desc := "(LLeafcredit$Account;IIIZ)V" } : Jvm.MethodName) prog_11_method_1_code (6 : Nat) (Option.none : Option Jvm.ClassFile.FieldType)) ∈ lw_all := lw_g (lw_at lw_m12 70 rfl) rfl
theorem q2772 : (Jvm.Cond.methodLink "Leafcredit$Project" (3 : Nat) ({ cls := "java/lang/Object", name := "<init>", desc := "()V" } : Jvm.MethodName)) ∈ lw_all := lw_g (lw_at lw_m12 71 rfl) rfl
theorem q2773 : (Jvm.Cond.fieldLink "Leafcredit$Project" (15 : Nat) "Leafcredit$Project" "account" "LLeafcredit$Account;") ∈ lw_all := lw_g (lw_at lw_m12 72 rfl) rfl
theorem q2774 : (Jvm.Cond.fieldLinkNest "Leafcredit" (478 : Nat) "Leafcredit$Project" "account" "LLeafcredit$Account;" "Leafcredit") ∈ lw_tbl := lw_at lw_m12 73 rfl
theorem q2775 : (Jvm.Cond.fieldLink "Leafcredit$Project" (19 : Nat) "Leafcredit$Project" "baseline" "I") ∈ lw_all := lw_g (lw_at lw_m12 74 rfl) rfl
theorem q2776 : (Jvm.Cond.fieldLink "Leafcredit$Project" (22 : Nat) "Leafcredit$Project" "leakage" "I") ∈ lw_all := lw_g (lw_at lw_m12 75 rfl) rfl
theorem q2777 : (Jvm.Cond.fieldLink "Leafcredit$Project" (25 : Nat) "Leafcredit$Project" "buffer" "I") ∈ lw_all := lw_g (lw_at lw_m12 76 rfl) rfl
theorem q2778 : (Jvm.Cond.fieldLinkNest "Leafcredit" (472 : Nat) "Leafcredit$Project" "buffer" "I" "Leafcredit") ∈ lw_tbl := lw_at lw_m12 77 rfl
theorem q2779 : (Jvm.Cond.fieldLink "Leafcredit$Project" (28 : Nat) "Leafcredit$Project" "isAdditional" "Z") ∈ lw_all := lw_g (lw_at lw_m12 78 rfl) rfl
theorem q2780 : (Jvm.Cond.fieldLink "Leafcredit$Project" (9 : Nat) "Leafcredit$Project" "verified" "I") ∈ lw_all := lw_g (lw_at lw_m12 79 rfl) rfl
theorem q2781 : (Jvm.Cond.fieldLinkNest "Leafcredit" (464 : Nat) "Leafcredit$Project" "verified" "I" "Leafcredit") ∈ lw_tbl := lw_at lw_m12 80 rfl
theorem q2782 : (Jvm.Cond.fieldLinkNest "Leafcredit" (467 : Nat) "Leafcredit$Project" "times" "I" "Leafcredit") ∈ lw_tbl := lw_at lw_m12 81 rfl
theorem q2798 : (Jvm.Cond.methodLink "LeafcreditLaw" (267 : Nat) ({ cls := "LeafcreditLaw", name := "verify", desc := "(LLeafcredit;II[J)I" } : Jvm.MethodName)) ∈ lw_all := lw_g (lw_at lw_m12 97 rfl) rfl
theorem q2799 : (Jvm.Cond.static ({ cls := "LeafcreditLaw", name := "verify", desc := "(LLeafcredit;II[J)I" } : Jvm.MethodName)) ∈ lw_all := lw_g (lw_at lw_m12 98 rfl) rfl
theorem q2800 : (Jvm.Cond.codeWith ({ cls := "LeafcreditLaw", name := "verify", desc := "(LLeafcredit;II[J)I" } : Jvm.MethodName) method_30_code (5 : Nat) (Option.some Jvm.ClassFile.FieldType.int) [((0 : Nat), (10 : Nat), (13 : Nat), (21 : Nat)), ((0 : Nat), (10 : Nat), (17 : Nat), (13 : Nat)), ((0 : Nat), (10 : Nat), (21 : Nat), (15 : Nat))]) ∈ lw_all := lw_g (lw_at lw_m12 99 rfl) rfl
theorem q2801 : (Jvm.Cond.methodLink "LeafcreditLaw" (114 : Nat) ({ cls := "Leafcredit", name := "verify", desc := "(II)I" } : Jvm.MethodName)) ∈ lw_all := lw_g (lw_at lw_m12 100 rfl) rfl
theorem q2802 : (Jvm.Cond.instanceMethod ({ cls := "Leafcredit", name := "verify", desc := "(II)I" } : Jvm.MethodName)) ∈ lw_all := lw_g (lw_at lw_m12 101 rfl) rfl
theorem q2803 : (Jvm.Cond.selects "Leafcredit" ({ cls := "Leafcredit", name := "verify", desc := "(II)I" } : Jvm.MethodName) ({ cls := "Leafcredit", name := "verify", desc := "(II)I" } : Jvm.MethodName)) ∈ lw_all := lw_g (lw_at lw_m12 102 rfl) rfl
theorem q2804 : (Jvm.Cond.code ({ cls := "Leafcredit", name := "verify", desc := "(II)I" } : Jvm.MethodName) prog_1_method_58_code (6 : Nat) (Option.some Jvm.ClassFile.FieldType.int)) ∈ lw_all := lw_g (lw_at lw_m12 103 rfl) rfl
theorem q2805 : (Jvm.Cond.methodLink "Leafcredit" (460 : Nat) ({ cls := "Leafcredit", name := "projectWith", desc := "(I)LLeafcredit$Project;" } : Jvm.MethodName)) ∈ lw_all := lw_g (lw_at lw_m12 104 rfl) rfl
theorem q2807 : (Jvm.Cond.instanceMethod ({ cls := "Leafcredit", name := "projectWith", desc := "(I)LLeafcredit$Project;" } : Jvm.MethodName)) ∈ lw_all := lw_g (lw_at lw_m12 106 rfl) rfl
theorem q2808 : (Jvm.Cond.code ({ cls := "Leafcredit", name := "projectWith", desc := "(I)LLeafcredit$Project;" } : Jvm.MethodName) prog_1_method_57_code (2 : Nat) (Option.some (Jvm.ClassFile.FieldType.object "Leafcredit$Project"))) ∈ lw_all := lw_g (lw_at lw_m12 107 rfl) rfl
theorem q2809 : (Jvm.Cond.methodLink "Leafcredit" (470 : Nat) ({ cls := "Leafcredit$Project", name := "offsets", desc := "(I)I" } : Jvm.MethodName)) ∈ lw_all := lw_g (lw_at lw_m12 108 rfl) rfl
theorem q2810 : (Jvm.Cond.instanceMethod ({ cls := "Leafcredit$Project", name := "offsets", desc := "(I)I" } : Jvm.MethodName)) ∈ lw_all := lw_g (lw_at lw_m12 109 rfl) rfl
theorem q2811 : (Jvm.Cond.selects "Leafcredit$Project" ({ cls := "Leafcredit$Project", name := "offsets", desc := "(I)I" } : Jvm.MethodName) ({ cls := "Leafcredit$Project", name := "offsets", desc := "(I)I" } : Jvm.MethodName)) ∈ lw_all := lw_g (lw_at lw_m12 110 rfl) rfl
theorem q2812 : (Jvm.Cond.code ({ cls := "Leafcredit$Project", name := "offsets", desc := "(I)I" } : Jvm.MethodName) prog_11_method_2_code (2 : Nat) (Option.some Jvm.ClassFile.FieldType.int)) ∈ lw_all := lw_g (lw_at lw_m12 111 rfl) rfl
theorem q2813 : (Jvm.Cond.methodLink "Leafcredit$Project" (32 : Nat) ({ cls := "java/lang/Math", name := "max", desc := "(II)I" } : Jvm.MethodName)) ∈ lw_all := lw_g (lw_at lw_m12 112 rfl) rfl
theorem q2814 : (Jvm.Cond.constantLong "Leafcredit$Project" (38 : Nat) (100 : Int64)) ∈ lw_all := lw_g (lw_at lw_m12 113 rfl) rfl
theorem q2815 : (Jvm.Cond.methodLink "Leafcredit" (475 : Nat) ({ cls := "Leafcredit", name := "up", desc := "(JJ)J" } : Jvm.MethodName)) ∈ lw_all := lw_g (lw_at lw_m12 114 rfl) rfl
theorem q2816 : (Jvm.Cond.static ({ cls := "Leafcredit", name := "up", desc := "(JJ)J" } : Jvm.MethodName)) ∈ lw_all := lw_g (lw_at lw_m12 115 rfl) rfl
theorem q2817 : (Jvm.Cond.code ({ cls := "Leafcredit", name := "up", desc := "(JJ)J" } : Jvm.MethodName) prog_1_method_2_code (4 : Nat) (Option.some Jvm.ClassFile.FieldType.long)) ∈ lw_all := lw_g (lw_at lw_m12 116 rfl) rfl
theorem q2818 : (Jvm.Cond.methodLink "LeafcreditLaw" (270 : Nat) ({ cls := "LeafcreditLaw", name := "reverse", desc := "(LLeafcredit;II[J)I" } : Jvm.MethodName)) ∈ lw_all := lw_g (lw_at lw_m12 117 rfl) rfl
theorem q2819 : (Jvm.Cond.static ({ cls := "LeafcreditLaw", name := "reverse", desc := "(LLeafcredit;II[J)I" } : Jvm.MethodName)) ∈ lw_all := lw_g (lw_at lw_m12 118 rfl) rfl
theorem q2820 : (Jvm.Cond.codeWith ({ cls := "LeafcreditLaw", name := "reverse", desc := "(LLeafcredit;II[J)I" } : Jvm.MethodName) method_31_code (5 : Nat) (Option.some Jvm.ClassFile.FieldType.int) [((0 : Nat), (10 : Nat), (13 : Nat), (21 : Nat)), ((0 : Nat), (10 : Nat), (17 : Nat), (13 : Nat))]) ∈ lw_all := lw_g (lw_at lw_m12 119 rfl) rfl
theorem q2821 : (Jvm.Cond.methodLink "LeafcreditLaw" (117 : Nat) ({ cls := "Leafcredit", name := "reverse", desc := "(II)I" } : Jvm.MethodName)) ∈ lw_all := lw_g (lw_at lw_m12 120 rfl) rfl
theorem q2822 : (Jvm.Cond.instanceMethod ({ cls := "Leafcredit", name := "reverse", desc := "(II)I" } : Jvm.MethodName)) ∈ lw_all := lw_g (lw_at lw_m12 121 rfl) rfl
theorem q2823 : (Jvm.Cond.selects "Leafcredit" ({ cls := "Leafcredit", name := "reverse", desc := "(II)I" } : Jvm.MethodName) ({ cls := "Leafcredit", name := "reverse", desc := "(II)I" } : Jvm.MethodName)) ∈ lw_all := lw_g (lw_at lw_m12 122 rfl) rfl
theorem q2824 : (Jvm.Cond.code ({ cls := "Leafcredit", name := "reverse", desc := "(II)I" } : Jvm.MethodName) prog_1_method_59_code (5 : Nat) (Option.some Jvm.ClassFile.FieldType.int)) ∈ lw_all := lw_g (lw_at lw_m12 123 rfl) rfl
theorem q2825 : (Jvm.Cond.methodLink "LeafcreditLaw" (273 : Nat) ({ cls := "LeafcreditLaw", name := "addGood", desc := "(LLeafcredit;III[J)I" } : Jvm.MethodName)) ∈ lw_all := lw_g (lw_at lw_m12 124 rfl) rfl
theorem q2826 : (Jvm.Cond.static ({ cls := "LeafcreditLaw", name := "addGood", desc := "(LLeafcredit;III[J)I" } : Jvm.MethodName)) ∈ lw_all := lw_g (lw_at lw_m12 125 rfl) rfl
theorem q2827 : (Jvm.Cond.codeWith ({ cls := "LeafcreditLaw", name := "addGood", desc := "(LLeafcredit;III[J)I" } : Jvm.MethodName) method_32_code (6 : Nat) (Option.some Jvm.ClassFile.FieldType.int) [((0 : Nat), (12 : Nat), (15 : Nat), (21 : Nat)), ((0 : Nat), (12 : Nat), (19 : Nat), (13 : Nat)), ((0 : Nat), (12 : Nat), (23 : Nat), (15 : Nat))]) ∈ lw_all := lw_g (lw_at lw_m12 126 rfl) rfl
theorem q2828 : (Jvm.Cond.methodLink "LeafcreditLaw" (120 : Nat) ({ cls := "Leafcredit", name := "addGood", desc := "(III)I" } : Jvm.MethodName)) ∈ lw_all := lw_g (lw_at lw_m12 127 rfl) rfl
theorem q2829 : (Jvm.Cond.instanceMethod ({ cls := "Leafcredit", name := "addGood", desc := "(III)I" } : Jvm.MethodName)) ∈ lw_all := lw_g (lw_at lw_m12 128 rfl) rfl
theorem q2830 : (Jvm.Cond.selects "Leafcredit" ({ cls := "Leafcredit", name := "addGood", desc := "(III)I" } : Jvm.MethodName) ({ cls := "Leafcredit", name := "addGood", desc := "(III)I" } : Jvm.MethodName)) ∈ lw_all := lw_g (lw_at lw_m12 129 rfl) rfl
theorem q2831 : (Jvm.Cond.code ({ cls := "Leafcredit", name := "addGood", desc := "(III)I" } : Jvm.MethodName) prog_1_method_60_code (4 : Nat) (Option.some Jvm.ClassFile.FieldType.int)) ∈ lw_all := lw_g (lw_at lw_m12 130 rfl) rfl
theorem q2832 : (Jvm.Cond.classLink "Leafcredit" (486 : Nat) "Leafcredit$Good") ∈ lw_all := lw_g (lw_at lw_m12 131 rfl) rfl
theorem q2833 : (Jvm.Cond.instantiable "Leafcredit$Good" (3 : Nat)) ∈ lw_all := lw_g (lw_at lw_m12 132 rfl) rfl
theorem q2834 : (Jvm.Cond.methodLink "Leafcredit" (488 : Nat) ({ cls := "Leafcredit$Good", name := "<init>", desc := "(ILLeafcredit$Good;I)V" } : Jvm.MethodName)) ∈ lw_all := lw_g (lw_at lw_m12 133 rfl) rfl
theorem q2835 : (Jvm.Cond.instanceMethod ({ cls := "Leafcredit$Good", name := "<init>", desc := "(ILLeafcredit$Good;I)V" } : Jvm.MethodName)) ∈ lw_all := lw_g (lw_at lw_m12 134 rfl) rfl
theorem q2836 : (Jvm.Cond.code ({ cls := "Leafcredit$Good", name := "<init>", desc := "(ILLeafcredit$Good;I)V" } : Jvm.MethodName) prog_8_method_1_code (4 : Nat) (Option.none : Option Jvm.ClassFile.FieldType)) ∈ lw_all := lw_g (lw_at lw_m12 135 rfl) rfl
theorem q2837 : (Jvm.Cond.methodLink "Leafcredit$Good" (3 : Nat) ({ cls := "java/lang/Object", name := "<init>", desc := "()V" } : Jvm.MethodName)) ∈ lw_all := lw_g (lw_at lw_m12 136 rfl) rfl
theorem q2838 : (Jvm.Cond.fieldLink "Leafcredit$Good" (9 : Nat) "Leafcredit$Good" "own" "I") ∈ lw_all := lw_g (lw_at lw_m12 137 rfl) rfl
theorem q2839 : (Jvm.Cond.fieldLink "Leafcredit$Good" (15 : Nat) "Leafcredit$Good" "input" "LLeafcredit$Good;") ∈ lw_all := lw_g (lw_at lw_m12 138 rfl) rfl
theorem q2840 : (Jvm.Cond.fieldLink "Leafcredit$Good" (19 : Nat) "Leafcredit$Good" "amount" "I") ∈ lw_all := lw_g (lw_at lw_m12 139 rfl) rfl
theorem q2848 : (Jvm.Cond.methodLink "LeafcreditLaw" (276 : Nat) ({ cls := "LeafcreditLaw", name := "embedded", desc := "(LLeafcredit;I[J)I" } : Jvm.MethodName)) ∈ lw_all := lw_g (lw_at lw_m12 147 rfl) rfl
theorem q2849 : (Jvm.Cond.static ({ cls := "LeafcreditLaw", name := "embedded", desc := "(LLeafcredit;I[J)I" } : Jvm.MethodName)) ∈ lw_all := lw_g (lw_at lw_m12 148 rfl) rfl
theorem q2850 : (Jvm.Cond.codeWith ({ cls := "LeafcreditLaw", name := "embedded", desc := "(LLeafcredit;I[J)I" } : Jvm.MethodName) method_33_code (4 : Nat) (Option.some Jvm.ClassFile.FieldType.int) [((0 : Nat), (8 : Nat), (11 : Nat), (21 : Nat))]) ∈ lw_all := lw_g (lw_at lw_m12 149 rfl) rfl
theorem q2851 : (Jvm.Cond.methodLink "LeafcreditLaw" (123 : Nat) ({ cls := "Leafcredit", name := "embedded", desc := "(I)J" } : Jvm.MethodName)) ∈ lw_all := lw_g (lw_at lw_m12 150 rfl) rfl
theorem q2852 : (Jvm.Cond.instanceMethod ({ cls := "Leafcredit", name := "embedded", desc := "(I)J" } : Jvm.MethodName)) ∈ lw_all := lw_g (lw_at lw_m12 151 rfl) rfl
theorem q2853 : (Jvm.Cond.selects "Leafcredit" ({ cls := "Leafcredit", name := "embedded", desc := "(I)J" } : Jvm.MethodName) ({ cls := "Leafcredit", name := "embedded", desc := "(I)J" } : Jvm.MethodName)) ∈ lw_all := lw_g (lw_at lw_m12 152 rfl) rfl
theorem q2854 : (Jvm.Cond.code ({ cls := "Leafcredit", name := "embedded", desc := "(I)J" } : Jvm.MethodName) prog_1_method_61_code (2 : Nat) (Option.some Jvm.ClassFile.FieldType.long)) ∈ lw_all := lw_g (lw_at lw_m12 153 rfl) rfl
theorem q2855 : (Jvm.Cond.methodLink "Leafcredit" (491 : Nat) ({ cls := "Leafcredit$Good", name := "embedded", desc := "()J" } : Jvm.MethodName)) ∈ lw_all := lw_g (lw_at lw_m12 154 rfl) rfl
theorem q2856 : (Jvm.Cond.instanceMethod ({ cls := "Leafcredit$Good", name := "embedded", desc := "()J" } : Jvm.MethodName)) ∈ lw_all := lw_g (lw_at lw_m12 155 rfl) rfl
theorem q2857 : (Jvm.Cond.selects "Leafcredit$Good" ({ cls := "Leafcredit$Good", name := "embedded", desc := "()J" } : Jvm.MethodName) ({ cls := "Leafcredit$Good", name := "embedded", desc := "()J" } : Jvm.MethodName)) ∈ lw_all := lw_g (lw_at lw_m12 156 rfl) rfl
theorem q2858 : (Jvm.Cond.code ({ cls := "Leafcredit$Good", name := "embedded", desc := "()J" } : Jvm.MethodName) prog_8_method_2_code (1 : Nat) (Option.some Jvm.ClassFile.FieldType.long)) ∈ lw_all := lw_g (lw_at lw_m12 157 rfl) rfl
theorem q2859 : (Jvm.Cond.methodLink "Leafcredit$Good" (22 : Nat) ({ cls := "Leafcredit$Good", name := "embedded", desc := "()J" } : Jvm.MethodName)) ∈ lw_all := lw_g (lw_at lw_m12 158 rfl) rfl
theorem q2860 : (Jvm.Cond.constantLong "Leafcredit$Good" (26 : Nat) (1000 : Int64)) ∈ lw_all := lw_g (lw_at lw_m12 159 rfl) rfl
theorem q2861 : (Jvm.Cond.methodLink "LeafcreditLaw" (279 : Nat) ({ cls := "LeafcreditLaw", name := "importGood", desc := "(LLeafcredit;IIII[J)I" } : Jvm.MethodName)) ∈ lw_all := lw_g (lw_at lw_m12 160 rfl) rfl
theorem q2862 : (Jvm.Cond.static ({ cls := "LeafcreditLaw", name := "importGood", desc := "(LLeafcredit;IIII[J)I" } : Jvm.MethodName)) ∈ lw_all := lw_g (lw_at lw_m12 161 rfl) rfl
theorem q2863 : (Jvm.Cond.codeWith ({ cls := "LeafcreditLaw", name := "importGood", desc := "(LLeafcredit;IIII[J)I" } : Jvm.MethodName) method_34_code (7 : Nat) (Option.some Jvm.ClassFile.FieldType.int) [((0 : Nat), (13 : Nat), (16 : Nat), (21 : Nat)), ((0 : Nat), (13 : Nat), (20 : Nat), (13 : Nat))]) ∈ lw_all := lw_g (lw_at lw_m12 162 rfl) rfl
theorem q2864 : (Jvm.Cond.methodLink "LeafcreditLaw" (126 : Nat) ({ cls := "Leafcredit", name := "importGood", desc := "(IIII)J" } : Jvm.MethodName)) ∈ lw_all := lw_g (lw_at lw_m12 163 rfl) rfl
theorem q2865 : (Jvm.Cond.instanceMethod ({ cls := "Leafcredit", name := "importGood", desc := "(IIII)J" } : Jvm.MethodName)) ∈ lw_all := lw_g (lw_at lw_m12 164 rfl) rfl
theorem q2866 : (Jvm.Cond.selects "Leafcredit" ({ cls := "Leafcredit", name := "importGood", desc := "(IIII)J" } : Jvm.MethodName) ({ cls := "Leafcredit", name := "importGood", desc := "(IIII)J" } : Jvm.MethodName)) ∈ lw_all := lw_g (lw_at lw_m12 165 rfl) rfl
theorem q2867 : (Jvm.Cond.code ({ cls := "Leafcredit", name := "importGood", desc := "(IIII)J" } : Jvm.MethodName) prog_1_method_62_code (8 : Nat) (Option.some Jvm.ClassFile.FieldType.long)) ∈ lw_all := lw_g (lw_at lw_m12 166 rfl) rfl
theorem q2868 : (Jvm.Cond.methodLink "LeafcreditLaw" (283 : Nat) ({ cls := "LeafcreditLaw", name := "advance", desc := "(LLeafcredit;I[J)I" } : Jvm.MethodName)) ∈ lw_all := lw_g (lw_at lw_m12 167 rfl) rfl
theorem q2869 : (Jvm.Cond.static ({ cls := "LeafcreditLaw", name := "advance", desc := "(LLeafcredit;I[J)I" } : Jvm.MethodName)) ∈ lw_all := lw_g (lw_at lw_m12 168 rfl) rfl
theorem q2870 : (Jvm.Cond.codeWith ({ cls := "LeafcreditLaw", name := "advance", desc := "(LLeafcredit;I[J)I" } : Jvm.MethodName) method_35_code (4 : Nat) (Option.some Jvm.ClassFile.FieldType.int) [((0 : Nat), (9 : Nat), (12 : Nat), (13 : Nat))]) ∈ lw_all := lw_g (lw_at lw_m12 169 rfl) rfl
theorem q2871 : (Jvm.Cond.methodLink "LeafcreditLaw" (130 : Nat) ({ cls := "Leafcredit", name := "advance", desc := "(I)I" } : Jvm.MethodName)) ∈ lw_all := lw_g (lw_at lw_m12 170 rfl) rfl
theorem q2872 : (Jvm.Cond.instanceMethod ({ cls := "Leafcredit", name := "advance", desc := "(I)I" } : Jvm.MethodName)) ∈ lw_all := lw_g (lw_at lw_m12 171 rfl) rfl
theorem q2873 : (Jvm.Cond.selects "Leafcredit" ({ cls := "Leafcredit", name := "advance", desc := "(I)I" } : Jvm.MethodName) ({ cls := "Leafcredit", name := "advance", desc := "(I)I" } : Jvm.MethodName)) ∈ lw_all := lw_g (lw_at lw_m12 172 rfl) rfl
theorem q2874 : (Jvm.Cond.code ({ cls := "Leafcredit", name := "advance", desc := "(I)I" } : Jvm.MethodName) prog_1_method_63_code (3 : Nat) (Option.some Jvm.ClassFile.FieldType.int)) ∈ lw_all := lw_g (lw_at lw_m12 173 rfl) rfl
theorem q2875 : (Jvm.Cond.methodLink "Leafcredit" (497 : Nat) ({ cls := "Leafcredit", name := "end", desc := "(I)V" } : Jvm.MethodName)) ∈ lw_all := lw_g (lw_at lw_m12 174 rfl) rfl
theorem q2877 : (Jvm.Cond.instanceMethod ({ cls := "Leafcredit", name := "end", desc := "(I)V" } : Jvm.MethodName)) ∈ lw_all := lw_g (lw_at lw_m12 176 rfl) rfl
theorem q2878 : (Jvm.Cond.code ({ cls := "Leafcredit", name := "end", desc := "(I)V" } : Jvm.MethodName) prog_1_method_64_code (3 : Nat) (Option.none : Option Jvm.ClassFile.FieldType)) ∈ lw_all := lw_g (lw_at lw_m12 177 rfl) rfl
theorem q2879 : (Jvm.Cond.methodLink "Leafcredit" (503 : Nat) ({ cls := "Leafcredit$Account", name := "end", desc := "(I)V" } : Jvm.MethodName)) ∈ lw_all := lw_g (lw_at lw_m12 178 rfl) rfl
theorem q2880 : (Jvm.Cond.instanceMethod ({ cls := "Leafcredit$Account", name := "end", desc := "(I)V" } : Jvm.MethodName)) ∈ lw_all := lw_g (lw_at lw_m12 179 rfl) rfl
theorem q2881 : (Jvm.Cond.selects "Leafcredit$Account" ({ cls := "Leafcredit$Account", name := "end", desc := "(I)V" } : Jvm.MethodName) ({ cls := "Leafcredit$Account", name := "end", desc := "(I)V" } : Jvm.MethodName)) ∈ lw_all := lw_g (lw_at lw_m12 180 rfl) rfl
theorem q2882 : (Jvm.Cond.code ({ cls := "Leafcredit$Account", name := "end", desc := "(I)V" } : Jvm.MethodName) prog_2_method_2_code (6 : Nat) (Option.none : Option Jvm.ClassFile.FieldType)) ∈ lw_all := lw_g (lw_at lw_m12 181 rfl) rfl
theorem q2889 : (Jvm.Cond.methodLink "Leafcredit$Duty" (1 : Nat) ({ cls := "Leafcredit$Duty", name := "owed", desc := "()J" } : Jvm.MethodName)) ∈ lw_all := lw_g (lw_at lw_m12 188 rfl) rfl
theorem q2890 : (Jvm.Cond.interfaceMethod "Leafcredit$Duty" "Leafcredit$Duty" "owed" "()J") ∈ lw_tbl := lw_at lw_m12 189 rfl
theorem q2891 : (Jvm.Cond.declares ({ cls := "Leafcredit$Duty", name := "owed", desc := "()J" } : Jvm.MethodName)) ∈ lw_tbl := lw_at lw_m12 190 rfl
theorem q2892 : (Jvm.Cond.castable "Leafcredit$Plant" "Leafcredit$Duty") ∈ lw_tbl := lw_at lw_m12 191 rfl
theorem q2893 : (Jvm.Cond.selects "Leafcredit$Plant" ({ cls := "Leafcredit$Duty", name := "owed", desc := "()J" } : Jvm.MethodName) ({ cls := "Leafcredit$Plant", name := "owed", desc := "()J" } : Jvm.MethodName)) ∈ lw_all := lw_g (lw_at lw_m12 192 rfl) rfl
theorem q2894 : (Jvm.Cond.unhidden "Leafcredit$Plant" "owed" "()J") ∈ lw_tbl := lw_at lw_m12 193 rfl
theorem q2895 : (Jvm.Cond.instanceMethod ({ cls := "Leafcredit$Plant", name := "owed", desc := "()J" } : Jvm.MethodName)) ∈ lw_all := lw_g (lw_at lw_m12 194 rfl) rfl
theorem q2896 : (Jvm.Cond.publicMethod ({ cls := "Leafcredit$Plant", name := "owed", desc := "()J" } : Jvm.MethodName)) ∈ lw_tbl := lw_at lw_m12 195 rfl
theorem q2897 : (Jvm.Cond.code ({ cls := "Leafcredit$Plant", name := "owed", desc := "()J" } : Jvm.MethodName) prog_10_method_2_code (3 : Nat) (Option.some Jvm.ClassFile.FieldType.long)) ∈ lw_all := lw_g (lw_at lw_m12 196 rfl) rfl
theorem q2898 : (Jvm.Cond.constantLong "Leafcredit$Plant" (35 : Nat) (11 : Int64)) ∈ lw_all := lw_g (lw_at lw_m12 197 rfl) rfl
theorem q2899 : (Jvm.Cond.constantLong "Leafcredit$Plant" (40 : Nat) (10 : Int64)) ∈ lw_all := lw_g (lw_at lw_m12 198 rfl) rfl
theorem q2900 : (Jvm.Cond.methodLinkNest "Leafcredit$Plant" (42 : Nat) ({ cls := "Leafcredit", name := "up", desc := "(JJ)J" } : Jvm.MethodName) "Leafcredit") ∈ lw_tbl := lw_at lw_m12 199 rfl
theorem q2901 : (Jvm.Cond.constantLong "Leafcredit$Plant" (49 : Nat) (1000 : Int64)) ∈ lw_all := lw_g (lw_at lw_m12 200 rfl) rfl
theorem q2902 : (Jvm.Cond.methodLink "Leafcredit$Plant" (51 : Nat) ({ cls := "java/util/TreeMap", name := "isEmpty", desc := "()Z" } : Jvm.MethodName)) ∈ lw_all := lw_g (lw_at lw_m12 201 rfl) rfl
theorem q2903 : (Jvm.Cond.sameMethod "java/util/TreeMap" "java/util/AbstractMap" "isEmpty" "()Z") ∈ lw_all := lw_g (lw_at lw_m12 202 rfl) rfl
theorem q2905 : (Jvm.Cond.selects "java/util/TreeMap" ({ cls := "java/util/TreeMap", name := "isEmpty", desc := "()Z" } : Jvm.MethodName) ({ cls := "java/util/AbstractMap", name := "isEmpty", desc := "()Z" } : Jvm.MethodName)) ∈ lw_all := lw_g (lw_at lw_m12 204 rfl) rfl
theorem q2906 : (Jvm.Cond.instanceMethod ({ cls := "java/util/AbstractMap", name := "isEmpty", desc := "()Z" } : Jvm.MethodName)) ∈ lw_all := lw_g (lw_at lw_m12 205 rfl) rfl
theorem q2907 : (Jvm.Cond.code ({ cls := "java/util/AbstractMap", name := "isEmpty", desc := "()Z" } : Jvm.MethodName) prog_53_method_3_code (1 : Nat) (Option.some Jvm.ClassFile.FieldType.boolean)) ∈ lw_all := lw_g (lw_at lw_m12 206 rfl) rfl
theorem q2908 : (Jvm.Cond.methodLink "java/util/AbstractMap" (19 : Nat) ({ cls := "java/util/AbstractMap", name := "size", desc := "()I" } : Jvm.MethodName)) ∈ lw_all := lw_g (lw_at lw_m12 207 rfl) rfl
theorem q2909 : (Jvm.Cond.methodLink "Leafcredit$Plant" (55 : Nat) ({ cls := "java/util/TreeMap", name := "lastEntry", desc := "()Ljava/util/Map$Entry;" } : Jvm.MethodName)) ∈ lw_all := lw_g (lw_at lw_m12 208 rfl) rfl
theorem q2910 : (Jvm.Cond.instanceMethod ({ cls := "java/util/TreeMap", name := "lastEntry", desc := "()Ljava/util/Map$Entry;" } : Jvm.MethodName)) ∈ lw_all := lw_g (lw_at lw_m12 209 rfl) rfl
theorem q2911 : (Jvm.Cond.selects "java/util/TreeMap" ({ cls := "java/util/TreeMap", name := "lastEntry", desc := "()Ljava/util/Map$Entry;" } : Jvm.MethodName) ({ cls := "java/util/TreeMap", name := "lastEntry", desc := "()Ljava/util/Map$Entry;" } : Jvm.MethodName)) ∈ lw_all := lw_g (lw_at lw_m12 210 rfl) rfl
theorem q2912 : (Jvm.Cond.code ({ cls := "java/util/TreeMap", name := "lastEntry", desc := "()Ljava/util/Map$Entry;" } : Jvm.MethodName) prog_83_method_38_code (1 : Nat) (Option.some (Jvm.ClassFile.FieldType.object "java/util/Map$Entry"))) ∈ lw_all := lw_g (lw_at lw_m12 211 rfl) rfl
theorem q2913 : (Jvm.Cond.methodLink "java/util/TreeMap" (76 : Nat) ({ cls := "java/util/TreeMap", name := "getLastEntry", desc := "()Ljava/util/TreeMap$Entry;" } : Jvm.MethodName)) ∈ lw_all := lw_g (lw_at lw_m12 212 rfl) rfl
theorem q2914 : (Jvm.Cond.instanceMethod ({ cls := "java/util/TreeMap", name := "getLastEntry", desc := "()Ljava/util/TreeMap$Entry;" } : Jvm.MethodName)) ∈ lw_all := lw_g (lw_at lw_m12 213 rfl) rfl
theorem q2915 : (Jvm.Cond.selects "java/util/TreeMap" ({ cls := "java/util/TreeMap", name := "getLastEntry", desc := "()Ljava/util/TreeMap$Entry;" } : Jvm.MethodName) ({ cls := "java/util/TreeMap", name := "getLastEntry", desc := "()Ljava/util/TreeMap$Entry;" } : Jvm.MethodName)) ∈ lw_all := lw_g (lw_at lw_m12 214 rfl) rfl
theorem q2916 : (Jvm.Cond.code ({ cls := "java/util/TreeMap", name := "getLastEntry", desc := "()Ljava/util/TreeMap$Entry;" } : Jvm.MethodName) prog_83_method_73_code (2 : Nat) (Option.some (Jvm.ClassFile.FieldType.object "java/util/TreeMap$Entry"))) ∈ lw_all := lw_g (lw_at lw_m12 215 rfl) rfl
theorem q2918 : (Jvm.Cond.methodLink "Leafcredit$Plant" (59 : Nat) ({ cls := "java/util/Map$Entry", name := "getValue", desc := "()Ljava/lang/Object;" } : Jvm.MethodName)) ∈ lw_all := lw_g (lw_at lw_m12 217 rfl) rfl
theorem q2919 : (Jvm.Cond.classLink "Leafcredit$Plant" (65 : Nat) "java/lang/Long") ∈ lw_all := lw_g (lw_at lw_m12 218 rfl) rfl
theorem q2920 : (Jvm.Cond.methodLink "Leafcredit$Plant" (67 : Nat) ({ cls := "java/lang/Long", name := "longValue", desc := "()J" } : Jvm.MethodName)) ∈ lw_all := lw_g (lw_at lw_m12 219 rfl) rfl
theorem q2921 : (Jvm.Cond.castable "Leafcredit$Sum" "Leafcredit$Duty") ∈ lw_tbl := lw_at lw_m12 220 rfl
theorem q2922 : (Jvm.Cond.selects "Leafcredit$Sum" ({ cls := "Leafcredit$Duty", name := "owed", desc := "()J" } : Jvm.MethodName) ({ cls := "Leafcredit$Sum", name := "owed", desc := "()J" } : Jvm.MethodName)) ∈ lw_all := lw_g (lw_at lw_m12 221 rfl) rfl
theorem q2923 : (Jvm.Cond.unhidden "Leafcredit$Sum" "owed" "()J") ∈ lw_tbl := lw_at lw_m12 222 rfl
theorem q2924 : (Jvm.Cond.instanceMethod ({ cls := "Leafcredit$Sum", name := "owed", desc := "()J" } : Jvm.MethodName)) ∈ lw_all := lw_g (lw_at lw_m12 223 rfl) rfl
theorem q2925 : (Jvm.Cond.publicMethod ({ cls := "Leafcredit$Sum", name := "owed", desc := "()J" } : Jvm.MethodName)) ∈ lw_tbl := lw_at lw_m12 224 rfl
theorem q2926 : (Jvm.Cond.code ({ cls := "Leafcredit$Sum", name := "owed", desc := "()J" } : Jvm.MethodName) prog_12_method_2_code (1 : Nat) (Option.some Jvm.ClassFile.FieldType.long)) ∈ lw_all := lw_g (lw_at lw_m12 225 rfl) rfl
theorem q2928 : (Jvm.Cond.methodLink "Leafcredit$Duty" (7 : Nat) ({ cls := "Leafcredit$Duty", name := "clear", desc := "()V" } : Jvm.MethodName)) ∈ lw_all := lw_g (lw_at lw_m12 227 rfl) rfl
theorem q2929 : (Jvm.Cond.interfaceMethod "Leafcredit$Duty" "Leafcredit$Duty" "clear" "()V") ∈ lw_tbl := lw_at lw_m12 228 rfl
theorem q2930 : (Jvm.Cond.declares ({ cls := "Leafcredit$Duty", name := "clear", desc := "()V" } : Jvm.MethodName)) ∈ lw_tbl := lw_at lw_m12 229 rfl
theorem q2931 : (Jvm.Cond.selects "Leafcredit$Plant" ({ cls := "Leafcredit$Duty", name := "clear", desc := "()V" } : Jvm.MethodName) ({ cls := "Leafcredit$Plant", name := "clear", desc := "()V" } : Jvm.MethodName)) ∈ lw_all := lw_g (lw_at lw_m12 230 rfl) rfl
theorem q2932 : (Jvm.Cond.unhidden "Leafcredit$Plant" "clear" "()V") ∈ lw_tbl := lw_at lw_m12 231 rfl
theorem q2933 : (Jvm.Cond.instanceMethod ({ cls := "Leafcredit$Plant", name := "clear", desc := "()V" } : Jvm.MethodName)) ∈ lw_all := lw_g (lw_at lw_m12 232 rfl) rfl
theorem q2934 : (Jvm.Cond.publicMethod ({ cls := "Leafcredit$Plant", name := "clear", desc := "()V" } : Jvm.MethodName)) ∈ lw_tbl := lw_at lw_m12 233 rfl
theorem q2935 : (Jvm.Cond.code ({ cls := "Leafcredit$Plant", name := "clear", desc := "()V" } : Jvm.MethodName) prog_10_method_3_code (1 : Nat) (Option.none : Option Jvm.ClassFile.FieldType)) ∈ lw_all := lw_g (lw_at lw_m12 234 rfl) rfl
theorem q2936 : (Jvm.Cond.selects "Leafcredit$Sum" ({ cls := "Leafcredit$Duty", name := "clear", desc := "()V" } : Jvm.MethodName) ({ cls := "Leafcredit$Sum", name := "clear", desc := "()V" } : Jvm.MethodName)) ∈ lw_all := lw_g (lw_at lw_m12 235 rfl) rfl
theorem q2937 : (Jvm.Cond.unhidden "Leafcredit$Sum" "clear" "()V") ∈ lw_tbl := lw_at lw_m12 236 rfl
theorem q2938 : (Jvm.Cond.instanceMethod ({ cls := "Leafcredit$Sum", name := "clear", desc := "()V" } : Jvm.MethodName)) ∈ lw_all := lw_g (lw_at lw_m12 237 rfl) rfl
theorem q2939 : (Jvm.Cond.publicMethod ({ cls := "Leafcredit$Sum", name := "clear", desc := "()V" } : Jvm.MethodName)) ∈ lw_tbl := lw_at lw_m12 238 rfl
theorem q2940 : (Jvm.Cond.code ({ cls := "Leafcredit$Sum", name := "clear", desc := "()V" } : Jvm.MethodName) prog_12_method_3_code (1 : Nat) (Option.none : Option Jvm.ClassFile.FieldType)) ∈ lw_all := lw_g (lw_at lw_m12 239 rfl) rfl
theorem q2942 : (Jvm.Cond.methodLink "Leafcredit$Account" (51 : Nat) ({ cls := "java/lang/Integer", name := "valueOf", desc := "(I)Ljava/lang/Integer;" } : Jvm.MethodName)) ∈ lw_all := lw_g (lw_at lw_m13 1 rfl) rfl
theorem q2943 : (Jvm.Cond.methodLink "Leafcredit$Account" (57 : Nat) ({ cls := "java/lang/Long", name := "valueOf", desc := "(J)Ljava/lang/Long;" } : Jvm.MethodName)) ∈ lw_all := lw_g (lw_at lw_m13 2 rfl) rfl
theorem q2944 : (Jvm.Cond.static ({ cls := "java/lang/Long", name := "valueOf", desc := "(J)Ljava/lang/Long;" } : Jvm.MethodName)) ∈ lw_all := lw_g (lw_at lw_m13 3 rfl) rfl
theorem q2945 : (Jvm.Cond.code ({ cls := "java/lang/Long", name := "valueOf", desc := "(J)Ljava/lang/Long;" } : Jvm.MethodName) prog_36_method_24_code (3 : Nat) (Option.some (Jvm.ClassFile.FieldType.object "java/lang/Long"))) ∈ lw_all := lw_g (lw_at lw_m13 4 rfl) rfl
theorem q2946 : (Jvm.Cond.constantLong "java/lang/Long" (230 : Nat) (-128 : Int64)) ∈ lw_all := lw_g (lw_at lw_m13 5 rfl) rfl
theorem q2947 : (Jvm.Cond.constantLong "java/lang/Long" (232 : Nat) (127 : Int64)) ∈ lw_all := lw_g (lw_at lw_m13 6 rfl) rfl
theorem q2948 : (Jvm.Cond.fieldLink "java/lang/Long" (234 : Nat) "java/lang/Long$LongCache" "cache" "[Ljava/lang/Long;") ∈ lw_all := lw_g (lw_at lw_m13 7 rfl) rfl
theorem q2950 : (Jvm.Cond.instantiable "java/lang/Long" (1 : Nat)) ∈ lw_all := lw_g (lw_at lw_m13 9 rfl) rfl
theorem q2951 : (Jvm.Cond.methodLink "java/lang/Long" (240 : Nat) ({ cls := "java/lang/Long", name := "<init>", desc := "(J)V" } : Jvm.MethodName)) ∈ lw_all := lw_g (lw_at lw_m13 10 rfl) rfl
theorem q2952 : (Jvm.Cond.instanceMethod ({ cls := "java/lang/Long", name := "<init>", desc := "(J)V" } : Jvm.MethodName)) ∈ lw_all := lw_g (lw_at lw_m13 11 rfl) rfl
theorem q2953 : (Jvm.Cond.code ({ cls := "java/lang/Long", name := "<init>", desc := "(J)V" } : Jvm.MethodName) prog_36_method_26_code (3 : Nat) (Option.none : Option Jvm.ClassFile.FieldType)) ∈ lw_all := lw_g (lw_at lw_m13 12 rfl) rfl
theorem q2954 : (Jvm.Cond.methodLink "java/lang/Long" (270 : Nat) ({ cls := "java/lang/Number", name := "<init>", desc := "()V" } : Jvm.MethodName)) ∈ lw_all := lw_g (lw_at lw_m13 13 rfl) rfl
theorem q2955 : (Jvm.Cond.fieldLink "java/lang/Long" (273 : Nat) "java/lang/Long" "value" "J") ∈ lw_all := lw_g (lw_at lw_m13 14 rfl) rfl
theorem q2959 : (Jvm.Cond.methodLink "Leafcredit$Account" (62 : Nat) ({ cls := "java/util/TreeMap", name := "put", desc := "(Ljava/lang/Object;Ljava/lang/Object;)Ljava/lang/Object;" } : Jvm.MethodName)) ∈ lw_all := lw_g (lw_at lw_m13 18 rfl) rfl
theorem q2960 : (Jvm.Cond.methodLink "Leafcredit" (500 : Nat) ({ cls := "Leafcredit", name := "demand", desc := "(I)V" } : Jvm.MethodName)) ∈ lw_all := lw_g (lw_at lw_m13 19 rfl) rfl
theorem q2962 : (Jvm.Cond.instanceMethod ({ cls := "Leafcredit", name := "demand", desc := "(I)V" } : Jvm.MethodName)) ∈ lw_all := lw_g (lw_at lw_m13 21 rfl) rfl
theorem q2963 : (Jvm.Cond.code ({ cls := "Leafcredit", name := "demand", desc := "(I)V" } : Jvm.MethodName) prog_1_method_65_code (5 : Nat) (Option.none : Option Jvm.ClassFile.FieldType)) ∈ lw_all := lw_g (lw_at lw_m13 22 rfl) rfl
theorem q2964 : (Jvm.Cond.methodLink "LeafcreditLaw" (290 : Nat) ({ cls := "LeafcreditLaw", name := "offsetShare", desc := "(LLeafcredit;[D)I" } : Jvm.MethodName)) ∈ lw_all := lw_g (lw_at lw_m13 23 rfl) rfl
theorem q2965 : (Jvm.Cond.static ({ cls := "LeafcreditLaw", name := "offsetShare", desc := "(LLeafcredit;[D)I" } : Jvm.MethodName)) ∈ lw_all := lw_g (lw_at lw_m13 24 rfl) rfl
theorem q2966 : (Jvm.Cond.codeWith ({ cls := "LeafcreditLaw", name := "offsetShare", desc := "(LLeafcredit;[D)I" } : Jvm.MethodName) method_36_code (3 : Nat) (Option.some Jvm.ClassFile.FieldType.int) [((0 : Nat), (8 : Nat), (11 : Nat), (36 : Nat))]) ∈ lw_all := lw_g (lw_at lw_m13 25 rfl) rfl
theorem q2967 : (Jvm.Cond.methodLink "LeafcreditLaw" (133 : Nat) ({ cls := "Leafcredit", name := "offsetShare", desc := "()F" } : Jvm.MethodName)) ∈ lw_all := lw_g (lw_at lw_m13 26 rfl) rfl
theorem q2968 : (Jvm.Cond.instanceMethod ({ cls := "Leafcredit", name := "offsetShare", desc := "()F" } : Jvm.MethodName)) ∈ lw_all := lw_g (lw_at lw_m13 27 rfl) rfl
theorem q2969 : (Jvm.Cond.selects "Leafcredit" ({ cls := "Leafcredit", name := "offsetShare", desc := "()F" } : Jvm.MethodName) ({ cls := "Leafcredit", name := "offsetShare", desc := "()F" } : Jvm.MethodName)) ∈ lw_all := lw_g (lw_at lw_m13 28 rfl) rfl
theorem q2970 : (Jvm.Cond.code ({ cls := "Leafcredit", name := "offsetShare", desc := "()F" } : Jvm.MethodName) prog_1_method_67_code (1 : Nat) (Option.some Jvm.ClassFile.FieldType.float)) ∈ lw_all := lw_g (lw_at lw_m13 29 rfl) rfl
theorem q2971 : (Jvm.Cond.methodLink "LeafcreditLaw" (294 : Nat) ({ cls := "LeafcreditLaw", name := "meanVintage", desc := "(LLeafcredit;[D)I" } : Jvm.MethodName)) ∈ lw_all := lw_g (lw_at lw_m13 30 rfl) rfl
theorem q2972 : (Jvm.Cond.static ({ cls := "LeafcreditLaw", name := "meanVintage", desc := "(LLeafcredit;[D)I" } : Jvm.MethodName)) ∈ lw_all := lw_g (lw_at lw_m13 31 rfl) rfl
theorem q2973 : (Jvm.Cond.codeWith ({ cls := "LeafcreditLaw", name := "meanVintage", desc := "(LLeafcredit;[D)I" } : Jvm.MethodName) method_37_code (3 : Nat) (Option.some Jvm.ClassFile.FieldType.int) [((0 : Nat), (7 : Nat), (10 : Nat), (36 : Nat))]) ∈ lw_all := lw_g (lw_at lw_m13 32 rfl) rfl
theorem q2974 : (Jvm.Cond.methodLink "LeafcreditLaw" (137 : Nat) ({ cls := "Leafcredit", name := "meanVintage", desc := "()D" } : Jvm.MethodName)) ∈ lw_all := lw_g (lw_at lw_m13 33 rfl) rfl
theorem q2975 : (Jvm.Cond.instanceMethod ({ cls := "Leafcredit", name := "meanVintage", desc := "()D" } : Jvm.MethodName)) ∈ lw_all := lw_g (lw_at lw_m13 34 rfl) rfl
theorem q2976 : (Jvm.Cond.selects "Leafcredit" ({ cls := "Leafcredit", name := "meanVintage", desc := "()D" } : Jvm.MethodName) ({ cls := "Leafcredit", name := "meanVintage", desc := "()D" } : Jvm.MethodName)) ∈ lw_all := lw_g (lw_at lw_m13 35 rfl) rfl
theorem q2977 : (Jvm.Cond.code ({ cls := "Leafcredit", name := "meanVintage", desc := "()D" } : Jvm.MethodName) prog_1_method_68_code (6 : Nat) (Option.some Jvm.ClassFile.FieldType.double)) ∈ lw_all := lw_g (lw_at lw_m13 36 rfl) rfl
theorem q2978 : (Jvm.Cond.classLink "LeafcreditLaw" (142 : Nat) "LeafcreditModel") ∈ lw_all := lw_g (lw_at lw_m13 37 rfl) rfl
theorem q2979 : (Jvm.Cond.instantiable "LeafcreditModel" (23 : Nat)) ∈ lw_all := lw_g (lw_at lw_m13 38 rfl) rfl
theorem q2980 : (Jvm.Cond.methodLink "LeafcreditLaw" (144 : Nat) ({ cls := "LeafcreditModel", name := "<init>", desc := "()V" } : Jvm.MethodName)) ∈ lw_all := lw_g (lw_at lw_m13 39 rfl) rfl
theorem q2981 : (Jvm.Cond.instanceMethod ({ cls := "LeafcreditModel", name := "<init>", desc := "()V" } : Jvm.MethodName)) ∈ lw_all := lw_g (lw_at lw_m13 40 rfl) rfl
theorem q2982 : (Jvm.Cond.code ({ cls := "LeafcreditModel", name := "<init>", desc := "()V" } : Jvm.MethodName) prog_15_method_1_code (1 : Nat) (Option.none : Option Jvm.ClassFile.FieldType)) ∈ lw_all := lw_g (lw_at lw_m13 41 rfl) rfl
theorem q2983 : (Jvm.Cond.methodLink "LeafcreditModel" (1 : Nat) ({ cls := "java/lang/Object", name := "<init>", desc := "()V" } : Jvm.MethodName)) ∈ lw_all := lw_g (lw_at lw_m13 42 rfl) rfl
theorem q2984 : (Jvm.Cond.classLink "LeafcreditModel" (7 : Nat) "java/util/ArrayList") ∈ lw_all := lw_g (lw_at lw_m13 43 rfl) rfl
theorem q2985 : (Jvm.Cond.methodLink "LeafcreditModel" (9 : Nat) ({ cls := "java/util/ArrayList", name := "<init>", desc := "()V" } : Jvm.MethodName)) ∈ lw_all := lw_g (lw_at lw_m13 44 rfl) rfl
theorem q2986 : (Jvm.Cond.constant "LeafcreditModel" (47 : Nat) (100000 : Int32)) ∈ lw_all := lw_g (lw_at lw_m13 45 rfl) rfl
theorem q2987 : (Jvm.Cond.classLink "LeafcreditModel" (85 : Nat) "LeafcreditModel$Account") ∈ lw_all := lw_g (lw_at lw_m13 46 rfl) rfl
theorem q2988 : (Jvm.Cond.instantiable "LeafcreditModel$Account" (19 : Nat)) ∈ lw_all := lw_g (lw_at lw_m13 47 rfl) rfl
theorem q2989 : (Jvm.Cond.methodLink "LeafcreditModel" (87 : Nat) ({ cls := "LeafcreditModel$Account", name := "<init>", desc := "(J)V" } : Jvm.MethodName)) ∈ lw_all := lw_g (lw_at lw_m13 48 rfl) rfl
theorem q2990 : (Jvm.Cond.instanceMethod ({ cls := "LeafcreditModel$Account", name := "<init>", desc := "(J)V" } : Jvm.MethodName)) ∈ lw_all := lw_g (lw_at lw_m13 49 rfl) rfl
theorem q2991 : (Jvm.Cond.code ({ cls := "LeafcreditModel$Account", name := "<init>", desc := "(J)V" } : Jvm.MethodName) prog_16_method_1_code (4 : Nat) (Option.none : Option Jvm.ClassFile.FieldType)) ∈ lw_all := lw_g (lw_at lw_m13 50 rfl) rfl
theorem q2992 : (Jvm.Cond.methodLink "LeafcreditModel$Account" (3 : Nat) ({ cls := "java/lang/Object", name := "<init>", desc := "()V" } : Jvm.MethodName)) ∈ lw_all := lw_g (lw_at lw_m13 51 rfl) rfl
theorem q2993 : (Jvm.Cond.constantLong "LeafcreditModel$Account" (74 : Nat) (-1 : Int64)) ∈ lw_all := lw_g (lw_at lw_m13 52 rfl) rfl
theorem q2994 : (Jvm.Cond.fieldLink "LeafcreditModel$Account" (71 : Nat) "LeafcreditModel$Account" "cash" "J") ∈ lw_all := lw_g (lw_at lw_m13 53 rfl) rfl
theorem q2995 : (Jvm.Cond.fieldLink "LeafcreditModel" (184 : Nat) "LeafcreditModel$Account" "cash" "J") ∈ lw_all := lw_g (lw_at lw_m13 54 rfl) rfl
theorem q2996 : (Jvm.Cond.fieldLink "LeafcreditModel$Account" (9 : Nat) "LeafcreditModel$Account" "isPlant" "Z") ∈ lw_all := lw_g (lw_at lw_m13 55 rfl) rfl
theorem q2997 : (Jvm.Cond.fieldLink "LeafcreditModel" (118 : Nat) "LeafcreditModel$Account" "isPlant" "Z") ∈ lw_all := lw_g (lw_at lw_m13 56 rfl) rfl
theorem q2998 : (Jvm.Cond.fieldLink "LeafcreditModel$Account" (15 : Nat) "LeafcreditModel$Account" "benchmark" "I") ∈ lw_all := lw_g (lw_at lw_m13 57 rfl) rfl
theorem q2999 : (Jvm.Cond.fieldLink "LeafcreditModel" (121 : Nat) "LeafcreditModel$Account" "benchmark" "I") ∈ lw_all := lw_g (lw_at lw_m13 58 rfl) rfl
theorem q3000 : (Jvm.Cond.fieldLink "LeafcreditModel$Account" (19 : Nat) "LeafcreditModel$Account" "uncertainty" "I") ∈ lw_all := lw_g (lw_at lw_m13 59 rfl) rfl
theorem q3001 : (Jvm.Cond.fieldLink "LeafcreditModel" (124 : Nat) "LeafcreditModel$Account" "uncertainty" "I") ∈ lw_all := lw_g (lw_at lw_m13 60 rfl) rfl
theorem q3002 : (Jvm.Cond.fieldLink "LeafcreditModel$Account" (22 : Nat) "LeafcreditModel$Account" "reported" "J") ∈ lw_all := lw_g (lw_at lw_m13 61 rfl) rfl
theorem q3003 : (Jvm.Cond.fieldLink "LeafcreditModel" (149 : Nat) "LeafcreditModel$Account" "reported" "J") ∈ lw_all := lw_g (lw_at lw_m13 62 rfl) rfl
theorem q3004 : (Jvm.Cond.fieldLink "LeafcreditModel$Account" (26 : Nat) "LeafcreditModel$Account" "greatest" "J") ∈ lw_all := lw_g (lw_at lw_m13 63 rfl) rfl
theorem q3005 : (Jvm.Cond.fieldLink "LeafcreditModel" (153 : Nat) "LeafcreditModel$Account" "greatest" "J") ∈ lw_all := lw_g (lw_at lw_m13 64 rfl) rfl
theorem q3006 : (Jvm.Cond.fieldLink "LeafcreditModel$Account" (29 : Nat) "LeafcreditModel$Account" "reports" "I") ∈ lw_all := lw_g (lw_at lw_m13 65 rfl) rfl
theorem q3007 : (Jvm.Cond.fieldLink "LeafcreditModel" (146 : Nat) "LeafcreditModel$Account" "reports" "I") ∈ lw_all := lw_g (lw_at lw_m13 66 rfl) rfl
theorem q3008 : (Jvm.Cond.fieldLink "LeafcreditModel$Account" (32 : Nat) "LeafcreditModel$Account" "reportedOn" "I") ∈ lw_all := lw_g (lw_at lw_m13 67 rfl) rfl
theorem q3009 : (Jvm.Cond.fieldLink "LeafcreditModel" (143 : Nat) "LeafcreditModel$Account" "reportedOn" "I") ∈ lw_all := lw_g (lw_at lw_m13 68 rfl) rfl
theorem q3010 : (Jvm.Cond.fieldLink "LeafcreditModel$Account" (35 : Nat) "LeafcreditModel$Account" "used" "I") ∈ lw_all := lw_g (lw_at lw_m13 69 rfl) rfl
theorem q3011 : (Jvm.Cond.fieldLink "LeafcreditModel" (318 : Nat) "LeafcreditModel$Account" "used" "I") ∈ lw_all := lw_g (lw_at lw_m13 70 rfl) rfl
theorem q3012 : (Jvm.Cond.fieldLink "LeafcreditModel$Account" (38 : Nat) "LeafcreditModel$Account" "share" "I") ∈ lw_all := lw_g (lw_at lw_m13 71 rfl) rfl
theorem q3013 : (Jvm.Cond.fieldLink "LeafcreditModel" (181 : Nat) "LeafcreditModel$Account" "share" "I") ∈ lw_all := lw_g (lw_at lw_m13 72 rfl) rfl
theorem q3014 : (Jvm.Cond.fieldLink "LeafcreditModel$Account" (41 : Nat) "LeafcreditModel$Account" "imported" "J") ∈ lw_all := lw_g (lw_at lw_m13 73 rfl) rfl
theorem q3015 : (Jvm.Cond.fieldLink "LeafcreditModel" (422 : Nat) "LeafcreditModel$Account" "imported" "J") ∈ lw_all := lw_g (lw_at lw_m13 74 rfl) rfl
theorem q3016 : (Jvm.Cond.fieldLink "LeafcreditModel$Account" (44 : Nat) "LeafcreditModel$Account" "reversed" "J") ∈ lw_all := lw_g (lw_at lw_m13 75 rfl) rfl
theorem q3017 : (Jvm.Cond.fieldLink "LeafcreditModel" (400 : Nat) "LeafcreditModel$Account" "reversed" "J") ∈ lw_all := lw_g (lw_at lw_m13 76 rfl) rfl
theorem q3018 : (Jvm.Cond.fieldLink "LeafcreditModel$Account" (47 : Nat) "LeafcreditModel$Account" "carried" "J") ∈ lw_all := lw_g (lw_at lw_m13 77 rfl) rfl
theorem q3019 : (Jvm.Cond.fieldLink "LeafcreditModel" (431 : Nat) "LeafcreditModel$Account" "carried" "J") ∈ lw_all := lw_g (lw_at lw_m13 78 rfl) rfl
theorem q3020 : (Jvm.Cond.fieldLink "LeafcreditModel$Account" (50 : Nat) "LeafcreditModel$Account" "activities" "[I") ∈ lw_all := lw_g (lw_at lw_m13 79 rfl) rfl
theorem q3021 : (Jvm.Cond.fieldLink "LeafcreditModel" (162 : Nat) "LeafcreditModel$Account" "activities" "[I") ∈ lw_all := lw_g (lw_at lw_m13 80 rfl) rfl
theorem q3022 : (Jvm.Cond.fieldLink "LeafcreditModel$Account" (54 : Nat) "LeafcreditModel$Account" "emissions" "[J") ∈ lw_all := lw_g (lw_at lw_m13 81 rfl) rfl
theorem q3023 : (Jvm.Cond.fieldLink "LeafcreditModel" (172 : Nat) "LeafcreditModel$Account" "emissions" "[J") ∈ lw_all := lw_g (lw_at lw_m13 82 rfl) rfl
theorem q3024 : (Jvm.Cond.fieldLink "LeafcreditModel$Account" (58 : Nat) "LeafcreditModel$Account" "all" "[J") ∈ lw_all := lw_g (lw_at lw_m13 83 rfl) rfl
theorem q3025 : (Jvm.Cond.fieldLink "LeafcreditModel" (311 : Nat) "LeafcreditModel$Account" "all" "[J") ∈ lw_all := lw_g (lw_at lw_m13 84 rfl) rfl
theorem q3026 : (Jvm.Cond.fieldLink "LeafcreditModel$Account" (61 : Nat) "LeafcreditModel$Account" "left" "[J") ∈ lw_all := lw_g (lw_at lw_m13 85 rfl) rfl
theorem q3027 : (Jvm.Cond.fieldLink "LeafcreditModel" (178 : Nat) "LeafcreditModel$Account" "left" "[J") ∈ lw_all := lw_g (lw_at lw_m13 86 rfl) rfl
theorem q3028 : (Jvm.Cond.fieldLink "LeafcreditModel$Account" (64 : Nat) "LeafcreditModel$Account" "offsets" "[J") ∈ lw_all := lw_g (lw_at lw_m13 87 rfl) rfl
theorem q3029 : (Jvm.Cond.fieldLink "LeafcreditModel" (308 : Nat) "LeafcreditModel$Account" "offsets" "[J") ∈ lw_all := lw_g (lw_at lw_m13 88 rfl) rfl
theorem q3030 : (Jvm.Cond.fieldLink "LeafcreditModel$Account" (67 : Nat) "LeafcreditModel$Account" "trusts" "[Z") ∈ lw_all := lw_g (lw_at lw_m13 89 rfl) rfl
theorem q3031 : (Jvm.Cond.fieldLink "LeafcreditModel" (249 : Nat) "LeafcreditModel$Account" "trusts" "[Z") ∈ lw_all := lw_g (lw_at lw_m13 90 rfl) rfl
theorem q3071 : (Jvm.Cond.arrayClass Jvm.ClassFile.FieldType.boolean) ∈ lw_all := lw_g (lw_at lw_m13 130 rfl) rfl
theorem q3072 : (Jvm.Cond.methodLink "LeafcreditModel" (90 : Nat) ({ cls := "java/util/ArrayList", name := "add", desc := "(Ljava/lang/Object;)Z" } : Jvm.MethodName)) ∈ lw_all := lw_g (lw_at lw_m13 131 rfl) rfl
theorem q3073 : (Jvm.Cond.fieldLink "LeafcreditModel" (10 : Nat) "LeafcreditModel" "accounts" "Ljava/util/ArrayList;") ∈ lw_all := lw_g (lw_at lw_m13 132 rfl) rfl
theorem q3074 : (Jvm.Cond.fieldLink "LeafcreditModel" (16 : Nat) "LeafcreditModel" "rows" "Ljava/util/ArrayList;") ∈ lw_all := lw_g (lw_at lw_m13 133 rfl) rfl
theorem q3075 : (Jvm.Cond.fieldLink "LeafcreditModel" (19 : Nat) "LeafcreditModel" "bids" "Ljava/util/ArrayList;") ∈ lw_all := lw_g (lw_at lw_m13 134 rfl) rfl
theorem q3076 : (Jvm.Cond.fieldLink "LeafcreditModel" (22 : Nat) "LeafcreditModel" "transfers" "Ljava/util/ArrayList;") ∈ lw_all := lw_g (lw_at lw_m13 135 rfl) rfl
theorem q3077 : (Jvm.Cond.fieldLink "LeafcreditModel" (25 : Nat) "LeafcreditModel" "projects" "Ljava/util/ArrayList;") ∈ lw_all := lw_g (lw_at lw_m13 136 rfl) rfl
theorem q3078 : (Jvm.Cond.fieldLink "LeafcreditModel" (28 : Nat) "LeafcreditModel" "goods" "Ljava/util/ArrayList;") ∈ lw_all := lw_g (lw_at lw_m13 137 rfl) rfl
theorem q3079 : (Jvm.Cond.fieldLink "LeafcreditModel" (31 : Nat) "LeafcreditModel" "thrown" "I") ∈ lw_all := lw_g (lw_at lw_m13 138 rfl) rfl
theorem q3080 : (Jvm.Cond.fieldLink "LeafcreditModel" (35 : Nat) "LeafcreditModel" "day" "I") ∈ lw_all := lw_g (lw_at lw_m13 139 rfl) rfl
theorem q3081 : (Jvm.Cond.fieldLink "LeafcreditModel" (38 : Nat) "LeafcreditModel" "first" "I") ∈ lw_all := lw_g (lw_at lw_m13 140 rfl) rfl
theorem q3082 : (Jvm.Cond.fieldLink "LeafcreditModel" (41 : Nat) "LeafcreditModel" "less" "I") ∈ lw_all := lw_g (lw_at lw_m13 141 rfl) rfl
theorem q3083 : (Jvm.Cond.fieldLink "LeafcreditModel" (44 : Nat) "LeafcreditModel" "lower" "I") ∈ lw_all := lw_g (lw_at lw_m13 142 rfl) rfl
theorem q3084 : (Jvm.Cond.fieldLink "LeafcreditModel" (48 : Nat) "LeafcreditModel" "upper" "I") ∈ lw_all := lw_g (lw_at lw_m13 143 rfl) rfl
theorem q3085 : (Jvm.Cond.fieldLink "LeafcreditModel" (51 : Nat) "LeafcreditModel" "out" "I") ∈ lw_all := lw_g (lw_at lw_m13 144 rfl) rfl
theorem q3086 : (Jvm.Cond.fieldLink "LeafcreditModel" (54 : Nat) "LeafcreditModel" "volume" "I") ∈ lw_all := lw_g (lw_at lw_m13 145 rfl) rfl
theorem q3087 : (Jvm.Cond.fieldLink "LeafcreditModel" (57 : Nat) "LeafcreditModel" "reserve" "I") ∈ lw_all := lw_g (lw_at lw_m13 146 rfl) rfl
theorem q3088 : (Jvm.Cond.fieldLink "LeafcreditModel" (60 : Nat) "LeafcreditModel" "price" "I") ∈ lw_all := lw_g (lw_at lw_m13 147 rfl) rfl
theorem q3089 : (Jvm.Cond.fieldLink "LeafcreditModel" (63 : Nat) "LeafcreditModel" "made" "I") ∈ lw_all := lw_g (lw_at lw_m13 148 rfl) rfl
theorem q3090 : (Jvm.Cond.fieldLink "LeafcreditModel" (66 : Nat) "LeafcreditModel" "cancelled" "I") ∈ lw_all := lw_g (lw_at lw_m13 149 rfl) rfl
theorem q3091 : (Jvm.Cond.fieldLink "LeafcreditModel" (69 : Nat) "LeafcreditModel" "entries" "I") ∈ lw_all := lw_g (lw_at lw_m13 150 rfl) rfl
theorem q3092 : (Jvm.Cond.fieldLink "LeafcreditModel" (72 : Nat) "LeafcreditModel" "allowancesUsed" "I") ∈ lw_all := lw_g (lw_at lw_m13 151 rfl) rfl
theorem q3093 : (Jvm.Cond.fieldLink "LeafcreditModel" (75 : Nat) "LeafcreditModel" "offsetsUsed" "I") ∈ lw_all := lw_g (lw_at lw_m13 152 rfl) rfl
theorem q3094 : (Jvm.Cond.fieldLink "LeafcreditModel" (78 : Nat) "LeafcreditModel" "offsetsMade" "I") ∈ lw_all := lw_g (lw_at lw_m13 153 rfl) rfl
theorem q3095 : (Jvm.Cond.fieldLink "LeafcreditModel" (81 : Nat) "LeafcreditModel" "hasCap" "Z") ∈ lw_all := lw_g (lw_at lw_m13 154 rfl) rfl
theorem q3143 : (Jvm.Cond.methodLink "LeafcreditLaw" (151 : Nat) ({ cls := "LeafcreditModel", name := "thrown", desc := "()I" } : Jvm.MethodName)) ∈ lw_all := lw_g (lw_at lw_m13 202 rfl) rfl
theorem q3144 : (Jvm.Cond.instanceMethod ({ cls := "LeafcreditModel", name := "thrown", desc := "()I" } : Jvm.MethodName)) ∈ lw_all := lw_g (lw_at lw_m13 203 rfl) rfl
theorem q3145 : (Jvm.Cond.selects "LeafcreditModel" ({ cls := "LeafcreditModel", name := "thrown", desc := "()I" } : Jvm.MethodName) ({ cls := "LeafcreditModel", name := "thrown", desc := "()I" } : Jvm.MethodName)) ∈ lw_all := lw_g (lw_at lw_m13 204 rfl) rfl
theorem q3146 : (Jvm.Cond.code ({ cls := "LeafcreditModel", name := "thrown", desc := "()I" } : Jvm.MethodName) prog_15_method_2_code (1 : Nat) (Option.some Jvm.ClassFile.FieldType.int)) ∈ lw_all := lw_g (lw_at lw_m13 205 rfl) rfl
theorem q3147 : (Jvm.Cond.methodLink "LeafcreditLaw" (150 : Nat) ({ cls := "LeafcreditModel", name := "addAccount", desc := "(I)I" } : Jvm.MethodName)) ∈ lw_all := lw_g (lw_at lw_m13 206 rfl) rfl
theorem q3148 : (Jvm.Cond.instanceMethod ({ cls := "LeafcreditModel", name := "addAccount", desc := "(I)I" } : Jvm.MethodName)) ∈ lw_all := lw_g (lw_at lw_m13 207 rfl) rfl
theorem q3149 : (Jvm.Cond.selects "LeafcreditModel" ({ cls := "LeafcreditModel", name := "addAccount", desc := "(I)I" } : Jvm.MethodName) ({ cls := "LeafcreditModel", name := "addAccount", desc := "(I)I" } : Jvm.MethodName)) ∈ lw_all := lw_g (lw_at lw_m13 208 rfl) rfl
theorem q3150 : (Jvm.Cond.code ({ cls := "LeafcreditModel", name := "addAccount", desc := "(I)I" } : Jvm.MethodName) prog_15_method_9_code (2 : Nat) (Option.some Jvm.ClassFile.FieldType.int)) ∈ lw_all := lw_g (lw_at lw_m13 209 rfl) rfl
theorem q3151 : (Jvm.Cond.constantLong "LeafcreditModel" (104 : Nat) (1000000 : Int64)) ∈ lw_all := lw_g (lw_at lw_m13 210 rfl) rfl
theorem q3152 : (Jvm.Cond.methodLink "LeafcreditModel" (100 : Nat) ({ cls := "LeafcreditModel", name := "in", desc := "(JJJ)Z" } : Jvm.MethodName)) ∈ lw_all := lw_g (lw_at lw_m13 211 rfl) rfl
theorem q3153 : (Jvm.Cond.static ({ cls := "LeafcreditModel", name := "in", desc := "(JJJ)Z" } : Jvm.MethodName)) ∈ lw_all := lw_g (lw_at lw_m13 212 rfl) rfl
theorem q3154 : (Jvm.Cond.code ({ cls := "LeafcreditModel", name := "in", desc := "(JJJ)Z" } : Jvm.MethodName) prog_15_method_3_code (6 : Nat) (Option.some Jvm.ClassFile.FieldType.boolean)) ∈ lw_all := lw_g (lw_at lw_m13 213 rfl) rfl
theorem q3155 : (Jvm.Cond.methodLink "LeafcreditModel" (96 : Nat) ({ cls := "java/util/ArrayList", name := "size", desc := "()I" } : Jvm.MethodName)) ∈ lw_all := lw_g (lw_at lw_m13 214 rfl) rfl
theorem q3156 : (Jvm.Cond.methodLink "LeafcreditLaw" (157 : Nat) ({ cls := "LeafcreditModel", name := "makePlant", desc := "(III)I" } : Jvm.MethodName)) ∈ lw_all := lw_g (lw_at lw_m13 215 rfl) rfl
theorem q3157 : (Jvm.Cond.instanceMethod ({ cls := "LeafcreditModel", name := "makePlant", desc := "(III)I" } : Jvm.MethodName)) ∈ lw_all := lw_g (lw_at lw_m13 216 rfl) rfl
theorem q3158 : (Jvm.Cond.selects "LeafcreditModel" ({ cls := "LeafcreditModel", name := "makePlant", desc := "(III)I" } : Jvm.MethodName) ({ cls := "LeafcreditModel", name := "makePlant", desc := "(III)I" } : Jvm.MethodName)) ∈ lw_all := lw_g (lw_at lw_m13 217 rfl) rfl
theorem q3159 : (Jvm.Cond.code ({ cls := "LeafcreditModel", name := "makePlant", desc := "(III)I" } : Jvm.MethodName) prog_15_method_10_code (8 : Nat) (Option.some Jvm.ClassFile.FieldType.int)) ∈ lw_all := lw_g (lw_at lw_m13 218 rfl) rfl
theorem q3160 : (Jvm.Cond.methodLink "LeafcreditModel" (106 : Nat) ({ cls := "LeafcreditModel", name := "isOther", desc := "(I)Z" } : Jvm.MethodName)) ∈ lw_all := lw_g (lw_at lw_m13 219 rfl) rfl
theorem q3162 : (Jvm.Cond.instanceMethod ({ cls := "LeafcreditModel", name := "isOther", desc := "(I)Z" } : Jvm.MethodName)) ∈ lw_all := lw_g (lw_at lw_m13 221 rfl) rfl
theorem q3163 : (Jvm.Cond.code ({ cls := "LeafcreditModel", name := "isOther", desc := "(I)Z" } : Jvm.MethodName) prog_15_method_6_code (2 : Nat) (Option.some Jvm.ClassFile.FieldType.boolean)) ∈ lw_all := lw_g (lw_at lw_m13 222 rfl) rfl
theorem q3164 : (Jvm.Cond.constantLong "LeafcreditModel" (94 : Nat) (2 : Int64)) ∈ lw_all := lw_g (lw_at lw_m13 223 rfl) rfl
theorem q3165 : (Jvm.Cond.constantLong "LeafcreditModel" (110 : Nat) (5000 : Int64)) ∈ lw_all := lw_g (lw_at lw_m13 224 rfl) rfl
theorem q3166 : (Jvm.Cond.constantLong "LeafcreditModel" (112 : Nat) (100 : Int64)) ∈ lw_all := lw_g (lw_at lw_m13 225 rfl) rfl
theorem q3167 : (Jvm.Cond.methodLink "LeafcreditModel" (114 : Nat) ({ cls := "java/util/ArrayList", name := "get", desc := "(I)Ljava/lang/Object;" } : Jvm.MethodName)) ∈ lw_all := lw_g (lw_at lw_m13 226 rfl) rfl
theorem q3168 : (Jvm.Cond.methodLink "LeafcreditModel" (127 : Nat) ({ cls := "java/util/ArrayList", name := "iterator", desc := "()Ljava/util/Iterator;" } : Jvm.MethodName)) ∈ lw_all := lw_g (lw_at lw_m13 227 rfl) rfl
theorem q3170 : (Jvm.Cond.methodLink "LeafcreditModel" (131 : Nat) ({ cls := "java/util/Iterator", name := "hasNext", desc := "()Z" } : Jvm.MethodName)) ∈ lw_all := lw_g (lw_at lw_m13 229 rfl) rfl
theorem q3172 : (Jvm.Cond.methodLink "LeafcreditModel" (137 : Nat) ({ cls := "java/util/Iterator", name := "next", desc := "()Ljava/lang/Object;" } : Jvm.MethodName)) ∈ lw_all := lw_g (lw_at lw_m13 231 rfl) rfl
theorem q3173 : (Jvm.Cond.methodLink "LeafcreditLaw" (160 : Nat) ({ cls := "LeafcreditModel", name := "report", desc := "(III)I" } : Jvm.MethodName)) ∈ lw_all := lw_g (lw_at lw_m13 232 rfl) rfl
theorem q3174 : (Jvm.Cond.instanceMethod ({ cls := "LeafcreditModel", name := "report", desc := "(III)I" } : Jvm.MethodName)) ∈ lw_all := lw_g (lw_at lw_m13 233 rfl) rfl
theorem q3175 : (Jvm.Cond.selects "LeafcreditModel" ({ cls := "LeafcreditModel", name := "report", desc := "(III)I" } : Jvm.MethodName) ({ cls := "LeafcreditModel", name := "report", desc := "(III)I" } : Jvm.MethodName)) ∈ lw_all := lw_g (lw_at lw_m13 234 rfl) rfl
theorem q3176 : (Jvm.Cond.code ({ cls := "LeafcreditModel", name := "report", desc := "(III)I" } : Jvm.MethodName) prog_15_method_11_code (7 : Nat) (Option.some Jvm.ClassFile.FieldType.int)) ∈ lw_all := lw_g (lw_at lw_m13 235 rfl) rfl
theorem q3177 : (Jvm.Cond.constantLong "LeafcreditModel" (141 : Nat) (2000000000 : Int64)) ∈ lw_all := lw_g (lw_at lw_m13 236 rfl) rfl
theorem q3178 : (Jvm.Cond.methodLink "LeafcreditModel" (156 : Nat) ({ cls := "java/lang/Math", name := "max", desc := "(JJ)J" } : Jvm.MethodName)) ∈ lw_all := lw_g (lw_at lw_m13 237 rfl) rfl
theorem q3179 : (Jvm.Cond.methodLink "LeafcreditLaw" (164 : Nat) ({ cls := "LeafcreditModel", name := "tellActivity", desc := "(II)I" } : Jvm.MethodName)) ∈ lw_all := lw_g (lw_at lw_m13 238 rfl) rfl
theorem q3180 : (Jvm.Cond.instanceMethod ({ cls := "LeafcreditModel", name := "tellActivity", desc := "(II)I" } : Jvm.MethodName)) ∈ lw_all := lw_g (lw_at lw_m13 239 rfl) rfl
theorem q3181 : (Jvm.Cond.selects "LeafcreditModel" ({ cls := "LeafcreditModel", name := "tellActivity", desc := "(II)I" } : Jvm.MethodName) ({ cls := "LeafcreditModel", name := "tellActivity", desc := "(II)I" } : Jvm.MethodName)) ∈ lw_all := lw_g (lw_at lw_m14 0 rfl) rfl
theorem q3182 : (Jvm.Cond.code ({ cls := "LeafcreditModel", name := "tellActivity", desc := "(II)I" } : Jvm.MethodName) prog_15_method_12_code (4 : Nat) (Option.some Jvm.ClassFile.FieldType.int)) ∈ lw_all := lw_g (lw_at lw_m14 1 rfl) rfl
theorem q3183 : (Jvm.Cond.methodLink "LeafcreditModel" (166 : Nat) ({ cls := "LeafcreditModel", name := "year", desc := "()I" } : Jvm.MethodName)) ∈ lw_all := lw_g (lw_at lw_m14 2 rfl) rfl
theorem q3185 : (Jvm.Cond.instanceMethod ({ cls := "LeafcreditModel", name := "year", desc := "()I" } : Jvm.MethodName)) ∈ lw_all := lw_g (lw_at lw_m14 4 rfl) rfl
theorem q3186 : (Jvm.Cond.code ({ cls := "LeafcreditModel", name := "year", desc := "()I" } : Jvm.MethodName) prog_15_method_5_code (1 : Nat) (Option.some Jvm.ClassFile.FieldType.int)) ∈ lw_all := lw_g (lw_at lw_m14 5 rfl) rfl
theorem q3187 : (Jvm.Cond.methodLink "LeafcreditLaw" (167 : Nat) ({ cls := "LeafcreditModel", name := "emissionOf", desc := "(II)J" } : Jvm.MethodName)) ∈ lw_all := lw_g (lw_at lw_m14 6 rfl) rfl
theorem q3188 : (Jvm.Cond.instanceMethod ({ cls := "LeafcreditModel", name := "emissionOf", desc := "(II)J" } : Jvm.MethodName)) ∈ lw_all := lw_g (lw_at lw_m14 7 rfl) rfl
theorem q3189 : (Jvm.Cond.selects "LeafcreditModel" ({ cls := "LeafcreditModel", name := "emissionOf", desc := "(II)J" } : Jvm.MethodName) ({ cls := "LeafcreditModel", name := "emissionOf", desc := "(II)J" } : Jvm.MethodName)) ∈ lw_all := lw_g (lw_at lw_m14 8 rfl) rfl
theorem q3190 : (Jvm.Cond.code ({ cls := "LeafcreditModel", name := "emissionOf", desc := "(II)J" } : Jvm.MethodName) prog_15_method_14_code (3 : Nat) (Option.some Jvm.ClassFile.FieldType.long)) ∈ lw_all := lw_g (lw_at lw_m14 9 rfl) rfl
theorem q3191 : (Jvm.Cond.methodLink "LeafcreditModel" (169 : Nat) ({ cls := "LeafcreditModel", name := "hasEnded", desc := "(I)Z" } : Jvm.MethodName)) ∈ lw_all := lw_g (lw_at lw_m14 10 rfl) rfl
theorem q3193 : (Jvm.Cond.instanceMethod ({ cls := "LeafcreditModel", name := "hasEnded", desc := "(I)Z" } : Jvm.MethodName)) ∈ lw_all := lw_g (lw_at lw_m14 12 rfl) rfl
theorem q3194 : (Jvm.Cond.code ({ cls := "LeafcreditModel", name := "hasEnded", desc := "(I)Z" } : Jvm.MethodName) prog_15_method_13_code (2 : Nat) (Option.some Jvm.ClassFile.FieldType.boolean)) ∈ lw_all := lw_g (lw_at lw_m14 13 rfl) rfl
theorem q3195 : (Jvm.Cond.constantLong "LeafcreditModel" (176 : Nat) (-1 : Int64)) ∈ lw_all := lw_g (lw_at lw_m14 14 rfl) rfl
theorem q3196 : (Jvm.Cond.methodLink "LeafcreditLaw" (170 : Nat) ({ cls := "LeafcreditModel", name := "owed", desc := "(II)J" } : Jvm.MethodName)) ∈ lw_all := lw_g (lw_at lw_m14 15 rfl) rfl
theorem q3197 : (Jvm.Cond.instanceMethod ({ cls := "LeafcreditModel", name := "owed", desc := "(II)J" } : Jvm.MethodName)) ∈ lw_all := lw_g (lw_at lw_m14 16 rfl) rfl
theorem q3198 : (Jvm.Cond.selects "LeafcreditModel" ({ cls := "LeafcreditModel", name := "owed", desc := "(II)J" } : Jvm.MethodName) ({ cls := "LeafcreditModel", name := "owed", desc := "(II)J" } : Jvm.MethodName)) ∈ lw_all := lw_g (lw_at lw_m14 17 rfl) rfl
theorem q3199 : (Jvm.Cond.code ({ cls := "LeafcreditModel", name := "owed", desc := "(II)J" } : Jvm.MethodName) prog_15_method_15_code (3 : Nat) (Option.some Jvm.ClassFile.FieldType.long)) ∈ lw_all := lw_g (lw_at lw_m14 18 rfl) rfl
theorem q3200 : (Jvm.Cond.methodLink "LeafcreditLaw" (173 : Nat) ({ cls := "LeafcreditModel", name := "freeShare", desc := "(I)I" } : Jvm.MethodName)) ∈ lw_all := lw_g (lw_at lw_m14 19 rfl) rfl
theorem q3201 : (Jvm.Cond.instanceMethod ({ cls := "LeafcreditModel", name := "freeShare", desc := "(I)I" } : Jvm.MethodName)) ∈ lw_all := lw_g (lw_at lw_m14 20 rfl) rfl
theorem q3202 : (Jvm.Cond.selects "LeafcreditModel" ({ cls := "LeafcreditModel", name := "freeShare", desc := "(I)I" } : Jvm.MethodName) ({ cls := "LeafcreditModel", name := "freeShare", desc := "(I)I" } : Jvm.MethodName)) ∈ lw_all := lw_g (lw_at lw_m14 21 rfl) rfl
theorem q3203 : (Jvm.Cond.code ({ cls := "LeafcreditModel", name := "freeShare", desc := "(I)I" } : Jvm.MethodName) prog_15_method_16_code (2 : Nat) (Option.some Jvm.ClassFile.FieldType.int)) ∈ lw_all := lw_g (lw_at lw_m14 22 rfl) rfl
theorem q3204 : (Jvm.Cond.methodLink "LeafcreditLaw" (176 : Nat) ({ cls := "LeafcreditModel", name := "cash", desc := "(I)J" } : Jvm.MethodName)) ∈ lw_all := lw_g (lw_at lw_m14 23 rfl) rfl
theorem q3205 : (Jvm.Cond.instanceMethod ({ cls := "LeafcreditModel", name := "cash", desc := "(I)J" } : Jvm.MethodName)) ∈ lw_all := lw_g (lw_at lw_m14 24 rfl) rfl
theorem q3206 : (Jvm.Cond.selects "LeafcreditModel" ({ cls := "LeafcreditModel", name := "cash", desc := "(I)J" } : Jvm.MethodName) ({ cls := "LeafcreditModel", name := "cash", desc := "(I)J" } : Jvm.MethodName)) ∈ lw_all := lw_g (lw_at lw_m14 25 rfl) rfl
theorem q3207 : (Jvm.Cond.code ({ cls := "LeafcreditModel", name := "cash", desc := "(I)J" } : Jvm.MethodName) prog_15_method_17_code (2 : Nat) (Option.some Jvm.ClassFile.FieldType.long)) ∈ lw_all := lw_g (lw_at lw_m14 26 rfl) rfl
theorem q3208 : (Jvm.Cond.methodLink "LeafcreditLaw" (208 : Nat) ({ cls := "LeafcreditModel", name := "transfer", desc := "(IICI)I" } : Jvm.MethodName)) ∈ lw_all := lw_g (lw_at lw_m14 27 rfl) rfl
theorem q3209 : (Jvm.Cond.instanceMethod ({ cls := "LeafcreditModel", name := "transfer", desc := "(IICI)I" } : Jvm.MethodName)) ∈ lw_all := lw_g (lw_at lw_m14 28 rfl) rfl
theorem q3210 : (Jvm.Cond.selects "LeafcreditModel" ({ cls := "LeafcreditModel", name := "transfer", desc := "(IICI)I" } : Jvm.MethodName) ({ cls := "LeafcreditModel", name := "transfer", desc := "(IICI)I" } : Jvm.MethodName)) ∈ lw_all := lw_g (lw_at lw_m14 29 rfl) rfl
theorem q3211 : (Jvm.Cond.code ({ cls := "LeafcreditModel", name := "transfer", desc := "(IICI)I" } : Jvm.MethodName) prog_15_method_25_code (6 : Nat) (Option.some Jvm.ClassFile.FieldType.int)) ∈ lw_all := lw_g (lw_at lw_m14 30 rfl) rfl
theorem q3212 : (Jvm.Cond.methodLink "LeafcreditModel" (268 : Nat) ({ cls := "LeafcreditModel", name := "isKind", desc := "(C)Z" } : Jvm.MethodName)) ∈ lw_all := lw_g (lw_at lw_m14 31 rfl) rfl
theorem q3213 : (Jvm.Cond.static ({ cls := "LeafcreditModel", name := "isKind", desc := "(C)Z" } : Jvm.MethodName)) ∈ lw_all := lw_g (lw_at lw_m14 32 rfl) rfl
theorem q3214 : (Jvm.Cond.code ({ cls := "LeafcreditModel", name := "isKind", desc := "(C)Z" } : Jvm.MethodName) prog_15_method_7_code (1 : Nat) (Option.some Jvm.ClassFile.FieldType.boolean)) ∈ lw_all := lw_g (lw_at lw_m14 33 rfl) rfl
theorem q3215 : (Jvm.Cond.constantLong "LeafcreditModel" (272 : Nat) (100000 : Int64)) ∈ lw_all := lw_g (lw_at lw_m14 34 rfl) rfl
theorem q3216 : (Jvm.Cond.methodLink "LeafcreditModel" (274 : Nat) ({ cls := "LeafcreditModel", name := "usableOf", desc := "(IC)I" } : Jvm.MethodName)) ∈ lw_all := lw_g (lw_at lw_m14 35 rfl) rfl
theorem q3218 : (Jvm.Cond.instanceMethod ({ cls := "LeafcreditModel", name := "usableOf", desc := "(IC)I" } : Jvm.MethodName)) ∈ lw_all := lw_g (lw_at lw_m14 37 rfl) rfl
theorem q3219 : (Jvm.Cond.code ({ cls := "LeafcreditModel", name := "usableOf", desc := "(IC)I" } : Jvm.MethodName) prog_15_method_20_code (6 : Nat) (Option.some Jvm.ClassFile.FieldType.int)) ∈ lw_all := lw_g (lw_at lw_m14 38 rfl) rfl
theorem q3220 : (Jvm.Cond.classLink "LeafcreditModel" (187 : Nat) "LeafcreditModel$Row") ∈ lw_all := lw_g (lw_at lw_m14 39 rfl) rfl
theorem q3221 : (Jvm.Cond.methodLink "LeafcreditModel" (205 : Nat) ({ cls := "LeafcreditModel", name := "isUsable", desc := "(LLeafcreditModel$Row;IC)Z" } : Jvm.MethodName)) ∈ lw_all := lw_g (lw_at lw_m14 40 rfl) rfl
theorem q3223 : (Jvm.Cond.instanceMethod ({ cls := "LeafcreditModel", name := "isUsable", desc := "(LLeafcreditModel$Row;IC)Z" } : Jvm.MethodName)) ∈ lw_all := lw_g (lw_at lw_m14 42 rfl) rfl
theorem q3224 : (Jvm.Cond.code ({ cls := "LeafcreditModel", name := "isUsable", desc := "(LLeafcreditModel$Row;IC)Z" } : Jvm.MethodName) prog_15_method_19_code (4 : Nat) (Option.some Jvm.ClassFile.FieldType.boolean)) ∈ lw_all := lw_g (lw_at lw_m14 43 rfl) rfl
theorem q3225 : (Jvm.Cond.methodLink "LeafcreditModel" (199 : Nat) ({ cls := "LeafcreditModel$Row", name := "isLocked", desc := "(I)Z" } : Jvm.MethodName)) ∈ lw_all := lw_g (lw_at lw_m14 44 rfl) rfl
theorem q3226 : (Jvm.Cond.instanceMethod ({ cls := "LeafcreditModel$Row", name := "isLocked", desc := "(I)Z" } : Jvm.MethodName)) ∈ lw_all := lw_g (lw_at lw_m14 45 rfl) rfl
theorem q3227 : (Jvm.Cond.selects "LeafcreditModel$Row" ({ cls := "LeafcreditModel$Row", name := "isLocked", desc := "(I)Z" } : Jvm.MethodName) ({ cls := "LeafcreditModel$Row", name := "isLocked", desc := "(I)Z" } : Jvm.MethodName)) ∈ lw_all := lw_g (lw_at lw_m14 46 rfl) rfl
theorem q3228 : (Jvm.Cond.code ({ cls := "LeafcreditModel$Row", name := "isLocked", desc := "(I)Z" } : Jvm.MethodName) prog_20_method_3_code (2 : Nat) (Option.some Jvm.ClassFile.FieldType.boolean)) ∈ lw_all := lw_g (lw_at lw_m14 47 rfl) rfl
theorem q3229 : (Jvm.Cond.methodLink "LeafcreditModel" (209 : Nat) ({ cls := "LeafcreditModel$Row", name := "size", desc := "()I" } : Jvm.MethodName)) ∈ lw_all := lw_g (lw_at lw_m14 48 rfl) rfl
theorem q3230 : (Jvm.Cond.instanceMethod ({ cls := "LeafcreditModel$Row", name := "size", desc := "()I" } : Jvm.MethodName)) ∈ lw_all := lw_g (lw_at lw_m14 49 rfl) rfl
theorem q3231 : (Jvm.Cond.selects "LeafcreditModel$Row" ({ cls := "LeafcreditModel$Row", name := "size", desc := "()I" } : Jvm.MethodName) ({ cls := "LeafcreditModel$Row", name := "size", desc := "()I" } : Jvm.MethodName)) ∈ lw_all := lw_g (lw_at lw_m14 50 rfl) rfl
theorem q3232 : (Jvm.Cond.code ({ cls := "LeafcreditModel$Row", name := "size", desc := "()I" } : Jvm.MethodName) prog_20_method_2_code (1 : Nat) (Option.some Jvm.ClassFile.FieldType.int)) ∈ lw_all := lw_g (lw_at lw_m14 51 rfl) rfl
theorem q3233 : (Jvm.Cond.classLink "LeafcreditModel" (247 : Nat) "LeafcreditModel$Transfer") ∈ lw_all := lw_g (lw_at lw_m14 52 rfl) rfl
theorem q3234 : (Jvm.Cond.instantiable "LeafcreditModel$Transfer" (6 : Nat)) ∈ lw_all := lw_g (lw_at lw_m14 53 rfl) rfl
theorem q3235 : (Jvm.Cond.methodLink "LeafcreditModel" (278 : Nat) ({ cls := "LeafcreditModel$Transfer", name := "<init>", desc := "(IICI)V" } : Jvm.MethodName)) ∈ lw_all := lw_g (lw_at lw_m14 54 rfl) rfl
theorem q3236 : (Jvm.Cond.instanceMethod ({ cls := "LeafcreditModel$Transfer", name := "<init>", desc := "(IICI)V" } : Jvm.MethodName)) ∈ lw_all := lw_g (lw_at lw_m14 55 rfl) rfl
theorem q3237 : (Jvm.Cond.code ({ cls := "LeafcreditModel$Transfer", name := "<init>", desc := "(IICI)V" } : Jvm.MethodName) prog_21_method_1_code (5 : Nat) (Option.none : Option Jvm.ClassFile.FieldType)) ∈ lw_all := lw_g (lw_at lw_m14 56 rfl) rfl
theorem q3238 : (Jvm.Cond.methodLink "LeafcreditModel$Transfer" (1 : Nat) ({ cls := "java/lang/Object", name := "<init>", desc := "()V" } : Jvm.MethodName)) ∈ lw_all := lw_g (lw_at lw_m14 57 rfl) rfl
theorem q3239 : (Jvm.Cond.classLink "LeafcreditModel$Transfer" (13 : Nat) "java/util/ArrayList") ∈ lw_all := lw_g (lw_at lw_m14 58 rfl) rfl
theorem q3240 : (Jvm.Cond.methodLink "LeafcreditModel$Transfer" (15 : Nat) ({ cls := "java/util/ArrayList", name := "<init>", desc := "()V" } : Jvm.MethodName)) ∈ lw_all := lw_g (lw_at lw_m14 59 rfl) rfl
theorem q3241 : (Jvm.Cond.fieldLink "LeafcreditModel$Transfer" (20 : Nat) "LeafcreditModel$Transfer" "from" "I") ∈ lw_all := lw_g (lw_at lw_m14 60 rfl) rfl
theorem q3242 : (Jvm.Cond.fieldLink "LeafcreditModel" (246 : Nat) "LeafcreditModel$Transfer" "from" "I") ∈ lw_all := lw_g (lw_at lw_m14 61 rfl) rfl
theorem q3243 : (Jvm.Cond.fieldLink "LeafcreditModel$Transfer" (24 : Nat) "LeafcreditModel$Transfer" "to" "I") ∈ lw_all := lw_g (lw_at lw_m14 62 rfl) rfl
theorem q3244 : (Jvm.Cond.fieldLink "LeafcreditModel" (253 : Nat) "LeafcreditModel$Transfer" "to" "I") ∈ lw_all := lw_g (lw_at lw_m14 63 rfl) rfl
theorem q3245 : (Jvm.Cond.fieldLink "LeafcreditModel$Transfer" (27 : Nat) "LeafcreditModel$Transfer" "kind" "C") ∈ lw_all := lw_g (lw_at lw_m14 64 rfl) rfl
theorem q3246 : (Jvm.Cond.fieldLink "LeafcreditModel" (254 : Nat) "LeafcreditModel$Transfer" "kind" "C") ∈ lw_all := lw_g (lw_at lw_m14 65 rfl) rfl
theorem q3247 : (Jvm.Cond.fieldLink "LeafcreditModel$Transfer" (30 : Nat) "LeafcreditModel$Transfer" "units" "I") ∈ lw_all := lw_g (lw_at lw_m14 66 rfl) rfl
theorem q3248 : (Jvm.Cond.fieldLink "LeafcreditModel" (255 : Nat) "LeafcreditModel$Transfer" "units" "I") ∈ lw_all := lw_g (lw_at lw_m14 67 rfl) rfl
theorem q3249 : (Jvm.Cond.fieldLink "LeafcreditModel$Transfer" (7 : Nat) "LeafcreditModel$Transfer" "state" "C") ∈ lw_all := lw_g (lw_at lw_m14 68 rfl) rfl
theorem q3250 : (Jvm.Cond.fieldLink "LeafcreditModel" (265 : Nat) "LeafcreditModel$Transfer" "state" "C") ∈ lw_all := lw_g (lw_at lw_m14 69 rfl) rfl
theorem q3251 : (Jvm.Cond.fieldLink "LeafcreditModel$Transfer" (16 : Nat) "LeafcreditModel$Transfer" "moved" "Ljava/util/ArrayList;") ∈ lw_all := lw_g (lw_at lw_m14 70 rfl) rfl
theorem q3252 : (Jvm.Cond.fieldLink "LeafcreditModel" (262 : Nat) "LeafcreditModel$Transfer" "moved" "Ljava/util/ArrayList;") ∈ lw_all := lw_g (lw_at lw_m14 71 rfl) rfl
theorem q3266 : (Jvm.Cond.methodLink "LeafcreditModel" (281 : Nat) ({ cls := "LeafcreditModel", name := "move", desc := "(LLeafcreditModel$Transfer;)V" } : Jvm.MethodName)) ∈ lw_all := lw_g (lw_at lw_m14 85 rfl) rfl
theorem q3268 : (Jvm.Cond.instanceMethod ({ cls := "LeafcreditModel", name := "move", desc := "(LLeafcreditModel$Transfer;)V" } : Jvm.MethodName)) ∈ lw_all := lw_g (lw_at lw_m14 87 rfl) rfl
theorem q3269 : (Jvm.Cond.code ({ cls := "LeafcreditModel", name := "move", desc := "(LLeafcreditModel$Transfer;)V" } : Jvm.MethodName) prog_15_method_24_code (5 : Nat) (Option.none : Option Jvm.ClassFile.FieldType)) ∈ lw_all := lw_g (lw_at lw_m14 88 rfl) rfl
theorem q3270 : (Jvm.Cond.methodLink "LeafcreditModel" (258 : Nat) ({ cls := "LeafcreditModel", name := "take", desc := "(ICIII)Ljava/util/ArrayList;" } : Jvm.MethodName)) ∈ lw_all := lw_g (lw_at lw_m14 89 rfl) rfl
theorem q3272 : (Jvm.Cond.instanceMethod ({ cls := "LeafcreditModel", name := "take", desc := "(ICIII)Ljava/util/ArrayList;" } : Jvm.MethodName)) ∈ lw_all := lw_g (lw_at lw_m14 91 rfl) rfl
theorem q3273 : (Jvm.Cond.code ({ cls := "LeafcreditModel", name := "take", desc := "(ICIII)Ljava/util/ArrayList;" } : Jvm.MethodName) prog_15_method_23_code (10 : Nat) (Option.some (Jvm.ClassFile.FieldType.object "java/util/ArrayList"))) ∈ lw_all := lw_g (lw_at lw_m14 92 rfl) rfl
theorem q3274 : (Jvm.Cond.methodLink "LeafcreditModel" (235 : Nat) ({ cls := "LeafcreditModel", name := "next", desc := "(ICI)LLeafcreditModel$Row;" } : Jvm.MethodName)) ∈ lw_all := lw_g (lw_at lw_m14 93 rfl) rfl
theorem q3276 : (Jvm.Cond.instanceMethod ({ cls := "LeafcreditModel", name := "next", desc := "(ICI)LLeafcreditModel$Row;" } : Jvm.MethodName)) ∈ lw_all := lw_g (lw_at lw_m14 95 rfl) rfl
theorem q3277 : (Jvm.Cond.code ({ cls := "LeafcreditModel", name := "next", desc := "(ICI)LLeafcreditModel$Row;" } : Jvm.MethodName) prog_15_method_22_code (8 : Nat) (Option.some (Jvm.ClassFile.FieldType.object "LeafcreditModel$Row"))) ∈ lw_all := lw_g (lw_at lw_m14 96 rfl) rfl
theorem q3278 : (Jvm.Cond.methodLink "LeafcreditModel" (238 : Nat) ({ cls := "java/lang/Math", name := "min", desc := "(II)I" } : Jvm.MethodName)) ∈ lw_all := lw_g (lw_at lw_m14 97 rfl) rfl
theorem q3279 : (Jvm.Cond.methodLink "LeafcreditModel" (242 : Nat) ({ cls := "LeafcreditModel", name := "cut", desc := "(LLeafcreditModel$Row;I)V" } : Jvm.MethodName)) ∈ lw_all := lw_g (lw_at lw_m14 98 rfl) rfl
theorem q3281 : (Jvm.Cond.instanceMethod ({ cls := "LeafcreditModel", name := "cut", desc := "(LLeafcreditModel$Row;I)V" } : Jvm.MethodName)) ∈ lw_all := lw_g (lw_at lw_m14 100 rfl) rfl
theorem q3282 : (Jvm.Cond.code ({ cls := "LeafcreditModel", name := "cut", desc := "(LLeafcreditModel$Row;I)V" } : Jvm.MethodName) prog_15_method_21_code (4 : Nat) (Option.none : Option Jvm.ClassFile.FieldType)) ∈ lw_all := lw_g (lw_at lw_m14 101 rfl) rfl
theorem q3283 : (Jvm.Cond.instantiable "LeafcreditModel$Row" (9 : Nat)) ∈ lw_all := lw_g (lw_at lw_m14 102 rfl) rfl
theorem q3284 : (Jvm.Cond.methodLink "LeafcreditModel" (189 : Nat) ({ cls := "LeafcreditModel$Row", name := "<init>", desc := "(IICIII)V" } : Jvm.MethodName)) ∈ lw_all := lw_g (lw_at lw_m14 103 rfl) rfl
theorem q3285 : (Jvm.Cond.instanceMethod ({ cls := "LeafcreditModel$Row", name := "<init>", desc := "(IICIII)V" } : Jvm.MethodName)) ∈ lw_all := lw_g (lw_at lw_m14 104 rfl) rfl
theorem q3286 : (Jvm.Cond.code ({ cls := "LeafcreditModel$Row", name := "<init>", desc := "(IICIII)V" } : Jvm.MethodName) prog_20_method_1_code (7 : Nat) (Option.none : Option Jvm.ClassFile.FieldType)) ∈ lw_all := lw_g (lw_at lw_m14 105 rfl) rfl
theorem q3287 : (Jvm.Cond.methodLink "LeafcreditModel$Row" (1 : Nat) ({ cls := "java/lang/Object", name := "<init>", desc := "()V" } : Jvm.MethodName)) ∈ lw_all := lw_g (lw_at lw_m14 106 rfl) rfl
theorem q3288 : (Jvm.Cond.fieldLink "LeafcreditModel$Row" (20 : Nat) "LeafcreditModel$Row" "from" "I") ∈ lw_all := lw_g (lw_at lw_m14 107 rfl) rfl
theorem q3289 : (Jvm.Cond.fieldLink "LeafcreditModel" (210 : Nat) "LeafcreditModel$Row" "from" "I") ∈ lw_all := lw_g (lw_at lw_m14 108 rfl) rfl
theorem q3290 : (Jvm.Cond.fieldLink "LeafcreditModel$Row" (23 : Nat) "LeafcreditModel$Row" "to" "I") ∈ lw_all := lw_g (lw_at lw_m14 109 rfl) rfl
theorem q3291 : (Jvm.Cond.fieldLink "LeafcreditModel" (213 : Nat) "LeafcreditModel$Row" "to" "I") ∈ lw_all := lw_g (lw_at lw_m14 110 rfl) rfl
theorem q3292 : (Jvm.Cond.fieldLink "LeafcreditModel$Row" (26 : Nat) "LeafcreditModel$Row" "kind" "C") ∈ lw_all := lw_g (lw_at lw_m14 111 rfl) rfl
theorem q3293 : (Jvm.Cond.fieldLink "LeafcreditModel" (195 : Nat) "LeafcreditModel$Row" "kind" "C") ∈ lw_all := lw_g (lw_at lw_m14 112 rfl) rfl
theorem q3294 : (Jvm.Cond.fieldLink "LeafcreditModel$Row" (30 : Nat) "LeafcreditModel$Row" "vintage" "I") ∈ lw_all := lw_g (lw_at lw_m14 113 rfl) rfl
theorem q3295 : (Jvm.Cond.fieldLink "LeafcreditModel" (216 : Nat) "LeafcreditModel$Row" "vintage" "I") ∈ lw_all := lw_g (lw_at lw_m14 114 rfl) rfl
theorem q3296 : (Jvm.Cond.fieldLink "LeafcreditModel$Row" (33 : Nat) "LeafcreditModel$Row" "project" "I") ∈ lw_all := lw_g (lw_at lw_m14 115 rfl) rfl
theorem q3297 : (Jvm.Cond.fieldLink "LeafcreditModel" (219 : Nat) "LeafcreditModel$Row" "project" "I") ∈ lw_all := lw_g (lw_at lw_m14 116 rfl) rfl
theorem q3298 : (Jvm.Cond.fieldLink "LeafcreditModel$Row" (36 : Nat) "LeafcreditModel$Row" "holder" "I") ∈ lw_all := lw_g (lw_at lw_m14 117 rfl) rfl
theorem q3299 : (Jvm.Cond.fieldLink "LeafcreditModel" (192 : Nat) "LeafcreditModel$Row" "holder" "I") ∈ lw_all := lw_g (lw_at lw_m14 118 rfl) rfl
theorem q3300 : (Jvm.Cond.fieldLink "LeafcreditModel$Row" (7 : Nat) "LeafcreditModel$Row" "lock" "I") ∈ lw_all := lw_g (lw_at lw_m14 119 rfl) rfl
theorem q3301 : (Jvm.Cond.fieldLink "LeafcreditModel" (222 : Nat) "LeafcreditModel$Row" "lock" "I") ∈ lw_all := lw_g (lw_at lw_m14 120 rfl) rfl
theorem q3302 : (Jvm.Cond.fieldLink "LeafcreditModel$Row" (13 : Nat) "LeafcreditModel$Row" "isFrozen" "Z") ∈ lw_all := lw_g (lw_at lw_m14 121 rfl) rfl
theorem q3303 : (Jvm.Cond.fieldLink "LeafcreditModel" (202 : Nat) "LeafcreditModel$Row" "isFrozen" "Z") ∈ lw_all := lw_g (lw_at lw_m14 122 rfl) rfl
theorem q3304 : (Jvm.Cond.fieldLink "LeafcreditModel$Row" (17 : Nat) "LeafcreditModel$Row" "moves" "I") ∈ lw_all := lw_g (lw_at lw_m14 123 rfl) rfl
theorem q3305 : (Jvm.Cond.fieldLink "LeafcreditModel" (225 : Nat) "LeafcreditModel$Row" "moves" "I") ∈ lw_all := lw_g (lw_at lw_m14 124 rfl) rfl
theorem q3325 : (Jvm.Cond.methodLink "LeafcreditModel" (228 : Nat) ({ cls := "java/util/ArrayList", name := "indexOf", desc := "(Ljava/lang/Object;)I" } : Jvm.MethodName)) ∈ lw_all := lw_g (lw_at lw_m14 144 rfl) rfl
theorem q3326 : (Jvm.Cond.instanceMethod ({ cls := "java/util/ArrayList", name := "indexOf", desc := "(Ljava/lang/Object;)I" } : Jvm.MethodName)) ∈ lw_all := lw_g (lw_at lw_m14 145 rfl) rfl
theorem q3327 : (Jvm.Cond.selects "java/util/ArrayList" ({ cls := "java/util/ArrayList", name := "indexOf", desc := "(Ljava/lang/Object;)I" } : Jvm.MethodName) ({ cls := "java/util/ArrayList", name := "indexOf", desc := "(Ljava/lang/Object;)I" } : Jvm.MethodName)) ∈ lw_all := lw_g (lw_at lw_m14 146 rfl) rfl
theorem q3328 : (Jvm.Cond.code ({ cls := "java/util/ArrayList", name := "indexOf", desc := "(Ljava/lang/Object;)I" } : Jvm.MethodName) prog_61_method_11_code (2 : Nat) (Option.some Jvm.ClassFile.FieldType.int)) ∈ lw_all := lw_g (lw_at lw_m14 147 rfl) rfl
theorem q3329 : (Jvm.Cond.methodLink "java/util/ArrayList" (89 : Nat) ({ cls := "java/util/ArrayList", name := "indexOfRange", desc := "(Ljava/lang/Object;II)I" } : Jvm.MethodName)) ∈ lw_all := lw_g (lw_at lw_m14 148 rfl) rfl
theorem q3330 : (Jvm.Cond.instanceMethod ({ cls := "java/util/ArrayList", name := "indexOfRange", desc := "(Ljava/lang/Object;II)I" } : Jvm.MethodName)) ∈ lw_all := lw_g (lw_at lw_m14 149 rfl) rfl
theorem q3331 : (Jvm.Cond.selects "java/util/ArrayList" ({ cls := "java/util/ArrayList", name := "indexOfRange", desc := "(Ljava/lang/Object;II)I" } : Jvm.MethodName) ({ cls := "java/util/ArrayList", name := "indexOfRange", desc := "(Ljava/lang/Object;II)I" } : Jvm.MethodName)) ∈ lw_all := lw_g (lw_at lw_m14 150 rfl) rfl
theorem q3332 : (Jvm.Cond.code ({ cls := "java/util/ArrayList", name := "indexOfRange", desc := "(Ljava/lang/Object;II)I" } : Jvm.MethodName) prog_61_method_12_code (6 : Nat) (Option.some Jvm.ClassFile.FieldType.int)) ∈ lw_all := lw_g (lw_at lw_m14 151 rfl) rfl
theorem q3334 : (Jvm.Cond.methodLink "java/util/ArrayList" (93 : Nat) ({ cls := "java/lang/Object", name := "equals", desc := "(Ljava/lang/Object;)Z" } : Jvm.MethodName)) ∈ lw_all := lw_g (lw_at lw_m14 153 rfl) rfl
theorem q3335 : (Jvm.Cond.instanceMethod ({ cls := "java/lang/Object", name := "equals", desc := "(Ljava/lang/Object;)Z" } : Jvm.MethodName)) ∈ lw_all := lw_g (lw_at lw_m14 154 rfl) rfl
theorem q3336 : (Jvm.Cond.sameMethod "java/lang/Object" "java/lang/Object" "equals" "(Ljava/lang/Object;)Z") ∈ lw_all := lw_g (lw_at lw_m14 155 rfl) rfl
theorem q3337 : (Jvm.Cond.selects "Leafcredit" ({ cls := "java/lang/Object", name := "equals", desc := "(Ljava/lang/Object;)Z" } : Jvm.MethodName) ({ cls := "java/lang/Object", name := "equals", desc := "(Ljava/lang/Object;)Z" } : Jvm.MethodName)) ∈ lw_all := lw_g (lw_at lw_m14 156 rfl) rfl
theorem q3338 : (Jvm.Cond.selects "Leafcredit$Account" ({ cls := "java/lang/Object", name := "equals", desc := "(Ljava/lang/Object;)Z" } : Jvm.MethodName) ({ cls := "java/lang/Object", name := "equals", desc := "(Ljava/lang/Object;)Z" } : Jvm.MethodName)) ∈ lw_all := lw_g (lw_at lw_m14 157 rfl) rfl
theorem q3339 : (Jvm.Cond.selects "Leafcredit$Bid" ({ cls := "java/lang/Object", name := "equals", desc := "(Ljava/lang/Object;)Z" } : Jvm.MethodName) ({ cls := "java/lang/Object", name := "equals", desc := "(Ljava/lang/Object;)Z" } : Jvm.MethodName)) ∈ lw_all := lw_g (lw_at lw_m14 158 rfl) rfl
theorem q3340 : (Jvm.Cond.selects "Leafcredit$ByPrice" ({ cls := "java/lang/Object", name := "equals", desc := "(Ljava/lang/Object;)Z" } : Jvm.MethodName) ({ cls := "java/lang/Object", name := "equals", desc := "(Ljava/lang/Object;)Z" } : Jvm.MethodName)) ∈ lw_all := lw_g (lw_at lw_m14 159 rfl) rfl
theorem q3341 : (Jvm.Cond.selects "Leafcredit$ByUse" ({ cls := "java/lang/Object", name := "equals", desc := "(Ljava/lang/Object;)Z" } : Jvm.MethodName) ({ cls := "java/lang/Object", name := "equals", desc := "(Ljava/lang/Object;)Z" } : Jvm.MethodName)) ∈ lw_all := lw_g (lw_at lw_m14 160 rfl) rfl
theorem q3342 : (Jvm.Cond.selects "Leafcredit$Entry" ({ cls := "java/lang/Object", name := "equals", desc := "(Ljava/lang/Object;)Z" } : Jvm.MethodName) ({ cls := "java/lang/Object", name := "equals", desc := "(Ljava/lang/Object;)Z" } : Jvm.MethodName)) ∈ lw_all := lw_g (lw_at lw_m14 161 rfl) rfl
theorem q3343 : (Jvm.Cond.selects "Leafcredit$Good" ({ cls := "java/lang/Object", name := "equals", desc := "(Ljava/lang/Object;)Z" } : Jvm.MethodName) ({ cls := "java/lang/Object", name := "equals", desc := "(Ljava/lang/Object;)Z" } : Jvm.MethodName)) ∈ lw_all := lw_g (lw_at lw_m14 162 rfl) rfl
theorem q3344 : (Jvm.Cond.selects "Leafcredit$Piece" ({ cls := "java/lang/Object", name := "equals", desc := "(Ljava/lang/Object;)Z" } : Jvm.MethodName) ({ cls := "java/lang/Object", name := "equals", desc := "(Ljava/lang/Object;)Z" } : Jvm.MethodName)) ∈ lw_all := lw_g (lw_at lw_m14 163 rfl) rfl
theorem q3345 : (Jvm.Cond.selects "Leafcredit$Plant" ({ cls := "java/lang/Object", name := "equals", desc := "(Ljava/lang/Object;)Z" } : Jvm.MethodName) ({ cls := "java/lang/Object", name := "equals", desc := "(Ljava/lang/Object;)Z" } : Jvm.MethodName)) ∈ lw_all := lw_g (lw_at lw_m14 164 rfl) rfl
theorem q3346 : (Jvm.Cond.selects "Leafcredit$Project" ({ cls := "java/lang/Object", name := "equals", desc := "(Ljava/lang/Object;)Z" } : Jvm.MethodName) ({ cls := "java/lang/Object", name := "equals", desc := "(Ljava/lang/Object;)Z" } : Jvm.MethodName)) ∈ lw_all := lw_g (lw_at lw_m14 165 rfl) rfl
theorem q3347 : (Jvm.Cond.selects "Leafcredit$Sum" ({ cls := "java/lang/Object", name := "equals", desc := "(Ljava/lang/Object;)Z" } : Jvm.MethodName) ({ cls := "java/lang/Object", name := "equals", desc := "(Ljava/lang/Object;)Z" } : Jvm.MethodName)) ∈ lw_all := lw_g (lw_at lw_m14 166 rfl) rfl
theorem q3348 : (Jvm.Cond.selects "Leafcredit$Transfer" ({ cls := "java/lang/Object", name := "equals", desc := "(Ljava/lang/Object;)Z" } : Jvm.MethodName) ({ cls := "java/lang/Object", name := "equals", desc := "(Ljava/lang/Object;)Z" } : Jvm.MethodName)) ∈ lw_all := lw_g (lw_at lw_m14 167 rfl) rfl
theorem q3349 : (Jvm.Cond.selects "LeafcreditModel" ({ cls := "java/lang/Object", name := "equals", desc := "(Ljava/lang/Object;)Z" } : Jvm.MethodName) ({ cls := "java/lang/Object", name := "equals", desc := "(Ljava/lang/Object;)Z" } : Jvm.MethodName)) ∈ lw_all := lw_g (lw_at lw_m14 168 rfl) rfl
theorem q3350 : (Jvm.Cond.selects "LeafcreditModel$Account" ({ cls := "java/lang/Object", name := "equals", desc := "(Ljava/lang/Object;)Z" } : Jvm.MethodName) ({ cls := "java/lang/Object", name := "equals", desc := "(Ljava/lang/Object;)Z" } : Jvm.MethodName)) ∈ lw_all := lw_g (lw_at lw_m14 169 rfl) rfl
theorem q3357 : (Jvm.Cond.selects "LeafcreditModel$Project" ({ cls := "java/lang/Object", name := "equals", desc := "(Ljava/lang/Object;)Z" } : Jvm.MethodName) ({ cls := "java/lang/Object", name := "equals", desc := "(Ljava/lang/Object;)Z" } : Jvm.MethodName)) ∈ lw_all := lw_g (lw_at lw_m14 176 rfl) rfl
theorem q3358 : (Jvm.Cond.selects "LeafcreditModel$Row" ({ cls := "java/lang/Object", name := "equals", desc := "(Ljava/lang/Object;)Z" } : Jvm.MethodName) ({ cls := "java/lang/Object", name := "equals", desc := "(Ljava/lang/Object;)Z" } : Jvm.MethodName)) ∈ lw_all := lw_g (lw_at lw_m14 177 rfl) rfl
theorem q3359 : (Jvm.Cond.selects "LeafcreditModel$Transfer" ({ cls := "java/lang/Object", name := "equals", desc := "(Ljava/lang/Object;)Z" } : Jvm.MethodName) ({ cls := "java/lang/Object", name := "equals", desc := "(Ljava/lang/Object;)Z" } : Jvm.MethodName)) ∈ lw_all := lw_g (lw_at lw_m14 178 rfl) rfl
theorem q3381 : (Jvm.Cond.code ({ cls := "java/lang/Object", name := "equals", desc := "(Ljava/lang/Object;)Z" } : Jvm.MethodName) object_method_4_code (2 : Nat) (Option.some Jvm.ClassFile.FieldType.boolean)) ∈ lw_all := lw_g (lw_at lw_m14 200 rfl) rfl
theorem q3382 : (Jvm.Cond.methodLink "LeafcreditModel" (232 : Nat) ({ cls := "java/util/ArrayList", name := "add", desc := "(ILjava/lang/Object;)V" } : Jvm.MethodName)) ∈ lw_all := lw_g (lw_at lw_m14 201 rfl) rfl
theorem q3383 : (Jvm.Cond.methodLink "LeafcreditLaw" (211 : Nat) ({ cls := "LeafcreditModel", name := "confirm", desc := "(I)I" } : Jvm.MethodName)) ∈ lw_all := lw_g (lw_at lw_m14 202 rfl) rfl
theorem q3384 : (Jvm.Cond.instanceMethod ({ cls := "LeafcreditModel", name := "confirm", desc := "(I)I" } : Jvm.MethodName)) ∈ lw_all := lw_g (lw_at lw_m14 203 rfl) rfl
theorem q3385 : (Jvm.Cond.selects "LeafcreditModel" ({ cls := "LeafcreditModel", name := "confirm", desc := "(I)I" } : Jvm.MethodName) ({ cls := "LeafcreditModel", name := "confirm", desc := "(I)I" } : Jvm.MethodName)) ∈ lw_all := lw_g (lw_at lw_m14 204 rfl) rfl
theorem q3386 : (Jvm.Cond.code ({ cls := "LeafcreditModel", name := "confirm", desc := "(I)I" } : Jvm.MethodName) prog_15_method_27_code (3 : Nat) (Option.some Jvm.ClassFile.FieldType.int)) ∈ lw_all := lw_g (lw_at lw_m14 205 rfl) rfl
theorem q3387 : (Jvm.Cond.methodLink "LeafcreditModel" (285 : Nat) ({ cls := "LeafcreditModel", name := "isTransfer", desc := "(I)Z" } : Jvm.MethodName)) ∈ lw_all := lw_g (lw_at lw_m14 206 rfl) rfl
theorem q3389 : (Jvm.Cond.instanceMethod ({ cls := "LeafcreditModel", name := "isTransfer", desc := "(I)Z" } : Jvm.MethodName)) ∈ lw_all := lw_g (lw_at lw_m14 208 rfl) rfl
theorem q3390 : (Jvm.Cond.code ({ cls := "LeafcreditModel", name := "isTransfer", desc := "(I)Z" } : Jvm.MethodName) prog_15_method_26_code (2 : Nat) (Option.some Jvm.ClassFile.FieldType.boolean)) ∈ lw_all := lw_g (lw_at lw_m14 209 rfl) rfl
theorem q3391 : (Jvm.Cond.methodLink "LeafcreditLaw" (214 : Nat) ({ cls := "LeafcreditModel", name := "trust", desc := "(II)Z" } : Jvm.MethodName)) ∈ lw_all := lw_g (lw_at lw_m14 210 rfl) rfl
theorem q3392 : (Jvm.Cond.instanceMethod ({ cls := "LeafcreditModel", name := "trust", desc := "(II)Z" } : Jvm.MethodName)) ∈ lw_all := lw_g (lw_at lw_m14 211 rfl) rfl
theorem q3393 : (Jvm.Cond.selects "LeafcreditModel" ({ cls := "LeafcreditModel", name := "trust", desc := "(II)Z" } : Jvm.MethodName) ({ cls := "LeafcreditModel", name := "trust", desc := "(II)Z" } : Jvm.MethodName)) ∈ lw_all := lw_g (lw_at lw_m14 212 rfl) rfl
theorem q3394 : (Jvm.Cond.code ({ cls := "LeafcreditModel", name := "trust", desc := "(II)Z" } : Jvm.MethodName) prog_15_method_28_code (4 : Nat) (Option.some Jvm.ClassFile.FieldType.boolean)) ∈ lw_all := lw_g (lw_at lw_m14 213 rfl) rfl
theorem q3395 : (Jvm.Cond.methodLink "LeafcreditLaw" (217 : Nat) ({ cls := "LeafcreditModel", name := "freeze", desc := "(I)I" } : Jvm.MethodName)) ∈ lw_all := lw_g (lw_at lw_m14 214 rfl) rfl
theorem q3396 : (Jvm.Cond.instanceMethod ({ cls := "LeafcreditModel", name := "freeze", desc := "(I)I" } : Jvm.MethodName)) ∈ lw_all := lw_g (lw_at lw_m14 215 rfl) rfl
theorem q3397 : (Jvm.Cond.selects "LeafcreditModel" ({ cls := "LeafcreditModel", name := "freeze", desc := "(I)I" } : Jvm.MethodName) ({ cls := "LeafcreditModel", name := "freeze", desc := "(I)I" } : Jvm.MethodName)) ∈ lw_all := lw_g (lw_at lw_m14 216 rfl) rfl
theorem q3398 : (Jvm.Cond.code ({ cls := "LeafcreditModel", name := "freeze", desc := "(I)I" } : Jvm.MethodName) prog_15_method_30_code (2 : Nat) (Option.some Jvm.ClassFile.FieldType.int)) ∈ lw_all := lw_g (lw_at lw_m14 217 rfl) rfl
theorem q3399 : (Jvm.Cond.methodLink "LeafcreditModel" (289 : Nat) ({ cls := "LeafcreditModel", name := "freeze", desc := "(IZ)I" } : Jvm.MethodName)) ∈ lw_all := lw_g (lw_at lw_m14 218 rfl) rfl
theorem q3401 : (Jvm.Cond.instanceMethod ({ cls := "LeafcreditModel", name := "freeze", desc := "(IZ)I" } : Jvm.MethodName)) ∈ lw_all := lw_g (lw_at lw_m14 220 rfl) rfl
theorem q3402 : (Jvm.Cond.code ({ cls := "LeafcreditModel", name := "freeze", desc := "(IZ)I" } : Jvm.MethodName) prog_15_method_29_code (8 : Nat) (Option.some Jvm.ClassFile.FieldType.int)) ∈ lw_all := lw_g (lw_at lw_m14 221 rfl) rfl
theorem q3403 : (Jvm.Cond.classLink "LeafcreditModel" (288 : Nat) "[I") ∈ lw_all := lw_g (lw_at lw_m14 222 rfl) rfl
theorem q3404 : (Jvm.Cond.methodLink "LeafcreditLaw" (220 : Nat) ({ cls := "LeafcreditModel", name := "release", desc := "(I)I" } : Jvm.MethodName)) ∈ lw_all := lw_g (lw_at lw_m14 223 rfl) rfl
theorem q3405 : (Jvm.Cond.instanceMethod ({ cls := "LeafcreditModel", name := "release", desc := "(I)I" } : Jvm.MethodName)) ∈ lw_all := lw_g (lw_at lw_m14 224 rfl) rfl
theorem q3406 : (Jvm.Cond.selects "LeafcreditModel" ({ cls := "LeafcreditModel", name := "release", desc := "(I)I" } : Jvm.MethodName) ({ cls := "LeafcreditModel", name := "release", desc := "(I)I" } : Jvm.MethodName)) ∈ lw_all := lw_g (lw_at lw_m14 225 rfl) rfl
theorem q3407 : (Jvm.Cond.code ({ cls := "LeafcreditModel", name := "release", desc := "(I)I" } : Jvm.MethodName) prog_15_method_31_code (2 : Nat) (Option.some Jvm.ClassFile.FieldType.int)) ∈ lw_all := lw_g (lw_at lw_m14 226 rfl) rfl
theorem q3408 : (Jvm.Cond.methodLink "LeafcreditLaw" (223 : Nat) ({ cls := "LeafcreditModel", name := "stateOf", desc := "(I)C" } : Jvm.MethodName)) ∈ lw_all := lw_g (lw_at lw_m14 227 rfl) rfl
theorem q3409 : (Jvm.Cond.instanceMethod ({ cls := "LeafcreditModel", name := "stateOf", desc := "(I)C" } : Jvm.MethodName)) ∈ lw_all := lw_g (lw_at lw_m14 228 rfl) rfl
theorem q3410 : (Jvm.Cond.selects "LeafcreditModel" ({ cls := "LeafcreditModel", name := "stateOf", desc := "(I)C" } : Jvm.MethodName) ({ cls := "LeafcreditModel", name := "stateOf", desc := "(I)C" } : Jvm.MethodName)) ∈ lw_all := lw_g (lw_at lw_m14 229 rfl) rfl
theorem q3411 : (Jvm.Cond.code ({ cls := "LeafcreditModel", name := "stateOf", desc := "(I)C" } : Jvm.MethodName) prog_15_method_32_code (2 : Nat) (Option.some Jvm.ClassFile.FieldType.char)) ∈ lw_all := lw_g (lw_at lw_m14 230 rfl) rfl
theorem q3412 : (Jvm.Cond.methodLink "LeafcreditLaw" (227 : Nat) ({ cls := "LeafcreditModel", name := "units", desc := "(IC)I" } : Jvm.MethodName)) ∈ lw_all := lw_g (lw_at lw_m14 231 rfl) rfl
theorem q3413 : (Jvm.Cond.instanceMethod ({ cls := "LeafcreditModel", name := "units", desc := "(IC)I" } : Jvm.MethodName)) ∈ lw_all := lw_g (lw_at lw_m14 232 rfl) rfl
theorem q3414 : (Jvm.Cond.selects "LeafcreditModel" ({ cls := "LeafcreditModel", name := "units", desc := "(IC)I" } : Jvm.MethodName) ({ cls := "LeafcreditModel", name := "units", desc := "(IC)I" } : Jvm.MethodName)) ∈ lw_all := lw_g (lw_at lw_m14 233 rfl) rfl
theorem q3415 : (Jvm.Cond.code ({ cls := "LeafcreditModel", name := "units", desc := "(IC)I" } : Jvm.MethodName) prog_15_method_34_code (6 : Nat) (Option.some Jvm.ClassFile.FieldType.int)) ∈ lw_all := lw_g (lw_at lw_m14 234 rfl) rfl
theorem q3416 : (Jvm.Cond.methodLink "LeafcreditModel" (293 : Nat) ({ cls := "LeafcreditModel", name := "wrongHolder", desc := "(IC)I" } : Jvm.MethodName)) ∈ lw_all := lw_g (lw_at lw_m14 235 rfl) rfl
theorem q3418 : (Jvm.Cond.instanceMethod ({ cls := "LeafcreditModel", name := "wrongHolder", desc := "(IC)I" } : Jvm.MethodName)) ∈ lw_all := lw_g (lw_at lw_m14 237 rfl) rfl
theorem q3419 : (Jvm.Cond.code ({ cls := "LeafcreditModel", name := "wrongHolder", desc := "(IC)I" } : Jvm.MethodName) prog_15_method_33_code (3 : Nat) (Option.some Jvm.ClassFile.FieldType.int)) ∈ lw_all := lw_g (lw_at lw_m14 238 rfl) rfl
theorem q3420 : (Jvm.Cond.methodLink "LeafcreditLaw" (230 : Nat) ({ cls := "LeafcreditModel", name := "usable", desc := "(IC)I" } : Jvm.MethodName)) ∈ lw_all := lw_g (lw_at lw_m14 239 rfl) rfl
theorem q3421 : (Jvm.Cond.instanceMethod ({ cls := "LeafcreditModel", name := "usable", desc := "(IC)I" } : Jvm.MethodName)) ∈ lw_all := lw_g (lw_at lw_m15 0 rfl) rfl
theorem q3422 : (Jvm.Cond.selects "LeafcreditModel" ({ cls := "LeafcreditModel", name := "usable", desc := "(IC)I" } : Jvm.MethodName) ({ cls := "LeafcreditModel", name := "usable", desc := "(IC)I" } : Jvm.MethodName)) ∈ lw_all := lw_g (lw_at lw_m15 1 rfl) rfl
theorem q3423 : (Jvm.Cond.code ({ cls := "LeafcreditModel", name := "usable", desc := "(IC)I" } : Jvm.MethodName) prog_15_method_35_code (3 : Nat) (Option.some Jvm.ClassFile.FieldType.int)) ∈ lw_all := lw_g (lw_at lw_m15 2 rfl) rfl
theorem q3424 : (Jvm.Cond.methodLink "LeafcreditLaw" (234 : Nat) ({ cls := "LeafcreditModel", name := "made", desc := "()I" } : Jvm.MethodName)) ∈ lw_all := lw_g (lw_at lw_m15 3 rfl) rfl
theorem q3425 : (Jvm.Cond.instanceMethod ({ cls := "LeafcreditModel", name := "made", desc := "()I" } : Jvm.MethodName)) ∈ lw_all := lw_g (lw_at lw_m15 4 rfl) rfl
theorem q3426 : (Jvm.Cond.selects "LeafcreditModel" ({ cls := "LeafcreditModel", name := "made", desc := "()I" } : Jvm.MethodName) ({ cls := "LeafcreditModel", name := "made", desc := "()I" } : Jvm.MethodName)) ∈ lw_all := lw_g (lw_at lw_m15 5 rfl) rfl
theorem q3427 : (Jvm.Cond.code ({ cls := "LeafcreditModel", name := "made", desc := "()I" } : Jvm.MethodName) prog_15_method_36_code (1 : Nat) (Option.some Jvm.ClassFile.FieldType.int)) ∈ lw_all := lw_g (lw_at lw_m15 6 rfl) rfl
theorem q3428 : (Jvm.Cond.methodLink "LeafcreditModel" (296 : Nat) ({ cls := "LeafcreditModel", name := "plain", desc := "(I)I" } : Jvm.MethodName)) ∈ lw_all := lw_g (lw_at lw_m15 7 rfl) rfl
theorem q3430 : (Jvm.Cond.instanceMethod ({ cls := "LeafcreditModel", name := "plain", desc := "(I)I" } : Jvm.MethodName)) ∈ lw_all := lw_g (lw_at lw_m15 9 rfl) rfl
theorem q3431 : (Jvm.Cond.code ({ cls := "LeafcreditModel", name := "plain", desc := "(I)I" } : Jvm.MethodName) prog_15_method_4_code (2 : Nat) (Option.some Jvm.ClassFile.FieldType.int)) ∈ lw_all := lw_g (lw_at lw_m15 10 rfl) rfl
theorem q3432 : (Jvm.Cond.methodLink "LeafcreditLaw" (237 : Nat) ({ cls := "LeafcreditModel", name := "holderOf", desc := "(I)I" } : Jvm.MethodName)) ∈ lw_all := lw_g (lw_at lw_m15 11 rfl) rfl
theorem q3433 : (Jvm.Cond.instanceMethod ({ cls := "LeafcreditModel", name := "holderOf", desc := "(I)I" } : Jvm.MethodName)) ∈ lw_all := lw_g (lw_at lw_m15 12 rfl) rfl
theorem q3434 : (Jvm.Cond.selects "LeafcreditModel" ({ cls := "LeafcreditModel", name := "holderOf", desc := "(I)I" } : Jvm.MethodName) ({ cls := "LeafcreditModel", name := "holderOf", desc := "(I)I" } : Jvm.MethodName)) ∈ lw_all := lw_g (lw_at lw_m15 13 rfl) rfl
theorem q3435 : (Jvm.Cond.code ({ cls := "LeafcreditModel", name := "holderOf", desc := "(I)I" } : Jvm.MethodName) prog_15_method_38_code (3 : Nat) (Option.some Jvm.ClassFile.FieldType.int)) ∈ lw_all := lw_g (lw_at lw_m15 14 rfl) rfl
theorem q3436 : (Jvm.Cond.methodLink "LeafcreditModel" (300 : Nat) ({ cls := "LeafcreditModel", name := "rowOf", desc := "(I)LLeafcreditModel$Row;" } : Jvm.MethodName)) ∈ lw_all := lw_g (lw_at lw_m15 15 rfl) rfl
theorem q3438 : (Jvm.Cond.instanceMethod ({ cls := "LeafcreditModel", name := "rowOf", desc := "(I)LLeafcreditModel$Row;" } : Jvm.MethodName)) ∈ lw_all := lw_g (lw_at lw_m15 17 rfl) rfl
theorem q3439 : (Jvm.Cond.code ({ cls := "LeafcreditModel", name := "rowOf", desc := "(I)LLeafcreditModel$Row;" } : Jvm.MethodName) prog_15_method_37_code (4 : Nat) (Option.some (Jvm.ClassFile.FieldType.object "LeafcreditModel$Row"))) ∈ lw_all := lw_g (lw_at lw_m15 18 rfl) rfl
theorem q3440 : (Jvm.Cond.methodLink "LeafcreditLaw" (240 : Nat) ({ cls := "LeafcreditModel", name := "vintageOf", desc := "(I)I" } : Jvm.MethodName)) ∈ lw_all := lw_g (lw_at lw_m15 19 rfl) rfl
theorem q3441 : (Jvm.Cond.instanceMethod ({ cls := "LeafcreditModel", name := "vintageOf", desc := "(I)I" } : Jvm.MethodName)) ∈ lw_all := lw_g (lw_at lw_m15 20 rfl) rfl
theorem q3442 : (Jvm.Cond.selects "LeafcreditModel" ({ cls := "LeafcreditModel", name := "vintageOf", desc := "(I)I" } : Jvm.MethodName) ({ cls := "LeafcreditModel", name := "vintageOf", desc := "(I)I" } : Jvm.MethodName)) ∈ lw_all := lw_g (lw_at lw_m15 21 rfl) rfl
theorem q3443 : (Jvm.Cond.code ({ cls := "LeafcreditModel", name := "vintageOf", desc := "(I)I" } : Jvm.MethodName) prog_15_method_39_code (3 : Nat) (Option.some Jvm.ClassFile.FieldType.int)) ∈ lw_all := lw_g (lw_at lw_m15 22 rfl) rfl
theorem q3444 : (Jvm.Cond.methodLink "LeafcreditLaw" (243 : Nat) ({ cls := "LeafcreditModel", name := "isFrozen", desc := "(I)Z" } : Jvm.MethodName)) ∈ lw_all := lw_g (lw_at lw_m15 23 rfl) rfl
theorem q3445 : (Jvm.Cond.instanceMethod ({ cls := "LeafcreditModel", name := "isFrozen", desc := "(I)Z" } : Jvm.MethodName)) ∈ lw_all := lw_g (lw_at lw_m15 24 rfl) rfl
theorem q3446 : (Jvm.Cond.selects "LeafcreditModel" ({ cls := "LeafcreditModel", name := "isFrozen", desc := "(I)Z" } : Jvm.MethodName) ({ cls := "LeafcreditModel", name := "isFrozen", desc := "(I)Z" } : Jvm.MethodName)) ∈ lw_all := lw_g (lw_at lw_m15 25 rfl) rfl
theorem q3447 : (Jvm.Cond.code ({ cls := "LeafcreditModel", name := "isFrozen", desc := "(I)Z" } : Jvm.MethodName) prog_15_method_40_code (3 : Nat) (Option.some Jvm.ClassFile.FieldType.boolean)) ∈ lw_all := lw_g (lw_at lw_m15 26 rfl) rfl
theorem q3448 : (Jvm.Cond.methodLink "LeafcreditLaw" (247 : Nat) ({ cls := "LeafcreditModel", name := "blocks", desc := "()I" } : Jvm.MethodName)) ∈ lw_all := lw_g (lw_at lw_m15 27 rfl) rfl
theorem q3449 : (Jvm.Cond.instanceMethod ({ cls := "LeafcreditModel", name := "blocks", desc := "()I" } : Jvm.MethodName)) ∈ lw_all := lw_g (lw_at lw_m15 28 rfl) rfl
theorem q3450 : (Jvm.Cond.selects "LeafcreditModel" ({ cls := "LeafcreditModel", name := "blocks", desc := "()I" } : Jvm.MethodName) ({ cls := "LeafcreditModel", name := "blocks", desc := "()I" } : Jvm.MethodName)) ∈ lw_all := lw_g (lw_at lw_m15 29 rfl) rfl
theorem q3451 : (Jvm.Cond.code ({ cls := "LeafcreditModel", name := "blocks", desc := "()I" } : Jvm.MethodName) prog_15_method_41_code (3 : Nat) (Option.some Jvm.ClassFile.FieldType.int)) ∈ lw_all := lw_g (lw_at lw_m15 30 rfl) rfl
theorem q3452 : (Jvm.Cond.methodLink "LeafcreditModel" (304 : Nat) ({ cls := "LeafcreditModel$Row", name := "isLike", desc := "(LLeafcreditModel$Row;I)Z" } : Jvm.MethodName)) ∈ lw_all := lw_g (lw_at lw_m15 31 rfl) rfl
theorem q3453 : (Jvm.Cond.instanceMethod ({ cls := "LeafcreditModel$Row", name := "isLike", desc := "(LLeafcreditModel$Row;I)Z" } : Jvm.MethodName)) ∈ lw_all := lw_g (lw_at lw_m15 32 rfl) rfl
theorem q3454 : (Jvm.Cond.selects "LeafcreditModel$Row" ({ cls := "LeafcreditModel$Row", name := "isLike", desc := "(LLeafcreditModel$Row;I)Z" } : Jvm.MethodName) ({ cls := "LeafcreditModel$Row", name := "isLike", desc := "(LLeafcreditModel$Row;I)Z" } : Jvm.MethodName)) ∈ lw_all := lw_g (lw_at lw_m15 33 rfl) rfl
theorem q3455 : (Jvm.Cond.code ({ cls := "LeafcreditModel$Row", name := "isLike", desc := "(LLeafcreditModel$Row;I)Z" } : Jvm.MethodName) prog_20_method_4_code (5 : Nat) (Option.some Jvm.ClassFile.FieldType.boolean)) ∈ lw_all := lw_g (lw_at lw_m15 34 rfl) rfl
theorem q3456 : (Jvm.Cond.methodLink "LeafcreditModel$Row" (39 : Nat) ({ cls := "LeafcreditModel$Row", name := "isLocked", desc := "(I)Z" } : Jvm.MethodName)) ∈ lw_all := lw_g (lw_at lw_m15 35 rfl) rfl
theorem q3457 : (Jvm.Cond.methodLink "LeafcreditLaw" (250 : Nat) ({ cls := "LeafcreditModel", name := "surrender", desc := "(IICI)J" } : Jvm.MethodName)) ∈ lw_all := lw_g (lw_at lw_m15 36 rfl) rfl
theorem q3458 : (Jvm.Cond.instanceMethod ({ cls := "LeafcreditModel", name := "surrender", desc := "(IICI)J" } : Jvm.MethodName)) ∈ lw_all := lw_g (lw_at lw_m15 37 rfl) rfl
theorem q3459 : (Jvm.Cond.selects "LeafcreditModel" ({ cls := "LeafcreditModel", name := "surrender", desc := "(IICI)J" } : Jvm.MethodName) ({ cls := "LeafcreditModel", name := "surrender", desc := "(IICI)J" } : Jvm.MethodName)) ∈ lw_all := lw_g (lw_at lw_m15 38 rfl) rfl
theorem q3460 : (Jvm.Cond.code ({ cls := "LeafcreditModel", name := "surrender", desc := "(IICI)J" } : Jvm.MethodName) prog_15_method_42_code (7 : Nat) (Option.some Jvm.ClassFile.FieldType.long)) ∈ lw_all := lw_g (lw_at lw_m15 39 rfl) rfl
theorem q3461 : (Jvm.Cond.constantLong "LeafcreditModel" (314 : Nat) (10 : Int64)) ∈ lw_all := lw_g (lw_at lw_m15 40 rfl) rfl
theorem q3462 : (Jvm.Cond.methodLink "LeafcreditLaw" (254 : Nat) ({ cls := "LeafcreditModel", name := "surrendered", desc := "(C)I" } : Jvm.MethodName)) ∈ lw_all := lw_g (lw_at lw_m15 41 rfl) rfl
theorem q3463 : (Jvm.Cond.instanceMethod ({ cls := "LeafcreditModel", name := "surrendered", desc := "(C)I" } : Jvm.MethodName)) ∈ lw_all := lw_g (lw_at lw_m15 42 rfl) rfl
theorem q3464 : (Jvm.Cond.selects "LeafcreditModel" ({ cls := "LeafcreditModel", name := "surrendered", desc := "(C)I" } : Jvm.MethodName) ({ cls := "LeafcreditModel", name := "surrendered", desc := "(C)I" } : Jvm.MethodName)) ∈ lw_all := lw_g (lw_at lw_m15 43 rfl) rfl
theorem q3465 : (Jvm.Cond.code ({ cls := "LeafcreditModel", name := "surrendered", desc := "(C)I" } : Jvm.MethodName) prog_15_method_43_code (2 : Nat) (Option.some Jvm.ClassFile.FieldType.int)) ∈ lw_all := lw_g (lw_at lw_m15 44 rfl) rfl
theorem q3466 : (Jvm.Cond.methodLink "LeafcreditLaw" (258 : Nat) ({ cls := "LeafcreditModel", name := "cancelled", desc := "()I" } : Jvm.MethodName)) ∈ lw_all := lw_g (lw_at lw_m15 45 rfl) rfl
theorem q3467 : (Jvm.Cond.instanceMethod ({ cls := "LeafcreditModel", name := "cancelled", desc := "()I" } : Jvm.MethodName)) ∈ lw_all := lw_g (lw_at lw_m15 46 rfl) rfl
theorem q3468 : (Jvm.Cond.selects "LeafcreditModel" ({ cls := "LeafcreditModel", name := "cancelled", desc := "()I" } : Jvm.MethodName) ({ cls := "LeafcreditModel", name := "cancelled", desc := "()I" } : Jvm.MethodName)) ∈ lw_all := lw_g (lw_at lw_m15 47 rfl) rfl
theorem q3469 : (Jvm.Cond.code ({ cls := "LeafcreditModel", name := "cancelled", desc := "()I" } : Jvm.MethodName) prog_15_method_44_code (1 : Nat) (Option.some Jvm.ClassFile.FieldType.int)) ∈ lw_all := lw_g (lw_at lw_m15 48 rfl) rfl
theorem q3470 : (Jvm.Cond.methodLink "LeafcreditLaw" (262 : Nat) ({ cls := "LeafcreditModel", name := "entries", desc := "()I" } : Jvm.MethodName)) ∈ lw_all := lw_g (lw_at lw_m15 49 rfl) rfl
theorem q3471 : (Jvm.Cond.instanceMethod ({ cls := "LeafcreditModel", name := "entries", desc := "()I" } : Jvm.MethodName)) ∈ lw_all := lw_g (lw_at lw_m15 50 rfl) rfl
theorem q3472 : (Jvm.Cond.selects "LeafcreditModel" ({ cls := "LeafcreditModel", name := "entries", desc := "()I" } : Jvm.MethodName) ({ cls := "LeafcreditModel", name := "entries", desc := "()I" } : Jvm.MethodName)) ∈ lw_all := lw_g (lw_at lw_m15 51 rfl) rfl
theorem q3473 : (Jvm.Cond.code ({ cls := "LeafcreditModel", name := "entries", desc := "()I" } : Jvm.MethodName) prog_15_method_45_code (1 : Nat) (Option.some Jvm.ClassFile.FieldType.int)) ∈ lw_all := lw_g (lw_at lw_m15 52 rfl) rfl
theorem q3474 : (Jvm.Cond.methodLink "LeafcreditLaw" (179 : Nat) ({ cls := "LeafcreditModel", name := "setCap", desc := "(II)I" } : Jvm.MethodName)) ∈ lw_all := lw_g (lw_at lw_m15 53 rfl) rfl
theorem q3475 : (Jvm.Cond.instanceMethod ({ cls := "LeafcreditModel", name := "setCap", desc := "(II)I" } : Jvm.MethodName)) ∈ lw_all := lw_g (lw_at lw_m15 54 rfl) rfl
theorem q3476 : (Jvm.Cond.selects "LeafcreditModel" ({ cls := "LeafcreditModel", name := "setCap", desc := "(II)I" } : Jvm.MethodName) ({ cls := "LeafcreditModel", name := "setCap", desc := "(II)I" } : Jvm.MethodName)) ∈ lw_all := lw_g (lw_at lw_m15 55 rfl) rfl
theorem q3477 : (Jvm.Cond.code ({ cls := "LeafcreditModel", name := "setCap", desc := "(II)I" } : Jvm.MethodName) prog_15_method_49_code (3 : Nat) (Option.some Jvm.ClassFile.FieldType.int)) ∈ lw_all := lw_g (lw_at lw_m15 56 rfl) rfl
theorem q3478 : (Jvm.Cond.methodLink "LeafcreditModel" (345 : Nat) ({ cls := "LeafcreditModel", name := "beginYear", desc := "()V" } : Jvm.MethodName)) ∈ lw_all := lw_g (lw_at lw_m15 57 rfl) rfl
theorem q3480 : (Jvm.Cond.instanceMethod ({ cls := "LeafcreditModel", name := "beginYear", desc := "()V" } : Jvm.MethodName)) ∈ lw_all := lw_g (lw_at lw_m15 59 rfl) rfl
theorem q3481 : (Jvm.Cond.code ({ cls := "LeafcreditModel", name := "beginYear", desc := "()V" } : Jvm.MethodName) prog_15_method_48_code (10 : Nat) (Option.none : Option Jvm.ClassFile.FieldType)) ∈ lw_all := lw_g (lw_at lw_m15 60 rfl) rfl
theorem q3482 : (Jvm.Cond.methodLink "LeafcreditModel" (321 : Nat) ({ cls := "java/lang/Math", name := "abs", desc := "(J)J" } : Jvm.MethodName)) ∈ lw_all := lw_g (lw_at lw_m15 61 rfl) rfl
theorem q3483 : (Jvm.Cond.static ({ cls := "java/lang/Math", name := "abs", desc := "(J)J" } : Jvm.MethodName)) ∈ lw_all := lw_g (lw_at lw_m15 62 rfl) rfl
theorem q3484 : (Jvm.Cond.code ({ cls := "java/lang/Math", name := "abs", desc := "(J)J" } : Jvm.MethodName) prog_38_method_61_code (2 : Nat) (Option.some Jvm.ClassFile.FieldType.long)) ∈ lw_all := lw_g (lw_at lw_m15 63 rfl) rfl
theorem q3485 : (Jvm.Cond.constantLong "LeafcreditModel" (325 : Nat) (15 : Int64)) ∈ lw_all := lw_g (lw_at lw_m15 64 rfl) rfl
theorem q3486 : (Jvm.Cond.constantLong "LeafcreditModel" (327 : Nat) (1000 : Int64)) ∈ lw_all := lw_g (lw_at lw_m15 65 rfl) rfl
theorem q3487 : (Jvm.Cond.constantLong "LeafcreditModel" (329 : Nat) (40 : Int64)) ∈ lw_all := lw_g (lw_at lw_m15 66 rfl) rfl
theorem q3488 : (Jvm.Cond.methodLink "LeafcreditModel" (331 : Nat) ({ cls := "LeafcreditModel", name := "cap", desc := "()I" } : Jvm.MethodName)) ∈ lw_all := lw_g (lw_at lw_m15 67 rfl) rfl
theorem q3490 : (Jvm.Cond.instanceMethod ({ cls := "LeafcreditModel", name := "cap", desc := "()I" } : Jvm.MethodName)) ∈ lw_all := lw_g (lw_at lw_m15 69 rfl) rfl
theorem q3491 : (Jvm.Cond.code ({ cls := "LeafcreditModel", name := "cap", desc := "()I" } : Jvm.MethodName) prog_15_method_46_code (1 : Nat) (Option.some Jvm.ClassFile.FieldType.int)) ∈ lw_all := lw_g (lw_at lw_m15 70 rfl) rfl
theorem q3492 : (Jvm.Cond.methodLink "LeafcreditModel" (316 : Nat) ({ cls := "java/lang/Math", name := "max", desc := "(II)I" } : Jvm.MethodName)) ∈ lw_all := lw_g (lw_at lw_m15 71 rfl) rfl
theorem q3493 : (Jvm.Cond.methodLink "LeafcreditModel" (334 : Nat) ({ cls := "LeafcreditModel", name := "make", desc := "(CIII)V" } : Jvm.MethodName)) ∈ lw_all := lw_g (lw_at lw_m15 72 rfl) rfl
theorem q3495 : (Jvm.Cond.instanceMethod ({ cls := "LeafcreditModel", name := "make", desc := "(CIII)V" } : Jvm.MethodName)) ∈ lw_all := lw_g (lw_at lw_m15 74 rfl) rfl
theorem q3496 : (Jvm.Cond.code ({ cls := "LeafcreditModel", name := "make", desc := "(CIII)V" } : Jvm.MethodName) prog_15_method_18_code (5 : Nat) (Option.none : Option Jvm.ClassFile.FieldType)) ∈ lw_all := lw_g (lw_at lw_m15 75 rfl) rfl
theorem q3497 : (Jvm.Cond.methodLink "LeafcreditModel" (338 : Nat) ({ cls := "LeafcreditModel", name := "circulating", desc := "()I" } : Jvm.MethodName)) ∈ lw_all := lw_g (lw_at lw_m15 76 rfl) rfl
theorem q3499 : (Jvm.Cond.instanceMethod ({ cls := "LeafcreditModel", name := "circulating", desc := "()I" } : Jvm.MethodName)) ∈ lw_all := lw_g (lw_at lw_m15 78 rfl) rfl
theorem q3500 : (Jvm.Cond.code ({ cls := "LeafcreditModel", name := "circulating", desc := "()I" } : Jvm.MethodName) prog_15_method_47_code (4 : Nat) (Option.some Jvm.ClassFile.FieldType.int)) ∈ lw_all := lw_g (lw_at lw_m15 79 rfl) rfl
theorem q3501 : (Jvm.Cond.constantLong "LeafcreditModel" (341 : Nat) (24 : Int64)) ∈ lw_all := lw_g (lw_at lw_m15 80 rfl) rfl
theorem q3502 : (Jvm.Cond.methodLink "LeafcreditModel" (343 : Nat) ({ cls := "java/lang/Math", name := "min", desc := "(JJ)J" } : Jvm.MethodName)) ∈ lw_all := lw_g (lw_at lw_m15 81 rfl) rfl
theorem q3503 : (Jvm.Cond.methodLink "LeafcreditLaw" (182 : Nat) ({ cls := "LeafcreditModel", name := "setBounds", desc := "(III)I" } : Jvm.MethodName)) ∈ lw_all := lw_g (lw_at lw_m15 82 rfl) rfl
theorem q3504 : (Jvm.Cond.instanceMethod ({ cls := "LeafcreditModel", name := "setBounds", desc := "(III)I" } : Jvm.MethodName)) ∈ lw_all := lw_g (lw_at lw_m15 83 rfl) rfl
theorem q3505 : (Jvm.Cond.selects "LeafcreditModel" ({ cls := "LeafcreditModel", name := "setBounds", desc := "(III)I" } : Jvm.MethodName) ({ cls := "LeafcreditModel", name := "setBounds", desc := "(III)I" } : Jvm.MethodName)) ∈ lw_all := lw_g (lw_at lw_m15 84 rfl) rfl
theorem q3506 : (Jvm.Cond.code ({ cls := "LeafcreditModel", name := "setBounds", desc := "(III)I" } : Jvm.MethodName) prog_15_method_50_code (4 : Nat) (Option.some Jvm.ClassFile.FieldType.int)) ∈ lw_all := lw_g (lw_at lw_m15 85 rfl) rfl
theorem q3507 : (Jvm.Cond.methodLink "LeafcreditLaw" (185 : Nat) ({ cls := "LeafcreditModel", name := "bid", desc := "(III)I" } : Jvm.MethodName)) ∈ lw_all := lw_g (lw_at lw_m15 86 rfl) rfl
theorem q3508 : (Jvm.Cond.instanceMethod ({ cls := "LeafcreditModel", name := "bid", desc := "(III)I" } : Jvm.MethodName)) ∈ lw_all := lw_g (lw_at lw_m15 87 rfl) rfl
theorem q3509 : (Jvm.Cond.selects "LeafcreditModel" ({ cls := "LeafcreditModel", name := "bid", desc := "(III)I" } : Jvm.MethodName) ({ cls := "LeafcreditModel", name := "bid", desc := "(III)I" } : Jvm.MethodName)) ∈ lw_all := lw_g (lw_at lw_m15 88 rfl) rfl
theorem q3510 : (Jvm.Cond.code ({ cls := "LeafcreditModel", name := "bid", desc := "(III)I" } : Jvm.MethodName) prog_15_method_51_code (9 : Nat) (Option.some Jvm.ClassFile.FieldType.int)) ∈ lw_all := lw_g (lw_at lw_m15 89 rfl) rfl
theorem q3511 : (Jvm.Cond.constantLong "LeafcreditModel" (348 : Nat) (10000 : Int64)) ∈ lw_all := lw_g (lw_at lw_m15 90 rfl) rfl
theorem q3512 : (Jvm.Cond.classLink "LeafcreditModel" (350 : Nat) "LeafcreditModel$Bid") ∈ lw_all := lw_g (lw_at lw_m15 91 rfl) rfl
theorem q3513 : (Jvm.Cond.instantiable "LeafcreditModel$Bid" (3 : Nat)) ∈ lw_all := lw_g (lw_at lw_m15 92 rfl) rfl
theorem q3514 : (Jvm.Cond.methodLinkNest "LeafcreditModel" (352 : Nat) ({ cls := "LeafcreditModel$Bid", name := "<init>", desc := "(III)V" } : Jvm.MethodName) "LeafcreditModel") ∈ lw_tbl := lw_at lw_m15 93 rfl
theorem q3515 : (Jvm.Cond.instanceMethod ({ cls := "LeafcreditModel$Bid", name := "<init>", desc := "(III)V" } : Jvm.MethodName)) ∈ lw_all := lw_g (lw_at lw_m15 94 rfl) rfl
theorem q3516 : (Jvm.Cond.code ({ cls := "LeafcreditModel$Bid", name := "<init>", desc := "(III)V" } : Jvm.MethodName) prog_17_method_1_code (4 : Nat) (Option.none : Option Jvm.ClassFile.FieldType)) ∈ lw_all := lw_g (lw_at lw_m15 95 rfl) rfl
theorem q3517 : (Jvm.Cond.methodLink "LeafcreditModel$Bid" (1 : Nat) ({ cls := "java/lang/Record", name := "<init>", desc := "()V" } : Jvm.MethodName)) ∈ lw_all := lw_g (lw_at lw_m15 96 rfl) rfl
theorem q3518 : (Jvm.Cond.instanceMethod ({ cls := "java/lang/Record", name := "<init>", desc := "()V" } : Jvm.MethodName)) ∈ lw_all := lw_g (lw_at lw_m15 97 rfl) rfl
theorem q3519 : (Jvm.Cond.code ({ cls := "java/lang/Record", name := "<init>", desc := "()V" } : Jvm.MethodName) prog_40_method_1_code (1 : Nat) (Option.none : Option Jvm.ClassFile.FieldType)) ∈ lw_all := lw_g (lw_at lw_m15 98 rfl) rfl
theorem q3520 : (Jvm.Cond.methodLink "java/lang/Record" (1 : Nat) ({ cls := "java/lang/Object", name := "<init>", desc := "()V" } : Jvm.MethodName)) ∈ lw_all := lw_g (lw_at lw_m15 99 rfl) rfl
theorem q3521 : (Jvm.Cond.fieldLink "LeafcreditModel$Bid" (7 : Nat) "LeafcreditModel$Bid" "account" "I") ∈ lw_all := lw_g (lw_at lw_m15 100 rfl) rfl
theorem q3522 : (Jvm.Cond.fieldLink "LeafcreditModel$Bid" (13 : Nat) "LeafcreditModel$Bid" "units" "I") ∈ lw_all := lw_g (lw_at lw_m15 101 rfl) rfl
theorem q3523 : (Jvm.Cond.fieldLink "LeafcreditModel$Bid" (16 : Nat) "LeafcreditModel$Bid" "price" "I") ∈ lw_all := lw_g (lw_at lw_m15 102 rfl) rfl
theorem q3531 : (Jvm.Cond.methodLink "LeafcreditModel" (355 : Nat) ({ cls := "LeafcreditModel$Bid", name := "cost", desc := "()J" } : Jvm.MethodName)) ∈ lw_all := lw_g (lw_at lw_m15 110 rfl) rfl
theorem q3532 : (Jvm.Cond.instanceMethod ({ cls := "LeafcreditModel$Bid", name := "cost", desc := "()J" } : Jvm.MethodName)) ∈ lw_all := lw_g (lw_at lw_m15 111 rfl) rfl
theorem q3533 : (Jvm.Cond.selects "LeafcreditModel$Bid" ({ cls := "LeafcreditModel$Bid", name := "cost", desc := "()J" } : Jvm.MethodName) ({ cls := "LeafcreditModel$Bid", name := "cost", desc := "()J" } : Jvm.MethodName)) ∈ lw_all := lw_g (lw_at lw_m15 112 rfl) rfl
theorem q3534 : (Jvm.Cond.code ({ cls := "LeafcreditModel$Bid", name := "cost", desc := "()J" } : Jvm.MethodName) prog_17_method_2_code (1 : Nat) (Option.some Jvm.ClassFile.FieldType.long)) ∈ lw_all := lw_g (lw_at lw_m15 113 rfl) rfl
theorem q3535 : (Jvm.Cond.methodLink "LeafcreditModel" (359 : Nat) ({ cls := "LeafcreditModel$Bid", name := "account", desc := "()I" } : Jvm.MethodName)) ∈ lw_all := lw_g (lw_at lw_m15 114 rfl) rfl
theorem q3536 : (Jvm.Cond.instanceMethod ({ cls := "LeafcreditModel$Bid", name := "account", desc := "()I" } : Jvm.MethodName)) ∈ lw_all := lw_g (lw_at lw_m15 115 rfl) rfl
theorem q3537 : (Jvm.Cond.selects "LeafcreditModel$Bid" ({ cls := "LeafcreditModel$Bid", name := "account", desc := "()I" } : Jvm.MethodName) ({ cls := "LeafcreditModel$Bid", name := "account", desc := "()I" } : Jvm.MethodName)) ∈ lw_all := lw_g (lw_at lw_m15 116 rfl) rfl
theorem q3538 : (Jvm.Cond.code ({ cls := "LeafcreditModel$Bid", name := "account", desc := "()I" } : Jvm.MethodName) prog_17_method_6_code (1 : Nat) (Option.some Jvm.ClassFile.FieldType.int)) ∈ lw_all := lw_g (lw_at lw_m15 117 rfl) rfl
theorem q3539 : (Jvm.Cond.methodLink "LeafcreditLaw" (188 : Nat) ({ cls := "LeafcreditModel", name := "auction", desc := "(II)I" } : Jvm.MethodName)) ∈ lw_all := lw_g (lw_at lw_m15 118 rfl) rfl
theorem q3540 : (Jvm.Cond.instanceMethod ({ cls := "LeafcreditModel", name := "auction", desc := "(II)I" } : Jvm.MethodName)) ∈ lw_all := lw_g (lw_at lw_m15 119 rfl) rfl
theorem q3541 : (Jvm.Cond.selects "LeafcreditModel" ({ cls := "LeafcreditModel", name := "auction", desc := "(II)I" } : Jvm.MethodName) ({ cls := "LeafcreditModel", name := "auction", desc := "(II)I" } : Jvm.MethodName)) ∈ lw_all := lw_g (lw_at lw_m15 120 rfl) rfl
theorem q3542 : (Jvm.Cond.code ({ cls := "LeafcreditModel", name := "auction", desc := "(II)I" } : Jvm.MethodName) prog_15_method_52_code (9 : Nat) (Option.some Jvm.ClassFile.FieldType.int)) ∈ lw_all := lw_g (lw_at lw_m15 121 rfl) rfl
theorem q3543 : (Jvm.Cond.methodLink "LeafcreditModel" (362 : Nat) ({ cls := "LeafcreditModel$Bid", name := "price", desc := "()I" } : Jvm.MethodName)) ∈ lw_all := lw_g (lw_at lw_m15 122 rfl) rfl
theorem q3544 : (Jvm.Cond.instanceMethod ({ cls := "LeafcreditModel$Bid", name := "price", desc := "()I" } : Jvm.MethodName)) ∈ lw_all := lw_g (lw_at lw_m15 123 rfl) rfl
theorem q3545 : (Jvm.Cond.selects "LeafcreditModel$Bid" ({ cls := "LeafcreditModel$Bid", name := "price", desc := "()I" } : Jvm.MethodName) ({ cls := "LeafcreditModel$Bid", name := "price", desc := "()I" } : Jvm.MethodName)) ∈ lw_all := lw_g (lw_at lw_m15 124 rfl) rfl
theorem q3546 : (Jvm.Cond.code ({ cls := "LeafcreditModel$Bid", name := "price", desc := "()I" } : Jvm.MethodName) prog_17_method_8_code (1 : Nat) (Option.some Jvm.ClassFile.FieldType.int)) ∈ lw_all := lw_g (lw_at lw_m15 125 rfl) rfl
theorem q3547 : (Jvm.Cond.methodLink "LeafcreditModel" (364 : Nat) ({ cls := "java/util/ArrayList", name := "clear", desc := "()V" } : Jvm.MethodName)) ∈ lw_all := lw_g (lw_at lw_m15 126 rfl) rfl
theorem q3548 : (Jvm.Cond.instanceMethod ({ cls := "java/util/ArrayList", name := "clear", desc := "()V" } : Jvm.MethodName)) ∈ lw_all := lw_g (lw_at lw_m15 127 rfl) rfl
theorem q3549 : (Jvm.Cond.selects "java/util/ArrayList" ({ cls := "java/util/ArrayList", name := "clear", desc := "()V" } : Jvm.MethodName) ({ cls := "java/util/ArrayList", name := "clear", desc := "()V" } : Jvm.MethodName)) ∈ lw_all := lw_g (lw_at lw_m15 128 rfl) rfl
theorem q3550 : (Jvm.Cond.code ({ cls := "java/util/ArrayList", name := "clear", desc := "()V" } : Jvm.MethodName) prog_61_method_40_code (4 : Nat) (Option.none : Option Jvm.ClassFile.FieldType)) ∈ lw_all := lw_g (lw_at lw_m15 129 rfl) rfl
theorem q3551 : (Jvm.Cond.methodLink "LeafcreditModel" (367 : Nat) ({ cls := "LeafcreditModel$Bid", name := "units", desc := "()I" } : Jvm.MethodName)) ∈ lw_all := lw_g (lw_at lw_m15 130 rfl) rfl
theorem q3552 : (Jvm.Cond.instanceMethod ({ cls := "LeafcreditModel$Bid", name := "units", desc := "()I" } : Jvm.MethodName)) ∈ lw_all := lw_g (lw_at lw_m15 131 rfl) rfl
theorem q3553 : (Jvm.Cond.selects "LeafcreditModel$Bid" ({ cls := "LeafcreditModel$Bid", name := "units", desc := "()I" } : Jvm.MethodName) ({ cls := "LeafcreditModel$Bid", name := "units", desc := "()I" } : Jvm.MethodName)) ∈ lw_all := lw_g (lw_at lw_m15 132 rfl) rfl
theorem q3554 : (Jvm.Cond.code ({ cls := "LeafcreditModel$Bid", name := "units", desc := "()I" } : Jvm.MethodName) prog_17_method_7_code (1 : Nat) (Option.some Jvm.ClassFile.FieldType.int)) ∈ lw_all := lw_g (lw_at lw_m15 133 rfl) rfl
theorem q3555 : (Jvm.Cond.methodLink "LeafcreditLaw" (192 : Nat) ({ cls := "LeafcreditModel", name := "price", desc := "()I" } : Jvm.MethodName)) ∈ lw_all := lw_g (lw_at lw_m15 134 rfl) rfl
theorem q3556 : (Jvm.Cond.instanceMethod ({ cls := "LeafcreditModel", name := "price", desc := "()I" } : Jvm.MethodName)) ∈ lw_all := lw_g (lw_at lw_m15 135 rfl) rfl
theorem q3557 : (Jvm.Cond.selects "LeafcreditModel" ({ cls := "LeafcreditModel", name := "price", desc := "()I" } : Jvm.MethodName) ({ cls := "LeafcreditModel", name := "price", desc := "()I" } : Jvm.MethodName)) ∈ lw_all := lw_g (lw_at lw_m15 136 rfl) rfl
theorem q3558 : (Jvm.Cond.code ({ cls := "LeafcreditModel", name := "price", desc := "()I" } : Jvm.MethodName) prog_15_method_53_code (1 : Nat) (Option.some Jvm.ClassFile.FieldType.int)) ∈ lw_all := lw_g (lw_at lw_m15 137 rfl) rfl
theorem q3559 : (Jvm.Cond.methodLink "LeafcreditLaw" (196 : Nat) ({ cls := "LeafcreditModel", name := "volume", desc := "()I" } : Jvm.MethodName)) ∈ lw_all := lw_g (lw_at lw_m15 138 rfl) rfl
theorem q3560 : (Jvm.Cond.instanceMethod ({ cls := "LeafcreditModel", name := "volume", desc := "()I" } : Jvm.MethodName)) ∈ lw_all := lw_g (lw_at lw_m15 139 rfl) rfl
theorem q3561 : (Jvm.Cond.selects "LeafcreditModel" ({ cls := "LeafcreditModel", name := "volume", desc := "()I" } : Jvm.MethodName) ({ cls := "LeafcreditModel", name := "volume", desc := "()I" } : Jvm.MethodName)) ∈ lw_all := lw_g (lw_at lw_m15 140 rfl) rfl
theorem q3562 : (Jvm.Cond.code ({ cls := "LeafcreditModel", name := "volume", desc := "()I" } : Jvm.MethodName) prog_15_method_54_code (1 : Nat) (Option.some Jvm.ClassFile.FieldType.int)) ∈ lw_all := lw_g (lw_at lw_m15 141 rfl) rfl
theorem q3563 : (Jvm.Cond.methodLink "LeafcreditLaw" (200 : Nat) ({ cls := "LeafcreditModel", name := "reserve", desc := "()I" } : Jvm.MethodName)) ∈ lw_all := lw_g (lw_at lw_m15 142 rfl) rfl
theorem q3564 : (Jvm.Cond.instanceMethod ({ cls := "LeafcreditModel", name := "reserve", desc := "()I" } : Jvm.MethodName)) ∈ lw_all := lw_g (lw_at lw_m15 143 rfl) rfl
theorem q3565 : (Jvm.Cond.selects "LeafcreditModel" ({ cls := "LeafcreditModel", name := "reserve", desc := "()I" } : Jvm.MethodName) ({ cls := "LeafcreditModel", name := "reserve", desc := "()I" } : Jvm.MethodName)) ∈ lw_all := lw_g (lw_at lw_m15 144 rfl) rfl
theorem q3566 : (Jvm.Cond.code ({ cls := "LeafcreditModel", name := "reserve", desc := "()I" } : Jvm.MethodName) prog_15_method_55_code (1 : Nat) (Option.some Jvm.ClassFile.FieldType.int)) ∈ lw_all := lw_g (lw_at lw_m15 145 rfl) rfl
theorem q3567 : (Jvm.Cond.methodLink "LeafcreditLaw" (204 : Nat) ({ cls := "LeafcreditModel", name := "circulation", desc := "()I" } : Jvm.MethodName)) ∈ lw_all := lw_g (lw_at lw_m15 146 rfl) rfl
theorem q3568 : (Jvm.Cond.instanceMethod ({ cls := "LeafcreditModel", name := "circulation", desc := "()I" } : Jvm.MethodName)) ∈ lw_all := lw_g (lw_at lw_m15 147 rfl) rfl
theorem q3569 : (Jvm.Cond.selects "LeafcreditModel" ({ cls := "LeafcreditModel", name := "circulation", desc := "()I" } : Jvm.MethodName) ({ cls := "LeafcreditModel", name := "circulation", desc := "()I" } : Jvm.MethodName)) ∈ lw_all := lw_g (lw_at lw_m15 148 rfl) rfl
theorem q3570 : (Jvm.Cond.code ({ cls := "LeafcreditModel", name := "circulation", desc := "()I" } : Jvm.MethodName) prog_15_method_56_code (1 : Nat) (Option.some Jvm.ClassFile.FieldType.int)) ∈ lw_all := lw_g (lw_at lw_m15 149 rfl) rfl
theorem q3571 : (Jvm.Cond.methodLink "LeafcreditLaw" (266 : Nat) ({ cls := "LeafcreditModel", name := "addProject", desc := "(IIIIZ)I" } : Jvm.MethodName)) ∈ lw_all := lw_g (lw_at lw_m15 150 rfl) rfl
theorem q3572 : (Jvm.Cond.instanceMethod ({ cls := "LeafcreditModel", name := "addProject", desc := "(IIIIZ)I" } : Jvm.MethodName)) ∈ lw_all := lw_g (lw_at lw_m15 151 rfl) rfl
theorem q3573 : (Jvm.Cond.selects "LeafcreditModel" ({ cls := "LeafcreditModel", name := "addProject", desc := "(IIIIZ)I" } : Jvm.MethodName) ({ cls := "LeafcreditModel", name := "addProject", desc := "(IIIIZ)I" } : Jvm.MethodName)) ∈ lw_all := lw_g (lw_at lw_m15 152 rfl) rfl
theorem q3574 : (Jvm.Cond.code ({ cls := "LeafcreditModel", name := "addProject", desc := "(IIIIZ)I" } : Jvm.MethodName) prog_15_method_58_code (6 : Nat) (Option.some Jvm.ClassFile.FieldType.int)) ∈ lw_all := lw_g (lw_at lw_m15 153 rfl) rfl
theorem q3575 : (Jvm.Cond.classLink "LeafcreditModel" (369 : Nat) "LeafcreditModel$Project") ∈ lw_all := lw_g (lw_at lw_m15 154 rfl) rfl
theorem q3576 : (Jvm.Cond.instantiable "LeafcreditModel$Project" (7 : Nat)) ∈ lw_all := lw_g (lw_at lw_m15 155 rfl) rfl
theorem q3577 : (Jvm.Cond.methodLink "LeafcreditModel" (371 : Nat) ({ cls := "LeafcreditModel$Project", name := "<init>", desc := "(IIIIZ)V" } : Jvm.MethodName)) ∈ lw_all := lw_g (lw_at lw_m15 156 rfl) rfl
theorem q3578 : (Jvm.Cond.instanceMethod ({ cls := "LeafcreditModel$Project", name := "<init>", desc := "(IIIIZ)V" } : Jvm.MethodName)) ∈ lw_all := lw_g (lw_at lw_m15 157 rfl) rfl
theorem q3579 : (Jvm.Cond.code ({ cls := "LeafcreditModel$Project", name := "<init>", desc := "(IIIIZ)V" } : Jvm.MethodName) prog_19_method_1_code (6 : Nat) (Option.none : Option Jvm.ClassFile.FieldType)) ∈ lw_all := lw_g (lw_at lw_m15 158 rfl) rfl
theorem q3580 : (Jvm.Cond.methodLink "LeafcreditModel$Project" (1 : Nat) ({ cls := "java/lang/Object", name := "<init>", desc := "()V" } : Jvm.MethodName)) ∈ lw_all := lw_g (lw_at lw_m15 159 rfl) rfl
theorem q3581 : (Jvm.Cond.fieldLink "LeafcreditModel$Project" (16 : Nat) "LeafcreditModel$Project" "account" "I") ∈ lw_all := lw_g (lw_at lw_m15 160 rfl) rfl
theorem q3582 : (Jvm.Cond.fieldLink "LeafcreditModel" (398 : Nat) "LeafcreditModel$Project" "account" "I") ∈ lw_all := lw_g (lw_at lw_m15 161 rfl) rfl
theorem q3583 : (Jvm.Cond.fieldLink "LeafcreditModel$Project" (19 : Nat) "LeafcreditModel$Project" "baseline" "I") ∈ lw_all := lw_g (lw_at lw_m15 162 rfl) rfl
theorem q3584 : (Jvm.Cond.fieldLink "LeafcreditModel" (386 : Nat) "LeafcreditModel$Project" "baseline" "I") ∈ lw_all := lw_g (lw_at lw_m15 163 rfl) rfl
theorem q3585 : (Jvm.Cond.fieldLink "LeafcreditModel$Project" (22 : Nat) "LeafcreditModel$Project" "leakage" "I") ∈ lw_all := lw_g (lw_at lw_m15 164 rfl) rfl
theorem q3586 : (Jvm.Cond.fieldLink "LeafcreditModel" (389 : Nat) "LeafcreditModel$Project" "leakage" "I") ∈ lw_all := lw_g (lw_at lw_m15 165 rfl) rfl
theorem q3587 : (Jvm.Cond.fieldLink "LeafcreditModel$Project" (25 : Nat) "LeafcreditModel$Project" "buffer" "I") ∈ lw_all := lw_g (lw_at lw_m15 166 rfl) rfl
theorem q3588 : (Jvm.Cond.fieldLink "LeafcreditModel" (392 : Nat) "LeafcreditModel$Project" "buffer" "I") ∈ lw_all := lw_g (lw_at lw_m15 167 rfl) rfl
theorem q3589 : (Jvm.Cond.fieldLink "LeafcreditModel$Project" (28 : Nat) "LeafcreditModel$Project" "isAdditional" "Z") ∈ lw_all := lw_g (lw_at lw_m15 168 rfl) rfl
theorem q3590 : (Jvm.Cond.fieldLink "LeafcreditModel" (383 : Nat) "LeafcreditModel$Project" "isAdditional" "Z") ∈ lw_all := lw_g (lw_at lw_m15 169 rfl) rfl
theorem q3591 : (Jvm.Cond.fieldLink "LeafcreditModel$Project" (7 : Nat) "LeafcreditModel$Project" "verified" "I") ∈ lw_all := lw_g (lw_at lw_m15 170 rfl) rfl
theorem q3592 : (Jvm.Cond.fieldLink "LeafcreditModel" (380 : Nat) "LeafcreditModel$Project" "verified" "I") ∈ lw_all := lw_g (lw_at lw_m15 171 rfl) rfl
theorem q3593 : (Jvm.Cond.fieldLink "LeafcreditModel$Project" (13 : Nat) "LeafcreditModel$Project" "lastYear" "I") ∈ lw_all := lw_g (lw_at lw_m15 172 rfl) rfl
theorem q3594 : (Jvm.Cond.fieldLink "LeafcreditModel" (377 : Nat) "LeafcreditModel$Project" "lastYear" "I") ∈ lw_all := lw_g (lw_at lw_m15 173 rfl) rfl
theorem q3610 : (Jvm.Cond.methodLink "LeafcreditLaw" (269 : Nat) ({ cls := "LeafcreditModel", name := "verify", desc := "(II)I" } : Jvm.MethodName)) ∈ lw_all := lw_g (lw_at lw_m15 189 rfl) rfl
theorem q3611 : (Jvm.Cond.instanceMethod ({ cls := "LeafcreditModel", name := "verify", desc := "(II)I" } : Jvm.MethodName)) ∈ lw_all := lw_g (lw_at lw_m15 190 rfl) rfl
theorem q3612 : (Jvm.Cond.selects "LeafcreditModel" ({ cls := "LeafcreditModel", name := "verify", desc := "(II)I" } : Jvm.MethodName) ({ cls := "LeafcreditModel", name := "verify", desc := "(II)I" } : Jvm.MethodName)) ∈ lw_all := lw_g (lw_at lw_m15 191 rfl) rfl
theorem q3613 : (Jvm.Cond.code ({ cls := "LeafcreditModel", name := "verify", desc := "(II)I" } : Jvm.MethodName) prog_15_method_59_code (6 : Nat) (Option.some Jvm.ClassFile.FieldType.int)) ∈ lw_all := lw_g (lw_at lw_m15 192 rfl) rfl
theorem q3614 : (Jvm.Cond.methodLink "LeafcreditModel" (374 : Nat) ({ cls := "LeafcreditModel", name := "isProject", desc := "(I)Z" } : Jvm.MethodName)) ∈ lw_all := lw_g (lw_at lw_m15 193 rfl) rfl
theorem q3616 : (Jvm.Cond.instanceMethod ({ cls := "LeafcreditModel", name := "isProject", desc := "(I)Z" } : Jvm.MethodName)) ∈ lw_all := lw_g (lw_at lw_m15 195 rfl) rfl
theorem q3617 : (Jvm.Cond.code ({ cls := "LeafcreditModel", name := "isProject", desc := "(I)Z" } : Jvm.MethodName) prog_15_method_57_code (2 : Nat) (Option.some Jvm.ClassFile.FieldType.boolean)) ∈ lw_all := lw_g (lw_at lw_m15 196 rfl) rfl
theorem q3618 : (Jvm.Cond.methodLink "LeafcreditModel" (395 : Nat) ({ cls := "LeafcreditModel", name := "up", desc := "(JJ)J" } : Jvm.MethodName)) ∈ lw_all := lw_g (lw_at lw_m15 197 rfl) rfl
theorem q3619 : (Jvm.Cond.static ({ cls := "LeafcreditModel", name := "up", desc := "(JJ)J" } : Jvm.MethodName)) ∈ lw_all := lw_g (lw_at lw_m15 198 rfl) rfl
theorem q3620 : (Jvm.Cond.code ({ cls := "LeafcreditModel", name := "up", desc := "(JJ)J" } : Jvm.MethodName) prog_15_method_8_code (4 : Nat) (Option.some Jvm.ClassFile.FieldType.long)) ∈ lw_all := lw_g (lw_at lw_m15 199 rfl) rfl
theorem q3621 : (Jvm.Cond.methodLink "LeafcreditLaw" (272 : Nat) ({ cls := "LeafcreditModel", name := "reverse", desc := "(II)I" } : Jvm.MethodName)) ∈ lw_all := lw_g (lw_at lw_m15 200 rfl) rfl
theorem q3622 : (Jvm.Cond.instanceMethod ({ cls := "LeafcreditModel", name := "reverse", desc := "(II)I" } : Jvm.MethodName)) ∈ lw_all := lw_g (lw_at lw_m15 201 rfl) rfl
theorem q3623 : (Jvm.Cond.selects "LeafcreditModel" ({ cls := "LeafcreditModel", name := "reverse", desc := "(II)I" } : Jvm.MethodName) ({ cls := "LeafcreditModel", name := "reverse", desc := "(II)I" } : Jvm.MethodName)) ∈ lw_all := lw_g (lw_at lw_m15 202 rfl) rfl
theorem q3624 : (Jvm.Cond.code ({ cls := "LeafcreditModel", name := "reverse", desc := "(II)I" } : Jvm.MethodName) prog_15_method_60_code (4 : Nat) (Option.some Jvm.ClassFile.FieldType.int)) ∈ lw_all := lw_g (lw_at lw_m15 203 rfl) rfl
theorem q3625 : (Jvm.Cond.methodLink "LeafcreditLaw" (275 : Nat) ({ cls := "LeafcreditModel", name := "addGood", desc := "(III)I" } : Jvm.MethodName)) ∈ lw_all := lw_g (lw_at lw_m15 204 rfl) rfl
theorem q3626 : (Jvm.Cond.instanceMethod ({ cls := "LeafcreditModel", name := "addGood", desc := "(III)I" } : Jvm.MethodName)) ∈ lw_all := lw_g (lw_at lw_m15 205 rfl) rfl
theorem q3627 : (Jvm.Cond.selects "LeafcreditModel" ({ cls := "LeafcreditModel", name := "addGood", desc := "(III)I" } : Jvm.MethodName) ({ cls := "LeafcreditModel", name := "addGood", desc := "(III)I" } : Jvm.MethodName)) ∈ lw_all := lw_g (lw_at lw_m15 206 rfl) rfl
theorem q3628 : (Jvm.Cond.code ({ cls := "LeafcreditModel", name := "addGood", desc := "(III)I" } : Jvm.MethodName) prog_15_method_62_code (4 : Nat) (Option.some Jvm.ClassFile.FieldType.int)) ∈ lw_all := lw_g (lw_at lw_m15 207 rfl) rfl
theorem q3629 : (Jvm.Cond.methodLink "LeafcreditModel" (403 : Nat) ({ cls := "LeafcreditModel", name := "isGood", desc := "(I)Z" } : Jvm.MethodName)) ∈ lw_all := lw_g (lw_at lw_m15 208 rfl) rfl
theorem q3631 : (Jvm.Cond.instanceMethod ({ cls := "LeafcreditModel", name := "isGood", desc := "(I)Z" } : Jvm.MethodName)) ∈ lw_all := lw_g (lw_at lw_m15 210 rfl) rfl
theorem q3632 : (Jvm.Cond.code ({ cls := "LeafcreditModel", name := "isGood", desc := "(I)Z" } : Jvm.MethodName) prog_15_method_61_code (2 : Nat) (Option.some Jvm.ClassFile.FieldType.boolean)) ∈ lw_all := lw_g (lw_at lw_m15 211 rfl) rfl
theorem q3633 : (Jvm.Cond.classLink "LeafcreditModel" (406 : Nat) "LeafcreditModel$Good") ∈ lw_all := lw_g (lw_at lw_m15 212 rfl) rfl
theorem q3634 : (Jvm.Cond.instantiable "LeafcreditModel$Good" (3 : Nat)) ∈ lw_all := lw_g (lw_at lw_m15 213 rfl) rfl
theorem q3635 : (Jvm.Cond.methodLinkNest "LeafcreditModel" (408 : Nat) ({ cls := "LeafcreditModel$Good", name := "<init>", desc := "(III)V" } : Jvm.MethodName) "LeafcreditModel") ∈ lw_tbl := lw_at lw_m15 214 rfl
theorem q3636 : (Jvm.Cond.instanceMethod ({ cls := "LeafcreditModel$Good", name := "<init>", desc := "(III)V" } : Jvm.MethodName)) ∈ lw_all := lw_g (lw_at lw_m15 215 rfl) rfl
theorem q3637 : (Jvm.Cond.code ({ cls := "LeafcreditModel$Good", name := "<init>", desc := "(III)V" } : Jvm.MethodName) prog_18_method_1_code (4 : Nat) (Option.none : Option Jvm.ClassFile.FieldType)) ∈ lw_all := lw_g (lw_at lw_m15 216 rfl) rfl
theorem q3638 : (Jvm.Cond.methodLink "LeafcreditModel$Good" (1 : Nat) ({ cls := "java/lang/Record", name := "<init>", desc := "()V" } : Jvm.MethodName)) ∈ lw_all := lw_g (lw_at lw_m15 217 rfl) rfl
theorem q3639 : (Jvm.Cond.fieldLink "LeafcreditModel$Good" (7 : Nat) "LeafcreditModel$Good" "own" "I") ∈ lw_all := lw_g (lw_at lw_m15 218 rfl) rfl
theorem q3640 : (Jvm.Cond.fieldLink "LeafcreditModel$Good" (13 : Nat) "LeafcreditModel$Good" "input" "I") ∈ lw_all := lw_g (lw_at lw_m15 219 rfl) rfl
theorem q3641 : (Jvm.Cond.fieldLink "LeafcreditModel$Good" (16 : Nat) "LeafcreditModel$Good" "amount" "I") ∈ lw_all := lw_g (lw_at lw_m15 220 rfl) rfl
theorem q3649 : (Jvm.Cond.methodLink "LeafcreditLaw" (278 : Nat) ({ cls := "LeafcreditModel", name := "embedded", desc := "(I)J" } : Jvm.MethodName)) ∈ lw_all := lw_g (lw_at lw_m15 228 rfl) rfl
theorem q3650 : (Jvm.Cond.instanceMethod ({ cls := "LeafcreditModel", name := "embedded", desc := "(I)J" } : Jvm.MethodName)) ∈ lw_all := lw_g (lw_at lw_m15 229 rfl) rfl
theorem q3651 : (Jvm.Cond.selects "LeafcreditModel" ({ cls := "LeafcreditModel", name := "embedded", desc := "(I)J" } : Jvm.MethodName) ({ cls := "LeafcreditModel", name := "embedded", desc := "(I)J" } : Jvm.MethodName)) ∈ lw_all := lw_g (lw_at lw_m15 230 rfl) rfl
theorem q3652 : (Jvm.Cond.code ({ cls := "LeafcreditModel", name := "embedded", desc := "(I)J" } : Jvm.MethodName) prog_15_method_64_code (2 : Nat) (Option.some Jvm.ClassFile.FieldType.long)) ∈ lw_all := lw_g (lw_at lw_m15 231 rfl) rfl
theorem q3653 : (Jvm.Cond.methodLink "LeafcreditModel" (418 : Nat) ({ cls := "LeafcreditModel", name := "embeddedIn", desc := "(I)J" } : Jvm.MethodName)) ∈ lw_all := lw_g (lw_at lw_m15 232 rfl) rfl
theorem q3655 : (Jvm.Cond.instanceMethod ({ cls := "LeafcreditModel", name := "embeddedIn", desc := "(I)J" } : Jvm.MethodName)) ∈ lw_all := lw_g (lw_at lw_m15 234 rfl) rfl
theorem q3656 : (Jvm.Cond.code ({ cls := "LeafcreditModel", name := "embeddedIn", desc := "(I)J" } : Jvm.MethodName) prog_15_method_63_code (3 : Nat) (Option.some Jvm.ClassFile.FieldType.long)) ∈ lw_all := lw_g (lw_at lw_m15 235 rfl) rfl
theorem q3657 : (Jvm.Cond.methodLink "LeafcreditModel" (409 : Nat) ({ cls := "LeafcreditModel$Good", name := "own", desc := "()I" } : Jvm.MethodName)) ∈ lw_all := lw_g (lw_at lw_m15 236 rfl) rfl
theorem q3658 : (Jvm.Cond.instanceMethod ({ cls := "LeafcreditModel$Good", name := "own", desc := "()I" } : Jvm.MethodName)) ∈ lw_all := lw_g (lw_at lw_m15 237 rfl) rfl
theorem q3659 : (Jvm.Cond.selects "LeafcreditModel$Good" ({ cls := "LeafcreditModel$Good", name := "own", desc := "()I" } : Jvm.MethodName) ({ cls := "LeafcreditModel$Good", name := "own", desc := "()I" } : Jvm.MethodName)) ∈ lw_all := lw_g (lw_at lw_m15 238 rfl) rfl
theorem q3660 : (Jvm.Cond.code ({ cls := "LeafcreditModel$Good", name := "own", desc := "()I" } : Jvm.MethodName) prog_18_method_5_code (1 : Nat) (Option.some Jvm.ClassFile.FieldType.int)) ∈ lw_all := lw_g (lw_at lw_m15 239 rfl) rfl
theorem q3661 : (Jvm.Cond.methodLink "LeafcreditModel" (412 : Nat) ({ cls := "LeafcreditModel$Good", name := "input", desc := "()I" } : Jvm.MethodName)) ∈ lw_all := lw_g (lw_at lw_m16 0 rfl) rfl
theorem q3662 : (Jvm.Cond.instanceMethod ({ cls := "LeafcreditModel$Good", name := "input", desc := "()I" } : Jvm.MethodName)) ∈ lw_all := lw_g (lw_at lw_m16 1 rfl) rfl
theorem q3663 : (Jvm.Cond.selects "LeafcreditModel$Good" ({ cls := "LeafcreditModel$Good", name := "input", desc := "()I" } : Jvm.MethodName) ({ cls := "LeafcreditModel$Good", name := "input", desc := "()I" } : Jvm.MethodName)) ∈ lw_all := lw_g (lw_at lw_m16 2 rfl) rfl
theorem q3664 : (Jvm.Cond.code ({ cls := "LeafcreditModel$Good", name := "input", desc := "()I" } : Jvm.MethodName) prog_18_method_6_code (1 : Nat) (Option.some Jvm.ClassFile.FieldType.int)) ∈ lw_all := lw_g (lw_at lw_m16 3 rfl) rfl
theorem q3665 : (Jvm.Cond.methodLink "LeafcreditModel" (415 : Nat) ({ cls := "LeafcreditModel$Good", name := "amount", desc := "()I" } : Jvm.MethodName)) ∈ lw_all := lw_g (lw_at lw_m16 4 rfl) rfl
theorem q3666 : (Jvm.Cond.instanceMethod ({ cls := "LeafcreditModel$Good", name := "amount", desc := "()I" } : Jvm.MethodName)) ∈ lw_all := lw_g (lw_at lw_m16 5 rfl) rfl
theorem q3667 : (Jvm.Cond.selects "LeafcreditModel$Good" ({ cls := "LeafcreditModel$Good", name := "amount", desc := "()I" } : Jvm.MethodName) ({ cls := "LeafcreditModel$Good", name := "amount", desc := "()I" } : Jvm.MethodName)) ∈ lw_all := lw_g (lw_at lw_m16 6 rfl) rfl
theorem q3668 : (Jvm.Cond.code ({ cls := "LeafcreditModel$Good", name := "amount", desc := "()I" } : Jvm.MethodName) prog_18_method_7_code (1 : Nat) (Option.some Jvm.ClassFile.FieldType.int)) ∈ lw_all := lw_g (lw_at lw_m16 7 rfl) rfl
theorem q3669 : (Jvm.Cond.methodLink "LeafcreditLaw" (282 : Nat) ({ cls := "LeafcreditModel", name := "importGood", desc := "(IIII)J" } : Jvm.MethodName)) ∈ lw_all := lw_g (lw_at lw_m16 8 rfl) rfl
theorem q3670 : (Jvm.Cond.instanceMethod ({ cls := "LeafcreditModel", name := "importGood", desc := "(IIII)J" } : Jvm.MethodName)) ∈ lw_all := lw_g (lw_at lw_m16 9 rfl) rfl
theorem q3671 : (Jvm.Cond.selects "LeafcreditModel" ({ cls := "LeafcreditModel", name := "importGood", desc := "(IIII)J" } : Jvm.MethodName) ({ cls := "LeafcreditModel", name := "importGood", desc := "(IIII)J" } : Jvm.MethodName)) ∈ lw_all := lw_g (lw_at lw_m16 10 rfl) rfl
theorem q3672 : (Jvm.Cond.code ({ cls := "LeafcreditModel", name := "importGood", desc := "(IIII)J" } : Jvm.MethodName) prog_15_method_65_code (7 : Nat) (Option.some Jvm.ClassFile.FieldType.long)) ∈ lw_all := lw_g (lw_at lw_m16 11 rfl) rfl
theorem q3673 : (Jvm.Cond.methodLink "LeafcreditLaw" (285 : Nat) ({ cls := "LeafcreditModel", name := "advance", desc := "(I)I" } : Jvm.MethodName)) ∈ lw_all := lw_g (lw_at lw_m16 12 rfl) rfl
theorem q3674 : (Jvm.Cond.instanceMethod ({ cls := "LeafcreditModel", name := "advance", desc := "(I)I" } : Jvm.MethodName)) ∈ lw_all := lw_g (lw_at lw_m16 13 rfl) rfl
theorem q3675 : (Jvm.Cond.selects "LeafcreditModel" ({ cls := "LeafcreditModel", name := "advance", desc := "(I)I" } : Jvm.MethodName) ({ cls := "LeafcreditModel", name := "advance", desc := "(I)I" } : Jvm.MethodName)) ∈ lw_all := lw_g (lw_at lw_m16 14 rfl) rfl
theorem q3676 : (Jvm.Cond.code ({ cls := "LeafcreditModel", name := "advance", desc := "(I)I" } : Jvm.MethodName) prog_15_method_69_code (3 : Nat) (Option.some Jvm.ClassFile.FieldType.int)) ∈ lw_all := lw_g (lw_at lw_m16 15 rfl) rfl
theorem q3677 : (Jvm.Cond.methodLink "LeafcreditModel" (434 : Nat) ({ cls := "LeafcreditModel", name := "endYear", desc := "(I)V" } : Jvm.MethodName)) ∈ lw_all := lw_g (lw_at lw_m16 16 rfl) rfl
theorem q3679 : (Jvm.Cond.instanceMethod ({ cls := "LeafcreditModel", name := "endYear", desc := "(I)V" } : Jvm.MethodName)) ∈ lw_all := lw_g (lw_at lw_m16 18 rfl) rfl
theorem q3680 : (Jvm.Cond.code ({ cls := "LeafcreditModel", name := "endYear", desc := "(I)V" } : Jvm.MethodName) prog_15_method_67_code (4 : Nat) (Option.none : Option Jvm.ClassFile.FieldType)) ∈ lw_all := lw_g (lw_at lw_m16 19 rfl) rfl
theorem q3681 : (Jvm.Cond.methodLink "LeafcreditModel" (427 : Nat) ({ cls := "LeafcreditModel", name := "emitted", desc := "(LLeafcreditModel$Account;I)J" } : Jvm.MethodName)) ∈ lw_all := lw_g (lw_at lw_m16 20 rfl) rfl
theorem q3683 : (Jvm.Cond.instanceMethod ({ cls := "LeafcreditModel", name := "emitted", desc := "(LLeafcreditModel$Account;I)J" } : Jvm.MethodName)) ∈ lw_all := lw_g (lw_at lw_m16 22 rfl) rfl
theorem q3684 : (Jvm.Cond.code ({ cls := "LeafcreditModel", name := "emitted", desc := "(LLeafcreditModel$Account;I)J" } : Jvm.MethodName) prog_15_method_66_code (5 : Nat) (Option.some Jvm.ClassFile.FieldType.long)) ∈ lw_all := lw_g (lw_at lw_m16 23 rfl) rfl
theorem q3685 : (Jvm.Cond.constantLong "LeafcreditModel" (425 : Nat) (11 : Int64)) ∈ lw_all := lw_g (lw_at lw_m16 24 rfl) rfl
theorem q3686 : (Jvm.Cond.methodLink "LeafcreditModel" (438 : Nat) ({ cls := "LeafcreditModel", name := "fallDue", desc := "(I)V" } : Jvm.MethodName)) ∈ lw_all := lw_g (lw_at lw_m16 25 rfl) rfl
theorem q3688 : (Jvm.Cond.instanceMethod ({ cls := "LeafcreditModel", name := "fallDue", desc := "(I)V" } : Jvm.MethodName)) ∈ lw_all := lw_g (lw_at lw_m16 27 rfl) rfl
theorem q3689 : (Jvm.Cond.code ({ cls := "LeafcreditModel", name := "fallDue", desc := "(I)V" } : Jvm.MethodName) prog_15_method_68_code (4 : Nat) (Option.none : Option Jvm.ClassFile.FieldType)) ∈ lw_all := lw_g (lw_at lw_m16 28 rfl) rfl
theorem q3690 : (Jvm.Cond.methodLink "LeafcreditLaw" (289 : Nat) ({ cls := "LeafcreditModel", name := "day", desc := "()I" } : Jvm.MethodName)) ∈ lw_all := lw_g (lw_at lw_m16 29 rfl) rfl
theorem q3691 : (Jvm.Cond.instanceMethod ({ cls := "LeafcreditModel", name := "day", desc := "()I" } : Jvm.MethodName)) ∈ lw_all := lw_g (lw_at lw_m16 30 rfl) rfl
theorem q3692 : (Jvm.Cond.selects "LeafcreditModel" ({ cls := "LeafcreditModel", name := "day", desc := "()I" } : Jvm.MethodName) ({ cls := "LeafcreditModel", name := "day", desc := "()I" } : Jvm.MethodName)) ∈ lw_all := lw_g (lw_at lw_m16 31 rfl) rfl
theorem q3693 : (Jvm.Cond.code ({ cls := "LeafcreditModel", name := "day", desc := "()I" } : Jvm.MethodName) prog_15_method_70_code (1 : Nat) (Option.some Jvm.ClassFile.FieldType.int)) ∈ lw_all := lw_g (lw_at lw_m16 32 rfl) rfl
theorem q3694 : (Jvm.Cond.methodLink "LeafcreditLaw" (293 : Nat) ({ cls := "LeafcreditModel", name := "offsetShare", desc := "()F" } : Jvm.MethodName)) ∈ lw_all := lw_g (lw_at lw_m16 33 rfl) rfl
theorem q3695 : (Jvm.Cond.instanceMethod ({ cls := "LeafcreditModel", name := "offsetShare", desc := "()F" } : Jvm.MethodName)) ∈ lw_all := lw_g (lw_at lw_m16 34 rfl) rfl
theorem q3696 : (Jvm.Cond.selects "LeafcreditModel" ({ cls := "LeafcreditModel", name := "offsetShare", desc := "()F" } : Jvm.MethodName) ({ cls := "LeafcreditModel", name := "offsetShare", desc := "()F" } : Jvm.MethodName)) ∈ lw_all := lw_g (lw_at lw_m16 35 rfl) rfl
theorem q3697 : (Jvm.Cond.code ({ cls := "LeafcreditModel", name := "offsetShare", desc := "()F" } : Jvm.MethodName) prog_15_method_71_code (1 : Nat) (Option.some Jvm.ClassFile.FieldType.float)) ∈ lw_all := lw_g (lw_at lw_m16 36 rfl) rfl
theorem q3698 : (Jvm.Cond.methodLink "LeafcreditLaw" (296 : Nat) ({ cls := "LeafcreditModel", name := "meanVintage", desc := "()D" } : Jvm.MethodName)) ∈ lw_all := lw_g (lw_at lw_m16 37 rfl) rfl
theorem q3699 : (Jvm.Cond.instanceMethod ({ cls := "LeafcreditModel", name := "meanVintage", desc := "()D" } : Jvm.MethodName)) ∈ lw_all := lw_g (lw_at lw_m16 38 rfl) rfl
theorem q3700 : (Jvm.Cond.selects "LeafcreditModel" ({ cls := "LeafcreditModel", name := "meanVintage", desc := "()D" } : Jvm.MethodName) ({ cls := "LeafcreditModel", name := "meanVintage", desc := "()D" } : Jvm.MethodName)) ∈ lw_all := lw_g (lw_at lw_m16 39 rfl) rfl
theorem q3701 : (Jvm.Cond.code ({ cls := "LeafcreditModel", name := "meanVintage", desc := "()D" } : Jvm.MethodName) prog_15_method_72_code (6 : Nat) (Option.some Jvm.ClassFile.FieldType.double)) ∈ lw_all := lw_g (lw_at lw_m16 40 rfl) rfl
theorem q3702 : (Jvm.Cond.methodLink "LeafcreditLaw" (301 : Nat) ({ cls := "LeafcreditModel", name := "isSound", desc := "()Z" } : Jvm.MethodName)) ∈ lw_all := lw_g (lw_at lw_m16 41 rfl) rfl
theorem q3703 : (Jvm.Cond.instanceMethod ({ cls := "LeafcreditModel", name := "isSound", desc := "()Z" } : Jvm.MethodName)) ∈ lw_all := lw_g (lw_at lw_m16 42 rfl) rfl
theorem q3704 : (Jvm.Cond.selects "LeafcreditModel" ({ cls := "LeafcreditModel", name := "isSound", desc := "()Z" } : Jvm.MethodName) ({ cls := "LeafcreditModel", name := "isSound", desc := "()Z" } : Jvm.MethodName)) ∈ lw_all := lw_g (lw_at lw_m16 43 rfl) rfl
theorem q3705 : (Jvm.Cond.code ({ cls := "LeafcreditModel", name := "isSound", desc := "()Z" } : Jvm.MethodName) prog_15_method_73_code (1 : Nat) (Option.some Jvm.ClassFile.FieldType.boolean)) ∈ lw_all := lw_g (lw_at lw_m16 44 rfl) rfl
theorem q3706 : (Jvm.Cond.arrayClass Jvm.ClassFile.FieldType.double) ∈ lw_all := lw_g (lw_at lw_m16 45 rfl) rfl
theorem q3709 : (Jvm.Cond.selects "java/util/TreeMap" ({ cls := "java/util/TreeMap", name := "clear", desc := "()V" } : Jvm.MethodName) ({ cls := "java/util/TreeMap", name := "clear", desc := "()V" } : Jvm.MethodName)) ∈ lw_all := lw_g (lw_at lw_m16 48 rfl) rfl
theorem q3710 : (Jvm.Cond.selects "java/util/PriorityQueue" ({ cls := "java/util/PriorityQueue", name := "iterator", desc := "()Ljava/util/Iterator;" } : Jvm.MethodName) ({ cls := "java/util/PriorityQueue", name := "iterator", desc := "()Ljava/util/Iterator;" } : Jvm.MethodName)) ∈ lw_all := lw_g (lw_at lw_m16 49 rfl) rfl
theorem q3711 : (Jvm.Cond.selects "java/util/TreeMap" ({ cls := "java/util/TreeMap", name := "size", desc := "()I" } : Jvm.MethodName) ({ cls := "java/util/TreeMap", name := "size", desc := "()I" } : Jvm.MethodName)) ∈ lw_all := lw_g (lw_at lw_m16 50 rfl) rfl
theorem q3720 : (Jvm.Cond.selects "java/util/ArrayList" ({ cls := "java/util/ArrayList", name := "add", desc := "(Ljava/lang/Object;)Z" } : Jvm.MethodName) ({ cls := "java/util/ArrayList", name := "add", desc := "(Ljava/lang/Object;)Z" } : Jvm.MethodName)) ∈ lw_all := lw_g (lw_at lw_m16 59 rfl) rfl
theorem q3721 : (Jvm.Cond.selects "java/util/ArrayList" ({ cls := "java/util/ArrayList", name := "size", desc := "()I" } : Jvm.MethodName) ({ cls := "java/util/ArrayList", name := "size", desc := "()I" } : Jvm.MethodName)) ∈ lw_all := lw_g (lw_at lw_m16 60 rfl) rfl
theorem q3722 : (Jvm.Cond.selects "java/util/ArrayList" ({ cls := "java/util/ArrayList", name := "get", desc := "(I)Ljava/lang/Object;" } : Jvm.MethodName) ({ cls := "java/util/ArrayList", name := "get", desc := "(I)Ljava/lang/Object;" } : Jvm.MethodName)) ∈ lw_all := lw_g (lw_at lw_m16 61 rfl) rfl
theorem q3723 : (Jvm.Cond.selects "java/util/ArrayList" ({ cls := "java/util/ArrayList", name := "iterator", desc := "()Ljava/util/Iterator;" } : Jvm.MethodName) ({ cls := "java/util/ArrayList", name := "iterator", desc := "()Ljava/util/Iterator;" } : Jvm.MethodName)) ∈ lw_all := lw_g (lw_at lw_m16 62 rfl) rfl
theorem q3724 : (Jvm.Cond.selects "java/util/ArrayList" ({ cls := "java/util/ArrayList", name := "add", desc := "(ILjava/lang/Object;)V" } : Jvm.MethodName) ({ cls := "java/util/ArrayList", name := "add", desc := "(ILjava/lang/Object;)V" } : Jvm.MethodName)) ∈ lw_all := lw_g (lw_at lw_m16 63 rfl) rfl
theorem q3725 : (Jvm.Cond.initialized "java/lang/Object") ∈ lw_all := lw_g (lw_at lw_m16 64 rfl) rfl
theorem q3728 : (Jvm.Cond.castable "Leafcredit" "java/lang/Object") ∈ lw_tbl := lw_at lw_m16 67 rfl
theorem q3729 : (Jvm.Cond.castable "java/util/ArrayList" "java/lang/Object") ∈ lw_tbl := lw_at lw_m16 68 rfl
theorem q3730 : (Jvm.Cond.castable "java/util/TreeMap" "java/lang/Object") ∈ lw_tbl := lw_at lw_m16 69 rfl
theorem q3731 : (Jvm.Cond.castable "java/util/PriorityQueue" "java/lang/Object") ∈ lw_tbl := lw_at lw_m16 70 rfl
theorem q3732 : (Jvm.Cond.castable "Leafcredit$ByPrice" "java/lang/Object") ∈ lw_tbl := lw_at lw_m16 71 rfl
theorem q3734 : (Jvm.Cond.castable "Leafcredit$Account" "java/lang/Object") ∈ lw_tbl := lw_at lw_m16 73 rfl
theorem q3735 : (Jvm.Cond.castable "Leafcredit$Sum" "java/lang/Object") ∈ lw_tbl := lw_at lw_m16 74 rfl
theorem q3736 : (Jvm.Cond.castable "LeafcreditModel" "java/lang/Object") ∈ lw_tbl := lw_at lw_m16 75 rfl
theorem q3737 : (Jvm.Cond.castable "LeafcreditModel$Account" "java/lang/Object") ∈ lw_tbl := lw_at lw_m16 76 rfl
theorem q3741 : (Jvm.Cond.castable "Leafcredit$Plant" "java/lang/Object") ∈ lw_tbl := lw_at lw_m16 80 rfl
theorem q3742 : (Jvm.Cond.castable "java/util/ArrayList$Itr" "java/lang/Object") ∈ lw_tbl := lw_at lw_m16 81 rfl
theorem q3745 : (Jvm.Cond.castable "java/lang/Integer" "java/lang/Object") ∈ lw_tbl := lw_at lw_m16 84 rfl
theorem q3746 : (Jvm.Cond.castable "java/util/TreeMap$Entry" "java/lang/Object") ∈ lw_tbl := lw_at lw_m16 85 rfl
theorem q3747 : (Jvm.Cond.castable "Leafcredit$Piece" "java/lang/Object") ∈ lw_tbl := lw_at lw_m16 86 rfl
theorem q3748 : (Jvm.Cond.castable "Leafcredit$Entry" "java/lang/Object") ∈ lw_tbl := lw_at lw_m16 87 rfl
theorem q3749 : (Jvm.Cond.castable "java/util/TreeMap$Values" "java/lang/Object") ∈ lw_tbl := lw_at lw_m16 88 rfl
theorem q3750 : (Jvm.Cond.castable "java/util/PriorityQueue$Itr" "java/lang/Object") ∈ lw_tbl := lw_at lw_m16 89 rfl
theorem q3751 : (Jvm.Cond.castable "java/util/TreeMap$ValueIterator" "java/lang/Object") ∈ lw_tbl := lw_at lw_m16 90 rfl
theorem q3752 : (Jvm.Cond.castable "LeafcreditModel$Row" "java/lang/Object") ∈ lw_tbl := lw_at lw_m16 91 rfl
theorem q3753 : (Jvm.Cond.castable "Leafcredit$Bid" "java/lang/Object") ∈ lw_tbl := lw_at lw_m16 92 rfl
theorem q3754 : (Jvm.Cond.castable "LeafcreditModel$Bid" "java/lang/Object") ∈ lw_tbl := lw_at lw_m16 93 rfl
theorem q3757 : (Jvm.Cond.castable "Leafcredit$Transfer" "java/lang/Object") ∈ lw_tbl := lw_at lw_m16 96 rfl
theorem q3758 : (Jvm.Cond.castable "Leafcredit$ByUse" "java/lang/Object") ∈ lw_tbl := lw_at lw_m16 97 rfl
theorem q3760 : (Jvm.Cond.castable "LeafcreditModel$Transfer" "java/lang/Object") ∈ lw_tbl := lw_at lw_m16 99 rfl
theorem q3761 : (Jvm.Cond.castable "java/util/TreeMap$AscendingSubMap" "java/lang/Object") ∈ lw_tbl := lw_at lw_m16 100 rfl
theorem q3762 : (Jvm.Cond.castable "java/util/AbstractMap$2" "java/lang/Object") ∈ lw_tbl := lw_at lw_m16 101 rfl
theorem q3763 : (Jvm.Cond.castable "java/util/AbstractMap$2$1" "java/lang/Object") ∈ lw_tbl := lw_at lw_m16 102 rfl
theorem q3765 : (Jvm.Cond.castable "java/util/TreeMap$AscendingSubMap$AscendingEntrySetView" "java/lang/Object") ∈ lw_tbl := lw_at lw_m16 104 rfl
theorem q3766 : (Jvm.Cond.castable "java/util/TreeMap$NavigableSubMap$SubMapEntryIterator" "java/lang/Object") ∈ lw_tbl := lw_at lw_m16 105 rfl
theorem q3768 : (Jvm.Cond.castable "java/util/AbstractMap$SimpleImmutableEntry" "java/lang/Object") ∈ lw_tbl := lw_at lw_m16 107 rfl
theorem q3769 : (Jvm.Cond.castable "Leafcredit$Project" "java/lang/Object") ∈ lw_tbl := lw_at lw_m16 108 rfl
theorem q3770 : (Jvm.Cond.castable "LeafcreditModel$Project" "java/lang/Object") ∈ lw_tbl := lw_at lw_m16 109 rfl
theorem q3771 : (Jvm.Cond.castable "Leafcredit$Good" "java/lang/Object") ∈ lw_tbl := lw_at lw_m16 110 rfl
theorem q3772 : (Jvm.Cond.castable "LeafcreditModel$Good" "java/lang/Object") ∈ lw_tbl := lw_at lw_m16 111 rfl
theorem q3773 : (Jvm.Cond.castable "java/lang/Long" "java/lang/Object") ∈ lw_tbl := lw_at lw_m16 112 rfl
theorem q3779 : (Jvm.Cond.selects "[Ljava/lang/Object;" ({ cls := "java/lang/Object", name := "getClass", desc := "()Ljava/lang/Class;" } : Jvm.MethodName) ({ cls := "java/lang/Object", name := "getClass", desc := "()Ljava/lang/Class;" } : Jvm.MethodName)) ∈ lw_all := lw_g (lw_at lw_m16 118 rfl) rfl
theorem q3781 : (Jvm.Cond.castable "[Ljava/lang/Object;" "java/lang/Object") ∈ lw_tbl := lw_at lw_m16 120 rfl
theorem q3782 : (Jvm.Cond.castable "[I" "java/lang/Object") ∈ lw_tbl := lw_at lw_m16 121 rfl
theorem q3784 : (Jvm.Cond.castable "[J" "java/lang/Object") ∈ lw_tbl := lw_at lw_m16 123 rfl
theorem q3785 : (Jvm.Cond.castable "[Z" "java/lang/Object") ∈ lw_tbl := lw_at lw_m16 124 rfl
theorem q3786 : (Jvm.Cond.castable "[D" "java/lang/Object") ∈ lw_tbl := lw_at lw_m16 125 rfl
def tL_0 : List (Nat × Nat × Nat × Tg) := [(1, 7, 0, .inl mX1_addAccount), (1, 17, 0, .inl mX1_makePlant), (1, 23, 0, .inl mX1_report), (1, 28, 0, .inl mX1_tellActivity), (1, 32, 0, .inl mX1_emissionOf), (1, 38, 0, .inl mX1_owed), (1, 41, 0, .inl mX1_freeShare), (1, 44, 0, .inl mX1_cash), (1, 48, 0, .inl mX1_setCap), (1, 51, 0, .inl mX1_setBounds), (1, 54, 0, .inl mX1_bid), (1, 57, 0, .inl mX1_auction), (1, 60, 0, .inl mX1_price), (1, 64, 0, .inl mX1_transfer), (1, 68, 0, .inl mX1_confirm), (1, 71, 0, .inl mX1_trust), (1, 75, 0, .inl mX1_freeze), (1, 78, 0, .inl mX1_release), (1, 81, 0, .inl mX1_stateOf), (1, 85, 0, .inl mX1_units), (1, 89, 0, .inl mX1_usable), (1, 92, 0, .inl mX1_holderOf), (1, 95, 0, .inl mX1_vintageOf), (1, 98, 0, .inl mX1_isFrozen), (1, 102, 0, .inl mX1_surrender), (1, 106, 0, .inl mX1_surrendered), (1, 110, 0, .inl mX1_addProject), (1, 114, 0, .inl mX1_verify), (1, 117, 0, .inl mX1_reverse), (1, 120, 0, .inl mX1_addGood), (1, 123, 0, .inl mX1_embedded), (1, 126, 0, .inl mX1_importGood), (1, 130, 0, .inl mX1_advance), (1, 133, 0, .inl mX1_offsetShare), (1, 137, 0, .inl mX1_meanVintage), (2, 141, 0, .inl mX1_init), (2, 144, 0, .inl mX5_init), (0, 145, 0, .inl mX0_addAccount), (1, 150, 4, .inl mX5_addAccount), (1, 151, 4, .inl mX5_thrown), (0, 154, 0, .inl mX0_makePlant), (1, 157, 4, .inl mX5_makePlant), (0, 158, 0, .inl mX0_report), (1, 160, 4, .inl mX5_report), (0, 161, 0, .inl mX0_tellActivity), (1, 164, 4, .inl mX5_tellActivity), (0, 165, 0, .inl mX0_emissionOf), (1, 167, 4, .inl mX5_emissionOf), (0, 168, 0, .inl mX0_owed), (1, 170, 4, .inl mX5_owed), (0, 171, 0, .inl mX0_freeShare), (1, 173, 4, .inl mX5_freeShare), (0, 174, 0, .inl mX0_cash), (1, 176, 4, .inl mX5_cash), (0, 177, 0, .inl mX0_setCap), (1, 179, 4, .inl mX5_setCap), (0, 180, 0, .inl mX0_setBounds), (1, 182, 4, .inl mX5_setBounds), (0, 183, 0, .inl mX0_bid), (1, 185, 4, .inl mX5_bid), (0, 186, 0, .inl mX0_auction), (1, 188, 4, .inl mX5_auction), (0, 189, 0, .inl mX0_price), (1, 192, 4, .inl mX5_price), (1, 193, 0, .inl mX1_volume), (1, 196, 4, .inl mX5_volume), (1, 197, 0, .inl mX1_reserve), (1, 200, 4, .inl mX5_reserve), (1, 201, 0, .inl mX1_circulation), (1, 204, 4, .inl mX5_circulation), (0, 205, 0, .inl mX0_transfer), (1, 208, 4, .inl mX5_transfer), (0, 209, 0, .inl mX0_confirm), (1, 211, 4, .inl mX5_confirm), (0, 212, 0, .inl mX0_trust), (1, 214, 4, .inl mX5_trust), (0, 215, 0, .inl mX0_freeze), (1, 217, 4, .inl mX5_freeze), (0, 218, 0, .inl mX0_release), (1, 220, 4, .inl mX5_release), (0, 221, 0, .inl mX0_stateOf), (1, 223, 4, .inl mX5_stateOf), (0, 224, 0, .inl mX0_units), (1, 227, 4, .inl mX5_units), (0, 228, 0, .inl mX0_usable), (1, 230, 4, .inl mX5_usable), (1, 231, 0, .inl mX1_made), (1, 234, 4, .inl mX5_made), (0, 235, 0, .inl mX0_holderOf), (1, 237, 4, .inl mX5_holderOf), (0, 238, 0, .inl mX0_vintageOf), (1, 240, 4, .inl mX5_vintageOf), (0, 241, 0, .inl mX0_isFrozen), (1, 243, 4, .inl mX5_isFrozen), (1, 244, 0, .inl mX1_blocks), (1, 247, 4, .inl mX5_blocks), (0, 248, 0, .inl mX0_surrender), (1, 250, 4, .inl mX5_surrender), (0, 251, 0, .inl mX0_surrendered), (1, 254, 4, .inl mX5_surrendered), (1, 255, 0, .inl mX1_cancelled), (1, 258, 4, .inl mX5_cancelled), (1, 259, 0, .inl mX1_entries), (1, 262, 4, .inl mX5_entries), (0, 263, 0, .inl mX0_addProject), (1, 266, 4, .inl mX5_addProject), (0, 267, 0, .inl mX0_verify), (1, 269, 4, .inl mX5_verify), (0, 270, 0, .inl mX0_reverse), (1, 272, 4, .inl mX5_reverse), (0, 273, 0, .inl mX0_addGood), (1, 275, 4, .inl mX5_addGood), (0, 276, 0, .inl mX0_embedded), (1, 278, 4, .inl mX5_embedded), (0, 279, 0, .inl mX0_importGood), (1, 282, 4, .inl mX5_importGood), (0, 283, 0, .inl mX0_advance), (1, 285, 4, .inl mX5_advance), (1, 286, 0, .inl mX1_day), (1, 289, 4, .inl mX5_day), (0, 290, 0, .inl mX0_offsetShare), (1, 293, 4, .inl mX5_offsetShare), (0, 294, 0, .inl mX0_meanVintage), (1, 296, 4, .inl mX5_meanVintage), (1, 297, 0, .inl mX1_isSound), (1, 301, 4, .inl mX5_isSound)]
def tL_1 : List (Nat × Nat × Nat × Tg) := [(2, 1, 0, .inr 1), (2, 9, 0, .inl mJ2_init), (2, 18, 0, .inl mJ4_init), (2, 30, 0, .inl mX2_init), (2, 31, 0, .inl mJ6_init), (2, 64, 0, .inl mX3_init), (3, 67, 19, .inl mJ2_add), (3, 88, 19, .inl mJ2_size), (0, 92, 0, .inl mX1_isBetween), (0, 96, 0, .inl mX1_checkIndex), (3, 100, 19, .inl mJ2_get), (0, 110, 0, .inl mJ25_valueOf), (1, 118, 0, .inl mX1_year), (2, 121, 0, .inl mX8_init), (1, 124, 20, .inl mJ4_put), (2, 130, 0, .inl mX9_init), (1, 136, 20, .inl mJ4_values), (3, 140, 19, .inl mJ2_iterator), (3, 140, 21, .inl mJ6_iterator), (3, 140, 26, .inl mJ31_iterator), (3, 140, 28, .inl mJ36_iterator), (3, 140, 33, .inl mJ49_iterator), (3, 146, 22, .inl mJ20_hasNext), (3, 146, 27, .inl mJ32_hasNext), (3, 146, 29, .inl mJ37_hasNext), (3, 146, 30, .inl mJ42_hasNext), (3, 146, 31, .inl mJ39_hasNext), (3, 152, 22, .inl mJ20_next), (3, 152, 27, .inl mJ32_next), (3, 152, 29, .inl mJ38_next), (3, 152, 30, .inl mJ42_next), (3, 152, 31, .inl mJ43_next), (1, 156, 7, .inl mX8_isUsable), (1, 160, 7, .inl mX8_size), (3, 161, 1, .inl mX2_compare), (3, 161, 13, .inl mX14_compare), (3, 167, 19, .inl mJ2_add_3), (1, 173, 7, .inl mX8_part), (0, 184, 0, .inl mX1_checkArgument), (0, 187, 0, .inl mX1_checkState), (1, 190, 0, .inl mX1_accountFrom), (2, 200, 0, .inl mX7_init), (3, 207, 19, .inl mJ2_iterator), (0, 209, 0, .inl mX1_checkPossible), (0, 229, 0, .inl mJ12_max_2), (1, 238, 23, .inl mJ25_intValue), (1, 238, 35, .inl mJ25_intValue), (1, 244, 20, .inl mJ4_containsKey), (0, 247, 0, .inl mX1_checkElement), (1, 250, 20, .inl mJ4_get), (1, 255, 24, .inl mJ26_longValue), (1, 255, 36, .inl mJ26_longValue), (1, 259, 0, .inl mX1_hasEnded), (1, 277, 0, .inl mX1_begin), (1, 280, 0, .inl mX1_cap), (1, 295, 6, .inl mX7_average), (1, 305, 0, .inl mX1_make), (0, 312, 0, .inl mJ12_max), (1, 315, 0, .inl mX1_circulation), (0, 320, 0, .inl mJ12_min_2), (0, 323, 0, .inl mJ12_min), (1, 325, 21, .inl mJ6_iterator), (1, 336, 21, .inl mJ6_size), (2, 340, 0, .inl mX11_init), (1, 343, 21, .inl mJ6_add), (1, 344, 21, .inl mJ0_isEmpty), (1, 347, 21, .inl mJ6_poll), (1, 350, 21, .inl mJ6_clear), (3, 353, 19, .inl mJ2_isEmpty), (0, 358, 0, .inl mX1_isKind), (1, 362, 0, .inl mX1_usableOf), (2, 368, 0, .inl mX13_init), (1, 371, 0, .inl mX1_move), (2, 382, 0, .inl mX14_init), (1, 385, 0, .inl mX1_taken), (1, 404, 0, .inl mX1_write), (1, 411, 0, .inl mX1_transferWith), (1, 415, 20, .inl mJ4_subMap), (1, 420, 0, .inl mX1_piecesOf), (3, 424, 20, .inl mJ4_values), (3, 424, 32, .inl mJ3_values), (1, 431, 20, .inl mJ4_floorEntry), (3, 435, 25, .inl mJ30_getValue), (3, 435, 34, .inl mJ50_getValue), (1, 440, 0, .inl mX1_pieceWith), (1, 446, 7, .inl mX8_isAlike), (2, 457, 0, .inl mX16_init), (1, 460, 0, .inl mX1_projectWith), (1, 470, 15, .inl mX16_offsets), (0, 475, 0, .inl mX1_up), (2, 488, 0, .inl mX18_init), (1, 491, 17, .inl mX18_embedded), (1, 497, 0, .inl mX1_end), (1, 500, 0, .inl mX1_demand), (1, 503, 2, .inl mX3_end), (0, 508, 0, .inl mX1_cut), (1, 517, 20, .inl mJ4_lowerEntry), (1, 520, 0, .inl mX1_byJournal), (3, 513, 32, .inl mJ3_clear)]
def tL_2 : List (Nat × Nat × Nat × Tg) := [(2, 1, 0, .inr 1), (0, 13, 0, .inl mJ25_compare), (1, 22, 1, .inl mX2_compare_2)]
def tL_3 : List (Nat × Nat × Nat × Tg) := [(2, 1, 0, .inr 1), (2, 9, 0, .inl mX4_init), (2, 24, 0, .inl mJ4_init), (0, 51, 0, .inl mJ25_valueOf), (0, 57, 0, .inl mJ26_valueOf), (1, 62, 20, .inl mJ4_put), (1, 37, 3, .inl mX20_ended), (1, 45, 6, .inl mX20_ended)]
def tL_4 : List (Nat × Nat × Nat × Tg) := [(2, 1, 0, .inr 1)]
def tL_5 : List (Nat × Nat × Nat × Tg) := [(2, 1, 0, .inr 1), (2, 9, 0, .inl mJ2_init), (2, 87, 0, .inl mX6_init), (1, 90, 19, .inl mJ2_add), (1, 96, 19, .inl mJ2_size), (0, 100, 0, .inl mX5_in), (1, 106, 4, .inl mX5_isOther), (1, 114, 19, .inl mJ2_get), (1, 127, 19, .inl mJ2_iterator), (3, 131, 22, .inl mJ20_hasNext), (3, 131, 27, .inl mJ32_hasNext), (3, 131, 29, .inl mJ37_hasNext), (3, 131, 30, .inl mJ42_hasNext), (3, 131, 31, .inl mJ39_hasNext), (3, 137, 22, .inl mJ20_next), (3, 137, 27, .inl mJ32_next), (3, 137, 29, .inl mJ38_next), (3, 137, 30, .inl mJ42_next), (3, 137, 31, .inl mJ43_next), (0, 156, 0, .inl mJ12_max_2), (1, 166, 4, .inl mX5_year), (1, 169, 4, .inl mX5_hasEnded), (2, 189, 0, .inl mX10_init), (1, 199, 9, .inl mX10_isLocked), (1, 205, 4, .inl mX5_isUsable), (1, 209, 9, .inl mX10_size), (1, 228, 19, .inl mJ2_indexOf), (1, 232, 19, .inl mJ2_add_3), (1, 235, 4, .inl mX5_next), (0, 238, 0, .inl mJ12_min), (1, 242, 4, .inl mX5_cut), (1, 258, 4, .inl mX5_take), (0, 268, 0, .inl mX5_isKind), (1, 274, 4, .inl mX5_usableOf), (2, 278, 0, .inl mX15_init), (1, 281, 4, .inl mX5_move), (1, 285, 4, .inl mX5_isTransfer), (1, 289, 4, .inl mX5_freeze_2), (1, 293, 4, .inl mX5_wrongHolder), (1, 296, 4, .inl mX5_plain), (1, 300, 4, .inl mX5_rowOf), (1, 304, 9, .inl mX10_isLike), (0, 316, 0, .inl mJ12_max), (0, 321, 0, .inl mJ12_abs_2), (1, 331, 4, .inl mX5_cap), (1, 334, 4, .inl mX5_make), (1, 338, 4, .inl mX5_circulating), (0, 343, 0, .inl mJ12_min_2), (1, 345, 4, .inl mX5_beginYear), (2, 352, 0, .inl mX12_init), (1, 355, 11, .inl mX12_cost), (1, 359, 11, .inl mX12_account), (1, 362, 11, .inl mX12_price), (1, 364, 19, .inl mJ2_clear), (1, 367, 11, .inl mX12_units), (2, 371, 0, .inl mX17_init), (1, 374, 4, .inl mX5_isProject), (0, 395, 0, .inl mX5_up), (1, 403, 4, .inl mX5_isGood), (2, 408, 0, .inl mX19_init), (1, 409, 18, .inl mX19_own), (1, 412, 18, .inl mX19_input), (1, 415, 18, .inl mX19_amount), (1, 418, 4, .inl mX5_embeddedIn), (1, 427, 4, .inl mX5_emitted), (1, 434, 4, .inl mX5_endYear), (1, 438, 4, .inl mX5_fallDue)]
def tL_6 : List (Nat × Nat × Nat × Tg) := [(2, 3, 0, .inr 1)]
def tL_7 : List (Nat × Nat × Nat × Tg) := [(2, 3, 0, .inr 1), (2, 11, 0, .inl mJ4_init), (0, 42, 0, .inl mX1_up), (1, 51, 20, .inl mJ3_isEmpty), (1, 55, 20, .inl mJ4_lastEntry), (3, 59, 25, .inl mJ30_getValue), (3, 59, 34, .inl mJ50_getValue), (1, 67, 24, .inl mJ26_longValue), (1, 67, 36, .inl mJ26_longValue), (0, 71, 0, .inl mJ25_valueOf), (1, 81, 23, .inl mJ25_intValue), (1, 81, 35, .inl mJ25_intValue), (0, 85, 0, .inl mJ12_abs), (1, 77, 20, .inl mJ53_getOrDefault)]
def tL_8 : List (Nat × Nat × Nat × Tg) := [(2, 1, 0, .inr 1), (0, 36, 0, .inl mJ12_max), (2, 45, 0, .inl mX8_init)]
def tL_9 : List (Nat × Nat × Nat × Tg) := [(2, 1, 0, .inr 1)]
def tL_10 : List (Nat × Nat × Nat × Tg) := [(2, 1, 0, .inr 1), (1, 39, 9, .inl mX10_isLocked)]
def tL_11 : List (Nat × Nat × Nat × Tg) := [(2, 1, 0, .inr 1)]
def tL_12 : List (Nat × Nat × Nat × Tg) := [(2, 1, 0, .inl mJ44_init)]
def tL_13 : List (Nat × Nat × Nat × Tg) := [(2, 1, 0, .inr 1), (2, 15, 0, .inl mJ2_init)]
def tL_14 : List (Nat × Nat × Nat × Tg) := [(2, 3, 0, .inr 1), (0, 21, 0, .inl mJ25_compare), (1, 30, 13, .inl mX14_compare_2)]
def tL_15 : List (Nat × Nat × Nat × Tg) := [(2, 1, 0, .inr 1), (2, 15, 0, .inl mJ2_init)]
def tL_16 : List (Nat × Nat × Nat × Tg) := [(2, 3, 0, .inr 1), (0, 32, 0, .inl mJ12_max)]
def tL_17 : List (Nat × Nat × Nat × Tg) := [(2, 1, 0, .inr 1)]
def tL_18 : List (Nat × Nat × Nat × Tg) := [(2, 3, 0, .inr 1), (1, 22, 17, .inl mX18_embedded)]
def tL_19 : List (Nat × Nat × Nat × Tg) := [(2, 1, 0, .inl mJ44_init)]
def tL_20 : List (Nat × Nat × Nat × Tg) := [(3, 1, 3, .inl mX4_owed), (3, 1, 6, .inl mX7_owed), (3, 7, 3, .inl mX4_clear), (3, 7, 6, .inl mX7_clear)]
def tL_100 : List (Nat × Nat × Nat × Tg) := [(2, 1, 0, .inr 1), (1, 7, 21, .inl mJ6_size), (1, 13, 28, .inl mJ36_iterator), (3, 17, 22, .inl mJ20_hasNext), (3, 17, 27, .inl mJ32_hasNext), (3, 17, 29, .inl mJ37_hasNext), (3, 17, 30, .inl mJ42_hasNext), (3, 17, 31, .inl mJ39_hasNext), (3, 23, 22, .inl mJ20_next), (3, 23, 27, .inl mJ32_next), (3, 23, 29, .inl mJ38_next), (3, 23, 30, .inl mJ42_next), (3, 23, 31, .inl mJ43_next), (3, 73, 27, .inl mJ32_remove), (3, 73, 29, .inl mJ38_remove), (3, 73, 30, .inl mJ42_remove), (3, 73, 31, .inl mJ39_remove)]
def tL_101 : List (Nat × Nat × Nat × Tg) := [(2, 1, 0, .inl mJ0_init)]
def tL_102 : List (Nat × Nat × Nat × Tg) := [(2, 1, 0, .inl mJ1_init), (0, 66, 0, .inl mJ13_copyOf), (1, 69, 19, .inl mJ2_grow_2), (0, 73, 0, .inl mJ11_newLength), (0, 79, 0, .inl mJ12_max), (1, 89, 19, .inl mJ2_indexOfRange), (1, 93, 0, .inl mJ52_equals), (1, 93, 1, .inl mJ52_equals), (1, 93, 2, .inl mJ52_equals), (1, 93, 3, .inl mJ52_equals), (1, 93, 4, .inl mJ52_equals), (1, 93, 5, .inl mJ52_equals), (1, 93, 6, .inl mJ52_equals), (1, 93, 7, .inl mJ52_equals), (1, 93, 8, .inl mJ52_equals), (1, 93, 9, .inl mJ52_equals), (1, 93, 10, .inl mJ52_equals), (1, 93, 12, .inl mJ52_equals), (1, 93, 13, .inl mJ52_equals), (1, 93, 14, .inl mJ52_equals), (1, 93, 15, .inl mJ52_equals), (1, 93, 16, .inl mJ52_equals), (1, 93, 17, .inl mJ52_equals), (0, 112, 0, .inr 2), (0, 118, 0, .inl mJ18_checkIndex), (1, 123, 19, .inl mJ2_elementData), (1, 129, 19, .inl mJ2_grow), (1, 131, 19, .inl mJ2_add_2), (1, 135, 19, .inl mJ2_rangeCheckForAdd), (1, 144, 19, .inl mJ2_fastRemove), (2, 269, 0, .inl mJ20_init)]
def tL_103 : List (Nat × Nat × Nat × Tg) := [(2, 1, 0, .inr 1), (1, 7, 32, .inl mJ48_entrySet), (1, 19, 20, .inl mJ4_size), (3, 59, 28, .inl mJ0_clear), (2, 77, 0, .inl mJ49_init)]
def tL_104 : List (Nat × Nat × Nat × Tg) := [(2, 1, 0, .inl mJ3_init), (1, 50, 20, .inl mJ4_getEntry), (0, 68, 0, .inl mJ4_successor), (1, 76, 20, .inl mJ4_getLastEntry), (0, 95, 0, .inl mJ18_requireNonNull), (3, 107, 23, .inl mJ25_compareTo), (3, 107, 24, .inl mJ26_compareTo), (3, 107, 35, .inl mJ25_compareTo), (3, 107, 36, .inl mJ26_compareTo), (3, 117, 1, .inl mX2_compare), (3, 117, 13, .inl mX14_compare), (1, 123, 20, .inl mJ4_compare), (1, 127, 20, .inl mJ4_put_2), (1, 135, 20, .inl mJ4_addEntryToEmptyMap), (1, 139, 20, .inl mJ4_addEntry), (2, 167, 0, .inl mJ30_init), (1, 170, 20, .inl mJ4_fixAfterInsertion), (0, 200, 0, .inl mJ4_exportEntry), (1, 204, 20, .inl mJ4_getLowerEntry), (1, 210, 20, .inl mJ4_getFloorEntry), (2, 239, 0, .inl mJ31_init), (2, 244, 0, .inl mJ34_init), (2, 252, 0, .inl mJ48_init), (1, 253, 20, .inl mJ4_subMap_2), (2, 284, 0, .inl mJ50_init), (0, 294, 0, .inl mJ4_parentOf), (0, 297, 0, .inl mJ4_leftOf), (0, 300, 0, .inl mJ4_rightOf), (0, 303, 0, .inl mJ4_colorOf), (0, 307, 0, .inl mJ4_setColor), (1, 311, 20, .inl mJ4_rotateLeft), (1, 314, 20, .inl mJ4_rotateRight), (1, 317, 20, .inl mJ4_fixAfterDeletion)]
def tL_105 : List (Nat × Nat × Nat × Tg) := [(2, 1, 0, .inl mJ0_init)]
def tL_106 : List (Nat × Nat × Nat × Tg) := [(2, 3, 0, .inl mJ6_init_2), (2, 7, 0, .inl mJ5_init), (0, 80, 0, .inl mJ11_newLength), (0, 86, 0, .inl mJ13_copyOf), (1, 89, 21, .inl mJ6_offer), (1, 96, 21, .inl mJ6_grow), (1, 100, 21, .inl mJ6_siftUp), (1, 111, 21, .inl mJ6_removeAt), (2, 123, 0, .inl mJ42_init), (0, 129, 0, .inl mJ6_siftDownUsingComparator), (1, 133, 21, .inl mJ6_siftDown), (0, 136, 0, .inl mJ6_siftUpUsingComparator), (3, 149, 1, .inl mX2_compare), (3, 149, 13, .inl mX14_compare)]
def tL_111 : List (Nat × Nat × Nat × Tg) := [(0, 194, 0, .inl mJ12_max)]
def tL_113 : List (Nat × Nat × Nat × Tg) := [(1, 86, 904, .inr 3), (0, 150, 0, .inr 2), (0, 300, 0, .inl mJ13_copyOf_2), (0, 304, 0, .inl mJ12_min)]
def tL_118 : List (Nat × Nat × Nat × Tg) := [(0, 105, 0, .inl mJ19_checkIndex)]
def tL_120 : List (Nat × Nat × Nat × Tg) := [(2, 7, 0, .inr 1), (1, 31, 22, .inl mJ20_checkForComodification), (1, 47, 19, .inl mJ2_remove)]
def tL_124 : List (Nat × Nat × Nat × Tg) := [(2, 1, 0, .inr 1)]
def tL_125 : List (Nat × Nat × Nat × Tg) := [(2, 199, 0, .inl mJ25_init), (2, 202, 0, .inl mJ24_init), (0, 259, 0, .inl mJ25_compare), (1, 284, 23, .inl mJ25_compareTo_2), (1, 284, 35, .inl mJ25_compareTo_2)]
def tL_126 : List (Nat × Nat × Nat × Tg) := [(2, 240, 0, .inl mJ26_init), (2, 270, 0, .inl mJ24_init), (0, 302, 0, .inl mJ26_compare), (1, 343, 24, .inl mJ26_compareTo_2), (1, 343, 36, .inl mJ26_compareTo_2)]
def tL_130 : List (Nat × Nat × Nat × Tg) := [(2, 3, 0, .inr 1)]
def tL_131 : List (Nat × Nat × Nat × Tg) := [(2, 7, 0, .inl mJ0_init), (1, 15, 20, .inl mJ4_getFirstEntry), (2, 21, 0, .inl mJ43_init), (1, 24, 20, .inl mJ4_size)]
def tL_132 : List (Nat × Nat × Nat × Tg) := [(2, 7, 0, .inr 1), (1, 19, 32, .inl mJ48_entrySet), (3, 25, 28, .inl mJ36_iterator), (3, 35, 22, .inl mJ20_hasNext), (3, 35, 27, .inl mJ32_hasNext), (3, 35, 29, .inl mJ37_hasNext), (3, 35, 30, .inl mJ42_hasNext), (3, 35, 31, .inl mJ39_hasNext), (3, 41, 22, .inl mJ20_next), (3, 41, 27, .inl mJ32_next), (3, 41, 29, .inl mJ38_next), (3, 41, 30, .inl mJ42_next), (3, 41, 31, .inl mJ43_next), (3, 47, 25, .inl mJ30_getValue), (3, 47, 34, .inl mJ50_getValue), (3, 50, 27, .inl mJ32_remove), (3, 50, 29, .inl mJ38_remove), (3, 50, 30, .inl mJ42_remove), (3, 50, 31, .inl mJ39_remove)]
def tL_133 : List (Nat × Nat × Nat × Tg) := [(2, 1, 0, .inl mJ0_init)]
def tL_134 : List (Nat × Nat × Nat × Tg) := [(2, 7, 0, .inl mJ33_init), (1, 15, 20, .inl mJ4_getFirstEntry), (2, 21, 0, .inl mJ40_init), (1, 48, 20, .inl mJ4_size), (1, 52, 20, .inl mJ4_clear)]
def tL_135 : List (Nat × Nat × Nat × Tg) := [(2, 7, 0, .inl mJ33_init), (1, 30, 20, .inl mJ4_size), (3, 45, 22, .inl mJ20_hasNext), (3, 45, 27, .inl mJ32_hasNext), (3, 45, 29, .inl mJ37_hasNext), (3, 45, 30, .inl mJ42_hasNext), (3, 45, 31, .inl mJ39_hasNext), (3, 51, 22, .inl mJ20_next), (3, 51, 27, .inl mJ32_next), (3, 51, 29, .inl mJ38_next), (3, 51, 30, .inl mJ42_next), (3, 51, 31, .inl mJ43_next)]
def tL_136 : List (Nat × Nat × Nat × Tg) := [(2, 7, 0, .inl mJ35_init), (1, 15, 32, .inl mJ47_absLowest), (1, 21, 32, .inl mJ47_absHighFence), (2, 24, 0, .inl mJ38_init)]
def tL_137 : List (Nat × Nat × Nat × Tg) := [(2, 7, 0, .inr 1), (0, 53, 0, .inl mJ4_successor), (1, 69, 20, .inl mJ4_deleteEntry)]
def tL_138 : List (Nat × Nat × Nat × Tg) := [(2, 1, 0, .inl mJ37_init), (1, 7, 29, .inl mJ37_nextEntry), (1, 13, 29, .inl mJ37_removeAscending), (1, 17, 29, .inl mJ38_next_2)]
def tL_139 : List (Nat × Nat × Nat × Tg) := [(2, 7, 0, .inr 1), (0, 35, 0, .inl mJ4_successor), (1, 53, 20, .inl mJ4_deleteEntry)]
def tL_140 : List (Nat × Nat × Nat × Tg) := [(2, 1, 0, .inl mJ39_init)]
def tL_142 : List (Nat × Nat × Nat × Tg) := [(2, 7, 0, .inr 1), (1, 59, 21, .inl mJ6_removeAt), (1, 68, 21, .inl mJ6_removeEq)]
def tL_143 : List (Nat × Nat × Nat × Tg) := [(2, 1, 0, .inl mJ39_init), (1, 7, 31, .inl mJ39_nextEntry)]
def tL_144 : List (Nat × Nat × Nat × Tg) := [(2, 1, 0, .inr 1)]
def tL_147 : List (Nat × Nat × Nat × Tg) := [(2, 1, 0, .inl mJ3_init), (1, 7, 20, .inl mJ4_compare), (1, 46, 32, .inl mJ47_tooLow), (1, 50, 32, .inl mJ47_tooHigh), (1, 53, 32, .inl mJ47_inRange), (1, 59, 20, .inl mJ4_getFirstEntry), (1, 63, 20, .inl mJ4_getCeilingEntry), (1, 67, 20, .inl mJ4_getHigherEntry), (1, 101, 20, .inl mJ4_size), (3, 105, 28, .inl mJ35_size), (1, 106, 20, .inl mJ4_containsKey), (1, 143, 20, .inl mJ4_get)]
def tL_148 : List (Nat × Nat × Nat × Tg) := [(2, 1, 0, .inl mJ47_init), (2, 87, 0, .inl mJ36_init)]
def tL_149 : List (Nat × Nat × Nat × Tg) := [(2, 7, 0, .inl mJ0_init), (2, 15, 0, .inl mJ32_init)]
def tL_150 : List (Nat × Nat × Nat × Tg) := [(2, 1, 0, .inr 1), (3, 16, 25, .inl mJ30_getKey), (3, 16, 34, .inl mJ50_getKey), (3, 22, 25, .inl mJ30_getValue), (3, 22, 34, .inl mJ50_getValue)]
def tL_153 : List (Nat × Nat × Nat × Tg) := [(3, 1, 20, .inl mJ4_get), (3, 1, 32, .inl mJ47_get), (3, 7, 20, .inl mJ4_containsKey), (3, 7, 32, .inl mJ47_containsKey)]
def tL (o : Nat) : List (Nat × Nat × Nat × Tg) := match o with
  | 0 => tL_0
  | 1 => tL_1
  | 2 => tL_2
  | 3 => tL_3
  | 4 => tL_4
  | 5 => tL_5
  | 6 => tL_6
  | 7 => tL_7
  | 8 => tL_8
  | 9 => tL_9
  | 10 => tL_10
  | 11 => tL_11
  | 12 => tL_12
  | 13 => tL_13
  | 14 => tL_14
  | 15 => tL_15
  | 16 => tL_16
  | 17 => tL_17
  | 18 => tL_18
  | 19 => tL_19
  | 20 => tL_20
  | 100 => tL_100
  | 101 => tL_101
  | 102 => tL_102
  | 103 => tL_103
  | 104 => tL_104
  | 105 => tL_105
  | 106 => tL_106
  | 111 => tL_111
  | 113 => tL_113
  | 118 => tL_118
  | 120 => tL_120
  | 124 => tL_124
  | 125 => tL_125
  | 126 => tL_126
  | 130 => tL_130
  | 131 => tL_131
  | 132 => tL_132
  | 133 => tL_133
  | 134 => tL_134
  | 135 => tL_135
  | 136 => tL_136
  | 137 => tL_137
  | 138 => tL_138
  | 139 => tL_139
  | 140 => tL_140
  | 142 => tL_142
  | 143 => tL_143
  | 144 => tL_144
  | 147 => tL_147
  | 148 => tL_148
  | 149 => tL_149
  | 150 => tL_150
  | 153 => tL_153
  | _ => []
/-- the low evaluator's calls -/
def tgL (o mode j k : Nat) : Option Tg := ((tL o).find? fun e => e.1 == mode && (e.2.1 == j && e.2.2.1 == k)).map fun e => e.2.2.2
