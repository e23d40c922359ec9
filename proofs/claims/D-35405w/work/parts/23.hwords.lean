/-! the class's side: words; classes' facts -/
set_option maxRecDepth 100000
set_option maxHeartbeats 4000000

def RJ0 : String := "java/util/AbstractCollection"
theorem q101 : (Jvm.Cond.initialized "java/util/AbstractCollection") ∈ lw_all := lw_g (lw_at lw_m1 2 rfl) rfl
theorem q156 : (Jvm.Cond.instanceMethod ({ cls := "java/util/AbstractCollection", name := "<init>", desc := "()V" } : Jvm.MethodName)) ∈ lw_all := lw_g (lw_at lw_m1 57 rfl) rfl
theorem q157 : (Jvm.Cond.code ({ cls := "java/util/AbstractCollection", name := "<init>", desc := "()V" } : Jvm.MethodName) prog_36_method_1_code (1 : Nat) (Option.none : Option Jvm.ClassFile.FieldType)) ∈ lw_all := lw_g (lw_at lw_m1 58 rfl) rfl
theorem q158 : (Jvm.Cond.methodLink "java/util/AbstractCollection" (1 : Nat) ({ cls := "java/lang/Object", name := "<init>", desc := "()V" } : Jvm.MethodName)) ∈ lw_all := lw_g (lw_at lw_m1 59 rfl) rfl
def RJ1 : String := "java/util/AbstractList"
theorem q102 : (Jvm.Cond.initialized "java/util/AbstractList") ∈ lw_all := lw_g (lw_at lw_m1 3 rfl) rfl
theorem q153 : (Jvm.Cond.instanceMethod ({ cls := "java/util/AbstractList", name := "<init>", desc := "()V" } : Jvm.MethodName)) ∈ lw_all := lw_g (lw_at lw_m1 54 rfl) rfl
theorem q154 : (Jvm.Cond.code ({ cls := "java/util/AbstractList", name := "<init>", desc := "()V" } : Jvm.MethodName) prog_37_method_1_code (1 : Nat) (Option.none : Option Jvm.ClassFile.FieldType)) ∈ lw_all := lw_g (lw_at lw_m1 55 rfl) rfl
theorem q155 : (Jvm.Cond.methodLink "java/util/AbstractList" (1 : Nat) ({ cls := "java/util/AbstractCollection", name := "<init>", desc := "()V" } : Jvm.MethodName)) ∈ lw_all := lw_g (lw_at lw_m1 56 rfl) rfl
theorem q165 : (Jvm.Cond.fieldLink "java/util/AbstractList" (7 : Nat) "java/util/AbstractList" "modCount" "I") ∈ lw_all := lw_g (lw_at lw_m1 66 rfl) rfl
theorem q174 : (Jvm.Cond.soleField "java/util/AbstractList" "modCount") ∈ lw_all := lw_g (lw_at lw_m1 75 rfl) rfl
def RJ10 : String := "java/lang/AbstractStringBuilder"
theorem q114 : (Jvm.Cond.initialized "java/lang/AbstractStringBuilder") ∈ lw_all := lw_g (lw_at lw_m1 15 rfl) rfl
theorem q406 : (Jvm.Cond.instanceMethod ({ cls := "java/lang/AbstractStringBuilder", name := "<init>", desc := "(I)V" } : Jvm.MethodName)) ∈ lw_all := lw_g (lw_at lw_m2 67 rfl) rfl
theorem q407 : (Jvm.Cond.code ({ cls := "java/lang/AbstractStringBuilder", name := "<init>", desc := "(I)V" } : Jvm.MethodName) prog_17_method_2_code (2 : Nat) (Option.none : Option Jvm.ClassFile.FieldType)) ∈ lw_all := lw_g (lw_at lw_m2 68 rfl) rfl
theorem q408 : (Jvm.Cond.methodLink "java/lang/AbstractStringBuilder" (3 : Nat) ({ cls := "java/lang/Object", name := "<init>", desc := "()V" } : Jvm.MethodName)) ∈ lw_all := lw_g (lw_at lw_m2 69 rfl) rfl
theorem q409 : (Jvm.Cond.fieldLink "java/lang/AbstractStringBuilder" (18 : Nat) "java/lang/String" "COMPACT_STRINGS" "Z") ∈ lw_all := lw_g (lw_at lw_m2 70 rfl) rfl
theorem q411 : (Jvm.Cond.methodLink "java/lang/AbstractStringBuilder" (26 : Nat) ({ cls := "java/lang/StringUTF16", name := "newBytesFor", desc := "(I)[B" } : Jvm.MethodName)) ∈ lw_all := lw_g (lw_at lw_m2 72 rfl) rfl
theorem q418 : (Jvm.Cond.fieldLink "java/lang/AbstractStringBuilder" (15 : Nat) "java/lang/AbstractStringBuilder" "value" "[B") ∈ lw_all := lw_g (lw_at lw_m2 79 rfl) rfl
theorem q419 : (Jvm.Cond.fieldLink "java/lang/AbstractStringBuilder" (22 : Nat) "java/lang/AbstractStringBuilder" "coder" "B") ∈ lw_all := lw_g (lw_at lw_m2 80 rfl) rfl
theorem q421 : (Jvm.Cond.fieldLink "java/lang/AbstractStringBuilder" (79 : Nat) "java/lang/AbstractStringBuilder" "count" "I") ∈ lw_all := lw_g (lw_at lw_m2 82 rfl) rfl
theorem q423 : (Jvm.Cond.soleField "java/lang/AbstractStringBuilder" "value") ∈ lw_all := lw_g (lw_at lw_m2 84 rfl) rfl
theorem q425 : (Jvm.Cond.soleField "java/lang/AbstractStringBuilder" "coder") ∈ lw_all := lw_g (lw_at lw_m2 86 rfl) rfl
theorem q427 : (Jvm.Cond.soleField "java/lang/AbstractStringBuilder" "maybeLatin1") ∈ lw_all := lw_g (lw_at lw_m2 88 rfl) rfl
theorem q429 : (Jvm.Cond.soleField "java/lang/AbstractStringBuilder" "count") ∈ lw_all := lw_g (lw_at lw_m2 90 rfl) rfl
theorem q438 : (Jvm.Cond.instanceMethod ({ cls := "java/lang/AbstractStringBuilder", name := "append", desc := "(Ljava/lang/String;)Ljava/lang/AbstractStringBuilder;" } : Jvm.MethodName)) ∈ lw_all := lw_g (lw_at lw_m2 99 rfl) rfl
theorem q439 : (Jvm.Cond.code ({ cls := "java/lang/AbstractStringBuilder", name := "append", desc := "(Ljava/lang/String;)Ljava/lang/AbstractStringBuilder;" } : Jvm.MethodName) prog_17_method_22_code (3 : Nat) (Option.some (Jvm.ClassFile.FieldType.object "java/lang/AbstractStringBuilder"))) ∈ lw_all := lw_g (lw_at lw_m2 100 rfl) rfl
theorem q440 : (Jvm.Cond.methodLink "java/lang/AbstractStringBuilder" (204 : Nat) ({ cls := "java/lang/AbstractStringBuilder", name := "appendNull", desc := "()Ljava/lang/AbstractStringBuilder;" } : Jvm.MethodName)) ∈ lw_all := lw_g (lw_at lw_m2 101 rfl) rfl
theorem q441 : (Jvm.Cond.privateMethod ({ cls := "java/lang/AbstractStringBuilder", name := "appendNull", desc := "()Ljava/lang/AbstractStringBuilder;" } : Jvm.MethodName)) ∈ lw_tbl := lw_at lw_m2 102 rfl
theorem q442 : (Jvm.Cond.instanceMethod ({ cls := "java/lang/AbstractStringBuilder", name := "appendNull", desc := "()Ljava/lang/AbstractStringBuilder;" } : Jvm.MethodName)) ∈ lw_all := lw_g (lw_at lw_m2 103 rfl) rfl
theorem q443 : (Jvm.Cond.code ({ cls := "java/lang/AbstractStringBuilder", name := "appendNull", desc := "()Ljava/lang/AbstractStringBuilder;" } : Jvm.MethodName) prog_17_method_26_code (3 : Nat) (Option.some (Jvm.ClassFile.FieldType.object "java/lang/AbstractStringBuilder"))) ∈ lw_all := lw_g (lw_at lw_m2 104 rfl) rfl
theorem q444 : (Jvm.Cond.methodLink "java/lang/AbstractStringBuilder" (100 : Nat) ({ cls := "java/lang/AbstractStringBuilder", name := "ensureCapacityInternal", desc := "(I)V" } : Jvm.MethodName)) ∈ lw_all := lw_g (lw_at lw_m2 105 rfl) rfl
theorem q445 : (Jvm.Cond.privateMethod ({ cls := "java/lang/AbstractStringBuilder", name := "ensureCapacityInternal", desc := "(I)V" } : Jvm.MethodName)) ∈ lw_tbl := lw_at lw_m2 106 rfl
theorem q446 : (Jvm.Cond.instanceMethod ({ cls := "java/lang/AbstractStringBuilder", name := "ensureCapacityInternal", desc := "(I)V" } : Jvm.MethodName)) ∈ lw_all := lw_g (lw_at lw_m2 107 rfl) rfl
theorem q447 : (Jvm.Cond.code ({ cls := "java/lang/AbstractStringBuilder", name := "ensureCapacityInternal", desc := "(I)V" } : Jvm.MethodName) prog_17_method_9_code (3 : Nat) (Option.none : Option Jvm.ClassFile.FieldType)) ∈ lw_all := lw_g (lw_at lw_m2 108 rfl) rfl
theorem q448 : (Jvm.Cond.methodLink "java/lang/AbstractStringBuilder" (104 : Nat) ({ cls := "java/lang/AbstractStringBuilder", name := "newCapacity", desc := "(I)I" } : Jvm.MethodName)) ∈ lw_all := lw_g (lw_at lw_m2 109 rfl) rfl
theorem q449 : (Jvm.Cond.privateMethod ({ cls := "java/lang/AbstractStringBuilder", name := "newCapacity", desc := "(I)I" } : Jvm.MethodName)) ∈ lw_tbl := lw_at lw_m2 110 rfl
theorem q450 : (Jvm.Cond.instanceMethod ({ cls := "java/lang/AbstractStringBuilder", name := "newCapacity", desc := "(I)I" } : Jvm.MethodName)) ∈ lw_all := lw_g (lw_at lw_m2 111 rfl) rfl
theorem q451 : (Jvm.Cond.code ({ cls := "java/lang/AbstractStringBuilder", name := "newCapacity", desc := "(I)I" } : Jvm.MethodName) prog_17_method_10_code (6 : Nat) (Option.some Jvm.ClassFile.FieldType.int)) ∈ lw_all := lw_g (lw_at lw_m2 112 rfl) rfl
theorem q452 : (Jvm.Cond.methodLink "java/lang/AbstractStringBuilder" (114 : Nat) ({ cls := "jdk/internal/util/ArraysSupport", name := "newLength", desc := "(III)I" } : Jvm.MethodName)) ∈ lw_all := lw_g (lw_at lw_m2 113 rfl) rfl
theorem q453 : (Jvm.Cond.constant "java/lang/AbstractStringBuilder" (39 : Nat) (2147483647 : Int32)) ∈ lw_all := lw_g (lw_at lw_m2 114 rfl) rfl
theorem q454 : (Jvm.Cond.methodLink "java/lang/AbstractStringBuilder" (108 : Nat) ({ cls := "java/util/Arrays", name := "copyOf", desc := "([BI)[B" } : Jvm.MethodName)) ∈ lw_all := lw_g (lw_at lw_m2 115 rfl) rfl
theorem q464 : (Jvm.Cond.methodLink "java/lang/AbstractStringBuilder" (83 : Nat) ({ cls := "java/lang/AbstractStringBuilder", name := "isLatin1", desc := "()Z" } : Jvm.MethodName)) ∈ lw_all := lw_g (lw_at lw_m2 125 rfl) rfl
theorem q465 : (Jvm.Cond.instanceMethod ({ cls := "java/lang/AbstractStringBuilder", name := "isLatin1", desc := "()Z" } : Jvm.MethodName)) ∈ lw_all := lw_g (lw_at lw_m2 126 rfl) rfl
theorem q466 : (Jvm.Cond.sameMethod "java/lang/AbstractStringBuilder" "java/lang/AbstractStringBuilder" "isLatin1" "()Z") ∈ lw_all := lw_g (lw_at lw_m2 127 rfl) rfl
theorem q468 : (Jvm.Cond.code ({ cls := "java/lang/AbstractStringBuilder", name := "isLatin1", desc := "()Z" } : Jvm.MethodName) prog_17_method_68_code (1 : Nat) (Option.some Jvm.ClassFile.FieldType.boolean)) ∈ lw_all := lw_g (lw_at lw_m2 129 rfl) rfl
theorem q469 : (Jvm.Cond.methodLink "java/lang/AbstractStringBuilder" (226 : Nat) ({ cls := "java/lang/StringUTF16", name := "putCharsAt", desc := "([BICCCC)I" } : Jvm.MethodName)) ∈ lw_all := lw_g (lw_at lw_m2 130 rfl) rfl
theorem q495 : (Jvm.Cond.methodLink "java/lang/AbstractStringBuilder" (32 : Nat) ({ cls := "java/lang/String", name := "length", desc := "()I" } : Jvm.MethodName)) ∈ lw_all := lw_g (lw_at lw_m2 156 rfl) rfl
theorem q504 : (Jvm.Cond.methodLink "java/lang/AbstractStringBuilder" (208 : Nat) ({ cls := "java/lang/AbstractStringBuilder", name := "putStringAt", desc := "(ILjava/lang/String;)V" } : Jvm.MethodName)) ∈ lw_all := lw_g (lw_at lw_m2 165 rfl) rfl
theorem q505 : (Jvm.Cond.privateMethod ({ cls := "java/lang/AbstractStringBuilder", name := "putStringAt", desc := "(ILjava/lang/String;)V" } : Jvm.MethodName)) ∈ lw_tbl := lw_at lw_m2 166 rfl
theorem q506 : (Jvm.Cond.instanceMethod ({ cls := "java/lang/AbstractStringBuilder", name := "putStringAt", desc := "(ILjava/lang/String;)V" } : Jvm.MethodName)) ∈ lw_all := lw_g (lw_at lw_m2 167 rfl) rfl
theorem q507 : (Jvm.Cond.code ({ cls := "java/lang/AbstractStringBuilder", name := "putStringAt", desc := "(ILjava/lang/String;)V" } : Jvm.MethodName) prog_17_method_73_code (3 : Nat) (Option.none : Option Jvm.ClassFile.FieldType)) ∈ lw_all := lw_g (lw_at lw_m2 168 rfl) rfl
theorem q508 : (Jvm.Cond.methodLink "java/lang/AbstractStringBuilder" (397 : Nat) ({ cls := "java/lang/AbstractStringBuilder", name := "inflateIfNeededFor", desc := "(Ljava/lang/String;)V" } : Jvm.MethodName)) ∈ lw_all := lw_g (lw_at lw_m2 169 rfl) rfl
theorem q509 : (Jvm.Cond.privateMethod ({ cls := "java/lang/AbstractStringBuilder", name := "inflateIfNeededFor", desc := "(Ljava/lang/String;)V" } : Jvm.MethodName)) ∈ lw_tbl := lw_at lw_m2 170 rfl
theorem q510 : (Jvm.Cond.instanceMethod ({ cls := "java/lang/AbstractStringBuilder", name := "inflateIfNeededFor", desc := "(Ljava/lang/String;)V" } : Jvm.MethodName)) ∈ lw_all := lw_g (lw_at lw_m2 171 rfl) rfl
theorem q511 : (Jvm.Cond.code ({ cls := "java/lang/AbstractStringBuilder", name := "inflateIfNeededFor", desc := "(Ljava/lang/String;)V" } : Jvm.MethodName) prog_17_method_71_code (2 : Nat) (Option.none : Option Jvm.ClassFile.FieldType)) ∈ lw_all := lw_g (lw_at lw_m2 172 rfl) rfl
theorem q512 : (Jvm.Cond.methodLink "java/lang/AbstractStringBuilder" (40 : Nat) ({ cls := "java/lang/String", name := "coder", desc := "()B" } : Jvm.MethodName)) ∈ lw_all := lw_g (lw_at lw_m2 173 rfl) rfl
theorem q513 : (Jvm.Cond.methodLink "java/lang/AbstractStringBuilder" (195 : Nat) ({ cls := "java/lang/AbstractStringBuilder", name := "inflate", desc := "()V" } : Jvm.MethodName)) ∈ lw_all := lw_g (lw_at lw_m2 174 rfl) rfl
theorem q514 : (Jvm.Cond.privateMethod ({ cls := "java/lang/AbstractStringBuilder", name := "inflate", desc := "()V" } : Jvm.MethodName)) ∈ lw_tbl := lw_at lw_m2 175 rfl
theorem q515 : (Jvm.Cond.instanceMethod ({ cls := "java/lang/AbstractStringBuilder", name := "inflate", desc := "()V" } : Jvm.MethodName)) ∈ lw_all := lw_g (lw_at lw_m2 176 rfl) rfl
theorem q516 : (Jvm.Cond.code ({ cls := "java/lang/AbstractStringBuilder", name := "inflate", desc := "()V" } : Jvm.MethodName) prog_17_method_11_code (2 : Nat) (Option.none : Option Jvm.ClassFile.FieldType)) ∈ lw_all := lw_g (lw_at lw_m2 177 rfl) rfl
theorem q517 : (Jvm.Cond.methodLink "java/lang/AbstractStringBuilder" (125 : Nat) ({ cls := "java/lang/StringLatin1", name := "inflate", desc := "([BI[BII)V" } : Jvm.MethodName)) ∈ lw_all := lw_g (lw_at lw_m2 178 rfl) rfl
theorem q532 : (Jvm.Cond.methodLink "java/lang/AbstractStringBuilder" (399 : Nat) ({ cls := "java/lang/String", name := "getBytes", desc := "([BIB)V" } : Jvm.MethodName)) ∈ lw_all := lw_g (lw_at lw_m2 193 rfl) rfl
theorem q544 : (Jvm.Cond.instanceMethod ({ cls := "java/lang/AbstractStringBuilder", name := "append", desc := "(I)Ljava/lang/AbstractStringBuilder;" } : Jvm.MethodName)) ∈ lw_all := lw_g (lw_at lw_m2 205 rfl) rfl
theorem q545 : (Jvm.Cond.code ({ cls := "java/lang/AbstractStringBuilder", name := "append", desc := "(I)Ljava/lang/AbstractStringBuilder;" } : Jvm.MethodName) prog_17_method_32_code (4 : Nat) (Option.some (Jvm.ClassFile.FieldType.object "java/lang/AbstractStringBuilder"))) ∈ lw_all := lw_g (lw_at lw_m2 206 rfl) rfl
theorem q546 : (Jvm.Cond.methodLink "java/lang/AbstractStringBuilder" (245 : Nat) ({ cls := "java/lang/Integer", name := "stringSize", desc := "(I)I" } : Jvm.MethodName)) ∈ lw_all := lw_g (lw_at lw_m2 207 rfl) rfl
theorem q549 : (Jvm.Cond.methodLink "java/lang/AbstractStringBuilder" (248 : Nat) ({ cls := "java/lang/Integer", name := "getChars", desc := "(II[B)I" } : Jvm.MethodName)) ∈ lw_all := lw_g (lw_at lw_m2 210 rfl) rfl
theorem q556 : (Jvm.Cond.methodLink "java/lang/AbstractStringBuilder" (251 : Nat) ({ cls := "java/lang/StringUTF16", name := "getChars", desc := "(III[B)I" } : Jvm.MethodName)) ∈ lw_all := lw_g (lw_at lw_m2 217 rfl) rfl
theorem q578 : (Jvm.Cond.instanceMethod ({ cls := "java/lang/AbstractStringBuilder", name := "getValue", desc := "()[B" } : Jvm.MethodName)) ∈ lw_all := lw_g (lw_at lw_m2 239 rfl) rfl
theorem q579 : (Jvm.Cond.sameMethod "java/lang/AbstractStringBuilder" "java/lang/AbstractStringBuilder" "getValue" "()[B") ∈ lw_all := lw_g (lw_at lw_m3 0 rfl) rfl
theorem q581 : (Jvm.Cond.code ({ cls := "java/lang/AbstractStringBuilder", name := "getValue", desc := "()[B" } : Jvm.MethodName) prog_17_method_64_code (1 : Nat) (Option.some (Jvm.ClassFile.FieldType.array Jvm.ClassFile.FieldType.byte))) ∈ lw_all := lw_g (lw_at lw_m3 2 rfl) rfl
theorem q583 : (Jvm.Cond.instanceMethod ({ cls := "java/lang/AbstractStringBuilder", name := "length", desc := "()I" } : Jvm.MethodName)) ∈ lw_all := lw_g (lw_at lw_m3 4 rfl) rfl
theorem q584 : (Jvm.Cond.sameMethod "java/lang/AbstractStringBuilder" "java/lang/AbstractStringBuilder" "length" "()I") ∈ lw_all := lw_g (lw_at lw_m3 5 rfl) rfl
theorem q589 : (Jvm.Cond.code ({ cls := "java/lang/AbstractStringBuilder", name := "length", desc := "()I" } : Jvm.MethodName) prog_17_method_6_code (1 : Nat) (Option.some Jvm.ClassFile.FieldType.int)) ∈ lw_all := lw_g (lw_at lw_m3 10 rfl) rfl
theorem q2274 : (Jvm.Cond.sameMethod "java/lang/AbstractStringBuilder" "java/lang/AbstractStringBuilder" "append" "(Ljava/lang/String;)Ljava/lang/AbstractStringBuilder;") ∈ lw_all := lw_g (lw_at lw_m10 15 rfl) rfl
theorem q2275 : (Jvm.Cond.sameMethod "java/lang/AbstractStringBuilder" "java/lang/AbstractStringBuilder" "appendNull" "()Ljava/lang/AbstractStringBuilder;") ∈ lw_all := lw_g (lw_at lw_m10 16 rfl) rfl
theorem q2276 : (Jvm.Cond.sameMethod "java/lang/AbstractStringBuilder" "java/lang/AbstractStringBuilder" "ensureCapacityInternal" "(I)V") ∈ lw_all := lw_g (lw_at lw_m10 17 rfl) rfl
theorem q2277 : (Jvm.Cond.sameMethod "java/lang/AbstractStringBuilder" "java/lang/AbstractStringBuilder" "newCapacity" "(I)I") ∈ lw_all := lw_g (lw_at lw_m10 18 rfl) rfl
theorem q2278 : (Jvm.Cond.sameMethod "java/lang/AbstractStringBuilder" "java/lang/AbstractStringBuilder" "putStringAt" "(ILjava/lang/String;)V") ∈ lw_all := lw_g (lw_at lw_m10 19 rfl) rfl
theorem q2279 : (Jvm.Cond.sameMethod "java/lang/AbstractStringBuilder" "java/lang/AbstractStringBuilder" "inflateIfNeededFor" "(Ljava/lang/String;)V") ∈ lw_all := lw_g (lw_at lw_m10 20 rfl) rfl
theorem q2280 : (Jvm.Cond.sameMethod "java/lang/AbstractStringBuilder" "java/lang/AbstractStringBuilder" "inflate" "()V") ∈ lw_all := lw_g (lw_at lw_m10 21 rfl) rfl
theorem q2281 : (Jvm.Cond.sameMethod "java/lang/AbstractStringBuilder" "java/lang/AbstractStringBuilder" "append" "(I)Ljava/lang/AbstractStringBuilder;") ∈ lw_all := lw_g (lw_at lw_m10 22 rfl) rfl
theorem q115 : (Jvm.Cond.initialized "java/lang/StringBuilder") ∈ lw_all := lw_g (lw_at lw_m1 16 rfl) rfl
theorem q254 : (Jvm.Cond.selects "java/lang/StringBuilder" ({ cls := "java/lang/Object", name := "getClass", desc := "()Ljava/lang/Class;" } : Jvm.MethodName) ({ cls := "java/lang/Object", name := "getClass", desc := "()Ljava/lang/Class;" } : Jvm.MethodName)) ∈ lw_all := lw_g (lw_at lw_m1 155 rfl) rfl
theorem q401 : (Jvm.Cond.instantiable "java/lang/StringBuilder" (4 : Nat)) ∈ lw_all := lw_g (lw_at lw_m2 62 rfl) rfl
theorem q403 : (Jvm.Cond.instanceMethod ({ cls := "java/lang/StringBuilder", name := "<init>", desc := "()V" } : Jvm.MethodName)) ∈ lw_all := lw_g (lw_at lw_m2 64 rfl) rfl
theorem q404 : (Jvm.Cond.code ({ cls := "java/lang/StringBuilder", name := "<init>", desc := "()V" } : Jvm.MethodName) prog_31_method_1_code (1 : Nat) (Option.none : Option Jvm.ClassFile.FieldType)) ∈ lw_all := lw_g (lw_at lw_m2 65 rfl) rfl
theorem q405 : (Jvm.Cond.methodLink "java/lang/StringBuilder" (1 : Nat) ({ cls := "java/lang/AbstractStringBuilder", name := "<init>", desc := "(I)V" } : Jvm.MethodName)) ∈ lw_all := lw_g (lw_at lw_m2 66 rfl) rfl
theorem q422 : (Jvm.Cond.lays "java/lang/StringBuilder" "java/lang/AbstractStringBuilder" "value" "[B") ∈ lw_all := lw_g (lw_at lw_m2 83 rfl) rfl
theorem q424 : (Jvm.Cond.lays "java/lang/StringBuilder" "java/lang/AbstractStringBuilder" "coder" "B") ∈ lw_all := lw_g (lw_at lw_m2 85 rfl) rfl
theorem q426 : (Jvm.Cond.lays "java/lang/StringBuilder" "java/lang/AbstractStringBuilder" "maybeLatin1" "Z") ∈ lw_all := lw_g (lw_at lw_m2 87 rfl) rfl
theorem q428 : (Jvm.Cond.lays "java/lang/StringBuilder" "java/lang/AbstractStringBuilder" "count" "I") ∈ lw_all := lw_g (lw_at lw_m2 89 rfl) rfl
theorem q430 : (Jvm.Cond.superclass "java/lang/StringBuilder" "java/lang/AbstractStringBuilder") ∈ lw_all := lw_g (lw_at lw_m2 91 rfl) rfl
theorem q434 : (Jvm.Cond.instanceMethod ({ cls := "java/lang/StringBuilder", name := "append", desc := "(Ljava/lang/String;)Ljava/lang/StringBuilder;" } : Jvm.MethodName)) ∈ lw_all := lw_g (lw_at lw_m2 95 rfl) rfl
theorem q435 : (Jvm.Cond.selects "java/lang/StringBuilder" ({ cls := "java/lang/StringBuilder", name := "append", desc := "(Ljava/lang/String;)Ljava/lang/StringBuilder;" } : Jvm.MethodName) ({ cls := "java/lang/StringBuilder", name := "append", desc := "(Ljava/lang/String;)Ljava/lang/StringBuilder;" } : Jvm.MethodName)) ∈ lw_all := lw_g (lw_at lw_m2 96 rfl) rfl
theorem q436 : (Jvm.Cond.code ({ cls := "java/lang/StringBuilder", name := "append", desc := "(Ljava/lang/String;)Ljava/lang/StringBuilder;" } : Jvm.MethodName) prog_31_method_7_code (2 : Nat) (Option.some (Jvm.ClassFile.FieldType.object "java/lang/StringBuilder"))) ∈ lw_all := lw_g (lw_at lw_m2 97 rfl) rfl
theorem q437 : (Jvm.Cond.methodLink "java/lang/StringBuilder" (29 : Nat) ({ cls := "java/lang/AbstractStringBuilder", name := "append", desc := "(Ljava/lang/String;)Ljava/lang/AbstractStringBuilder;" } : Jvm.MethodName)) ∈ lw_all := lw_g (lw_at lw_m2 98 rfl) rfl
theorem q467 : (Jvm.Cond.selects "java/lang/StringBuilder" ({ cls := "java/lang/AbstractStringBuilder", name := "isLatin1", desc := "()Z" } : Jvm.MethodName) ({ cls := "java/lang/AbstractStringBuilder", name := "isLatin1", desc := "()Z" } : Jvm.MethodName)) ∈ lw_all := lw_g (lw_at lw_m2 128 rfl) rfl
theorem q540 : (Jvm.Cond.instanceMethod ({ cls := "java/lang/StringBuilder", name := "append", desc := "(I)Ljava/lang/StringBuilder;" } : Jvm.MethodName)) ∈ lw_all := lw_g (lw_at lw_m2 201 rfl) rfl
theorem q541 : (Jvm.Cond.selects "java/lang/StringBuilder" ({ cls := "java/lang/StringBuilder", name := "append", desc := "(I)Ljava/lang/StringBuilder;" } : Jvm.MethodName) ({ cls := "java/lang/StringBuilder", name := "append", desc := "(I)Ljava/lang/StringBuilder;" } : Jvm.MethodName)) ∈ lw_all := lw_g (lw_at lw_m2 202 rfl) rfl
theorem q542 : (Jvm.Cond.code ({ cls := "java/lang/StringBuilder", name := "append", desc := "(I)Ljava/lang/StringBuilder;" } : Jvm.MethodName) prog_31_method_15_code (2 : Nat) (Option.some (Jvm.ClassFile.FieldType.object "java/lang/StringBuilder"))) ∈ lw_all := lw_g (lw_at lw_m2 203 rfl) rfl
theorem q543 : (Jvm.Cond.methodLink "java/lang/StringBuilder" (53 : Nat) ({ cls := "java/lang/AbstractStringBuilder", name := "append", desc := "(I)Ljava/lang/AbstractStringBuilder;" } : Jvm.MethodName)) ∈ lw_all := lw_g (lw_at lw_m2 204 rfl) rfl
theorem q565 : (Jvm.Cond.instanceMethod ({ cls := "java/lang/StringBuilder", name := "toString", desc := "()Ljava/lang/String;" } : Jvm.MethodName)) ∈ lw_all := lw_g (lw_at lw_m2 226 rfl) rfl
theorem q566 : (Jvm.Cond.selects "java/lang/StringBuilder" ({ cls := "java/lang/StringBuilder", name := "toString", desc := "()Ljava/lang/String;" } : Jvm.MethodName) ({ cls := "java/lang/StringBuilder", name := "toString", desc := "()Ljava/lang/String;" } : Jvm.MethodName)) ∈ lw_all := lw_g (lw_at lw_m2 227 rfl) rfl
theorem q567 : (Jvm.Cond.code ({ cls := "java/lang/StringBuilder", name := "toString", desc := "()Ljava/lang/String;" } : Jvm.MethodName) prog_31_method_42_code (1 : Nat) (Option.some (Jvm.ClassFile.FieldType.object "java/lang/String"))) ∈ lw_all := lw_g (lw_at lw_m2 228 rfl) rfl
theorem q568 : (Jvm.Cond.classLink "java/lang/StringBuilder" (18 : Nat) "java/lang/String") ∈ lw_all := lw_g (lw_at lw_m2 229 rfl) rfl
theorem q570 : (Jvm.Cond.methodLink "java/lang/StringBuilder" (137 : Nat) ({ cls := "java/lang/String", name := "<init>", desc := "(Ljava/lang/StringBuilder;)V" } : Jvm.MethodName)) ∈ lw_all := lw_g (lw_at lw_m2 231 rfl) rfl
theorem q580 : (Jvm.Cond.selects "java/lang/StringBuilder" ({ cls := "java/lang/AbstractStringBuilder", name := "getValue", desc := "()[B" } : Jvm.MethodName) ({ cls := "java/lang/AbstractStringBuilder", name := "getValue", desc := "()[B" } : Jvm.MethodName)) ∈ lw_all := lw_g (lw_at lw_m3 1 rfl) rfl
theorem q585 : (Jvm.Cond.selects "java/lang/StringBuilder" ({ cls := "java/lang/AbstractStringBuilder", name := "length", desc := "()I" } : Jvm.MethodName) ({ cls := "java/lang/StringBuilder", name := "length", desc := "()I" } : Jvm.MethodName)) ∈ lw_all := lw_g (lw_at lw_m3 6 rfl) rfl
theorem q586 : (Jvm.Cond.instanceMethod ({ cls := "java/lang/StringBuilder", name := "length", desc := "()I" } : Jvm.MethodName)) ∈ lw_all := lw_g (lw_at lw_m3 7 rfl) rfl
theorem q587 : (Jvm.Cond.code ({ cls := "java/lang/StringBuilder", name := "length", desc := "()I" } : Jvm.MethodName) prog_31_method_93_code (1 : Nat) (Option.some Jvm.ClassFile.FieldType.int)) ∈ lw_all := lw_g (lw_at lw_m3 8 rfl) rfl
theorem q588 : (Jvm.Cond.methodLink "java/lang/StringBuilder" (343 : Nat) ({ cls := "java/lang/AbstractStringBuilder", name := "length", desc := "()I" } : Jvm.MethodName)) ∈ lw_all := lw_g (lw_at lw_m3 9 rfl) rfl
theorem q2293 : (Jvm.Cond.castable "java/lang/StringBuilder" "java/lang/Object") ∈ lw_tbl := lw_at lw_m10 34 rfl
theorem q116 : (Jvm.Cond.initialized "java/lang/String") ∈ lw_all := lw_g (lw_at lw_m1 17 rfl) rfl
theorem q253 : (Jvm.Cond.selects "java/lang/String" ({ cls := "java/lang/Object", name := "getClass", desc := "()Ljava/lang/Class;" } : Jvm.MethodName) ({ cls := "java/lang/Object", name := "getClass", desc := "()Ljava/lang/Class;" } : Jvm.MethodName)) ∈ lw_all := lw_g (lw_at lw_m1 154 rfl) rfl
theorem q410 : (Jvm.Cond.laysStatic "java/lang/String" "COMPACT_STRINGS" "Z") ∈ lw_tbl := lw_at lw_m2 71 rfl
theorem q420 : (Jvm.Cond.fieldLink "java/lang/String" (1048 : Nat) "java/lang/AbstractStringBuilder" "maybeLatin1" "Z") ∈ lw_all := lw_g (lw_at lw_m2 81 rfl) rfl
theorem q479 : (Jvm.Cond.static ({ cls := "java/lang/String", name := "checkBoundsBeginEnd", desc := "(III)V" } : Jvm.MethodName)) ∈ lw_all := lw_g (lw_at lw_m2 140 rfl) rfl
theorem q480 : (Jvm.Cond.code ({ cls := "java/lang/String", name := "checkBoundsBeginEnd", desc := "(III)V" } : Jvm.MethodName) prog_30_method_158_code (3 : Nat) (Option.none : Option Jvm.ClassFile.FieldType)) ∈ lw_all := lw_g (lw_at lw_m2 141 rfl) rfl
theorem q481 : (Jvm.Cond.fieldLink "java/lang/String" (1053 : Nat) "jdk/internal/util/Preconditions" "SIOOBE_FORMATTER" "Ljava/util/function/BiFunction;") ∈ lw_all := lw_g (lw_at lw_m2 142 rfl) rfl
theorem q483 : (Jvm.Cond.methodLink "java/lang/String" (1062 : Nat) ({ cls := "jdk/internal/util/Preconditions", name := "checkFromToIndex", desc := "(IIILjava/util/function/BiFunction;)I" } : Jvm.MethodName)) ∈ lw_all := lw_g (lw_at lw_m2 144 rfl) rfl
theorem q496 : (Jvm.Cond.instanceMethod ({ cls := "java/lang/String", name := "length", desc := "()I" } : Jvm.MethodName)) ∈ lw_all := lw_g (lw_at lw_m2 157 rfl) rfl
theorem q497 : (Jvm.Cond.selects "java/lang/String" ({ cls := "java/lang/String", name := "length", desc := "()I" } : Jvm.MethodName) ({ cls := "java/lang/String", name := "length", desc := "()I" } : Jvm.MethodName)) ∈ lw_all := lw_g (lw_at lw_m2 158 rfl) rfl
theorem q498 : (Jvm.Cond.code ({ cls := "java/lang/String", name := "length", desc := "()I" } : Jvm.MethodName) prog_30_method_54_code (1 : Nat) (Option.some Jvm.ClassFile.FieldType.int)) ∈ lw_all := lw_g (lw_at lw_m2 159 rfl) rfl
theorem q499 : (Jvm.Cond.methodLink "java/lang/String" (335 : Nat) ({ cls := "java/lang/String", name := "coder", desc := "()B" } : Jvm.MethodName)) ∈ lw_all := lw_g (lw_at lw_m2 160 rfl) rfl
theorem q500 : (Jvm.Cond.instanceMethod ({ cls := "java/lang/String", name := "coder", desc := "()B" } : Jvm.MethodName)) ∈ lw_all := lw_g (lw_at lw_m2 161 rfl) rfl
theorem q501 : (Jvm.Cond.selects "java/lang/String" ({ cls := "java/lang/String", name := "coder", desc := "()B" } : Jvm.MethodName) ({ cls := "java/lang/String", name := "coder", desc := "()B" } : Jvm.MethodName)) ∈ lw_all := lw_g (lw_at lw_m2 162 rfl) rfl
theorem q502 : (Jvm.Cond.code ({ cls := "java/lang/String", name := "coder", desc := "()B" } : Jvm.MethodName) prog_30_method_152_code (1 : Nat) (Option.some Jvm.ClassFile.FieldType.byte)) ∈ lw_all := lw_g (lw_at lw_m2 163 rfl) rfl
theorem q503 : (Jvm.Cond.fieldLink "java/lang/String" (38 : Nat) "java/lang/String" "COMPACT_STRINGS" "Z") ∈ lw_all := lw_g (lw_at lw_m2 164 rfl) rfl
theorem q527 : (Jvm.Cond.static ({ cls := "java/lang/String", name := "checkBoundsOffCount", desc := "(III)I" } : Jvm.MethodName)) ∈ lw_all := lw_g (lw_at lw_m2 188 rfl) rfl
theorem q528 : (Jvm.Cond.code ({ cls := "java/lang/String", name := "checkBoundsOffCount", desc := "(III)I" } : Jvm.MethodName) prog_30_method_157_code (3 : Nat) (Option.some Jvm.ClassFile.FieldType.int)) ∈ lw_all := lw_g (lw_at lw_m2 189 rfl) rfl
theorem q529 : (Jvm.Cond.methodLink "java/lang/String" (1065 : Nat) ({ cls := "jdk/internal/util/Preconditions", name := "checkFromIndexSize", desc := "(IIILjava/util/function/BiFunction;)I" } : Jvm.MethodName)) ∈ lw_all := lw_g (lw_at lw_m2 190 rfl) rfl
theorem q533 : (Jvm.Cond.instanceMethod ({ cls := "java/lang/String", name := "getBytes", desc := "([BIB)V" } : Jvm.MethodName)) ∈ lw_all := lw_g (lw_at lw_m2 194 rfl) rfl
theorem q534 : (Jvm.Cond.selects "java/lang/String" ({ cls := "java/lang/String", name := "getBytes", desc := "([BIB)V" } : Jvm.MethodName) ({ cls := "java/lang/String", name := "getBytes", desc := "([BIB)V" } : Jvm.MethodName)) ∈ lw_all := lw_g (lw_at lw_m2 195 rfl) rfl
theorem q535 : (Jvm.Cond.code ({ cls := "java/lang/String", name := "getBytes", desc := "([BIB)V" } : Jvm.MethodName) prog_30_method_147_code (4 : Nat) (Option.none : Option Jvm.ClassFile.FieldType)) ∈ lw_all := lw_g (lw_at lw_m2 196 rfl) rfl
theorem q536 : (Jvm.Cond.methodLink "java/lang/String" (212 : Nat) ({ cls := "java/lang/System", name := "arraycopy", desc := "(Ljava/lang/Object;ILjava/lang/Object;II)V" } : Jvm.MethodName)) ∈ lw_all := lw_g (lw_at lw_m2 197 rfl) rfl
theorem q537 : (Jvm.Cond.methodLink "java/lang/String" (106 : Nat) ({ cls := "java/lang/StringLatin1", name := "inflate", desc := "([BI[BII)V" } : Jvm.MethodName)) ∈ lw_all := lw_g (lw_at lw_m2 198 rfl) rfl
theorem q569 : (Jvm.Cond.instantiable "java/lang/String" (4 : Nat)) ∈ lw_all := lw_g (lw_at lw_m2 230 rfl) rfl
theorem q571 : (Jvm.Cond.instanceMethod ({ cls := "java/lang/String", name := "<init>", desc := "(Ljava/lang/StringBuilder;)V" } : Jvm.MethodName)) ∈ lw_all := lw_g (lw_at lw_m2 232 rfl) rfl
theorem q572 : (Jvm.Cond.code ({ cls := "java/lang/String", name := "<init>", desc := "(Ljava/lang/StringBuilder;)V" } : Jvm.MethodName) prog_30_method_53_code (2 : Nat) (Option.none : Option Jvm.ClassFile.FieldType)) ∈ lw_all := lw_g (lw_at lw_m2 233 rfl) rfl
theorem q573 : (Jvm.Cond.methodLink "java/lang/String" (489 : Nat) ({ cls := "java/lang/String", name := "<init>", desc := "(Ljava/lang/AbstractStringBuilder;Ljava/lang/Void;)V" } : Jvm.MethodName)) ∈ lw_all := lw_g (lw_at lw_m2 234 rfl) rfl
theorem q574 : (Jvm.Cond.instanceMethod ({ cls := "java/lang/String", name := "<init>", desc := "(Ljava/lang/AbstractStringBuilder;Ljava/lang/Void;)V" } : Jvm.MethodName)) ∈ lw_all := lw_g (lw_at lw_m2 235 rfl) rfl
theorem q575 : (Jvm.Cond.code ({ cls := "java/lang/String", name := "<init>", desc := "(Ljava/lang/AbstractStringBuilder;Ljava/lang/Void;)V" } : Jvm.MethodName) prog_30_method_150_code (5 : Nat) (Option.none : Option Jvm.ClassFile.FieldType)) ∈ lw_all := lw_g (lw_at lw_m2 236 rfl) rfl
theorem q576 : (Jvm.Cond.methodLink "java/lang/String" (1 : Nat) ({ cls := "java/lang/Object", name := "<init>", desc := "()V" } : Jvm.MethodName)) ∈ lw_all := lw_g (lw_at lw_m2 237 rfl) rfl
theorem q577 : (Jvm.Cond.methodLink "java/lang/String" (552 : Nat) ({ cls := "java/lang/AbstractStringBuilder", name := "getValue", desc := "()[B" } : Jvm.MethodName)) ∈ lw_all := lw_g (lw_at lw_m2 238 rfl) rfl
theorem q582 : (Jvm.Cond.methodLink "java/lang/String" (549 : Nat) ({ cls := "java/lang/AbstractStringBuilder", name := "length", desc := "()I" } : Jvm.MethodName)) ∈ lw_all := lw_g (lw_at lw_m3 3 rfl) rfl
theorem q590 : (Jvm.Cond.methodLink "java/lang/String" (1047 : Nat) ({ cls := "java/lang/AbstractStringBuilder", name := "isLatin1", desc := "()Z" } : Jvm.MethodName)) ∈ lw_all := lw_g (lw_at lw_m3 11 rfl) rfl
theorem q591 : (Jvm.Cond.methodLink "java/lang/String" (54 : Nat) ({ cls := "java/util/Arrays", name := "copyOfRange", desc := "([BII)[B" } : Jvm.MethodName)) ∈ lw_all := lw_g (lw_at lw_m3 12 rfl) rfl
theorem q640 : (Jvm.Cond.methodLink "java/lang/String" (1051 : Nat) ({ cls := "java/lang/StringUTF16", name := "compress", desc := "([BII)[B" } : Jvm.MethodName)) ∈ lw_all := lw_g (lw_at lw_m3 61 rfl) rfl
theorem q650 : (Jvm.Cond.methodLink "java/lang/String" (47 : Nat) ({ cls := "java/lang/StringUTF16", name := "coderFromArrayLen", desc := "([BI)B" } : Jvm.MethodName)) ∈ lw_all := lw_g (lw_at lw_m3 71 rfl) rfl
theorem q653 : (Jvm.Cond.fieldLink "java/lang/String" (9 : Nat) "java/lang/String" "value" "[B") ∈ lw_all := lw_g (lw_at lw_m3 74 rfl) rfl
theorem q654 : (Jvm.Cond.fieldLink "java/lang/String" (15 : Nat) "java/lang/String" "coder" "B") ∈ lw_all := lw_g (lw_at lw_m3 75 rfl) rfl
theorem q655 : (Jvm.Cond.laysFinal "java/lang/String" "java/lang/String" "value" "[B") ∈ lw_all := lw_g (lw_at lw_m3 76 rfl) rfl
theorem q656 : (Jvm.Cond.soleField "java/lang/String" "value") ∈ lw_all := lw_g (lw_at lw_m3 77 rfl) rfl
theorem q657 : (Jvm.Cond.laysFinal "java/lang/String" "java/lang/String" "coder" "B") ∈ lw_all := lw_g (lw_at lw_m3 78 rfl) rfl
theorem q658 : (Jvm.Cond.soleField "java/lang/String" "coder") ∈ lw_all := lw_g (lw_at lw_m3 79 rfl) rfl
theorem q659 : (Jvm.Cond.lays "java/lang/String" "java/lang/String" "hash" "I") ∈ lw_all := lw_g (lw_at lw_m3 80 rfl) rfl
theorem q660 : (Jvm.Cond.soleField "java/lang/String" "hash") ∈ lw_all := lw_g (lw_at lw_m3 81 rfl) rfl
theorem q661 : (Jvm.Cond.lays "java/lang/String" "java/lang/String" "hashIsZero" "Z") ∈ lw_all := lw_g (lw_at lw_m3 82 rfl) rfl
theorem q662 : (Jvm.Cond.soleField "java/lang/String" "hashIsZero") ∈ lw_all := lw_g (lw_at lw_m3 83 rfl) rfl
theorem q663 : (Jvm.Cond.superclass "java/lang/String" "java/lang/Object") ∈ lw_all := lw_g (lw_at lw_m3 84 rfl) rfl
theorem q2294 : (Jvm.Cond.castable "java/lang/String" "java/lang/Object") ∈ lw_tbl := lw_at lw_m10 35 rfl
def RJ13 : String := "java/lang/StringUTF16"
theorem q117 : (Jvm.Cond.initialized "java/lang/StringUTF16") ∈ lw_all := lw_g (lw_at lw_m1 18 rfl) rfl
theorem q412 : (Jvm.Cond.static ({ cls := "java/lang/StringUTF16", name := "newBytesFor", desc := "(I)[B" } : Jvm.MethodName)) ∈ lw_all := lw_g (lw_at lw_m2 73 rfl) rfl
theorem q413 : (Jvm.Cond.code ({ cls := "java/lang/StringUTF16", name := "newBytesFor", desc := "(I)[B" } : Jvm.MethodName) prog_33_method_2_code (1 : Nat) (Option.some (Jvm.ClassFile.FieldType.array Jvm.ClassFile.FieldType.byte))) ∈ lw_all := lw_g (lw_at lw_m2 74 rfl) rfl
theorem q414 : (Jvm.Cond.methodLink "java/lang/StringUTF16" (11 : Nat) ({ cls := "java/lang/StringUTF16", name := "newBytesLength", desc := "(I)I" } : Jvm.MethodName)) ∈ lw_all := lw_g (lw_at lw_m2 75 rfl) rfl
theorem q415 : (Jvm.Cond.static ({ cls := "java/lang/StringUTF16", name := "newBytesLength", desc := "(I)I" } : Jvm.MethodName)) ∈ lw_all := lw_g (lw_at lw_m2 76 rfl) rfl
theorem q416 : (Jvm.Cond.code ({ cls := "java/lang/StringUTF16", name := "newBytesLength", desc := "(I)I" } : Jvm.MethodName) prog_33_method_3_code (1 : Nat) (Option.some Jvm.ClassFile.FieldType.int)) ∈ lw_all := lw_g (lw_at lw_m2 77 rfl) rfl
theorem q417 : (Jvm.Cond.constant "java/lang/StringUTF16" (20 : Nat) (1073741823 : Int32)) ∈ lw_all := lw_g (lw_at lw_m2 78 rfl) rfl
theorem q470 : (Jvm.Cond.static ({ cls := "java/lang/StringUTF16", name := "putCharsAt", desc := "([BICCCC)I" } : Jvm.MethodName)) ∈ lw_all := lw_g (lw_at lw_m2 131 rfl) rfl
theorem q471 : (Jvm.Cond.code ({ cls := "java/lang/StringUTF16", name := "putCharsAt", desc := "([BICCCC)I" } : Jvm.MethodName) prog_33_method_81_code (7 : Nat) (Option.some Jvm.ClassFile.FieldType.int)) ∈ lw_all := lw_g (lw_at lw_m2 132 rfl) rfl
theorem q472 : (Jvm.Cond.methodLink "java/lang/StringUTF16" (96 : Nat) ({ cls := "java/lang/StringUTF16", name := "checkBoundsBeginEnd", desc := "(II[B)V" } : Jvm.MethodName)) ∈ lw_all := lw_g (lw_at lw_m2 133 rfl) rfl
theorem q473 : (Jvm.Cond.static ({ cls := "java/lang/StringUTF16", name := "checkBoundsBeginEnd", desc := "(II[B)V" } : Jvm.MethodName)) ∈ lw_all := lw_g (lw_at lw_m2 134 rfl) rfl
theorem q474 : (Jvm.Cond.code ({ cls := "java/lang/StringUTF16", name := "checkBoundsBeginEnd", desc := "(II[B)V" } : Jvm.MethodName) prog_33_method_93_code (3 : Nat) (Option.none : Option Jvm.ClassFile.FieldType)) ∈ lw_all := lw_g (lw_at lw_m2 135 rfl) rfl
theorem q475 : (Jvm.Cond.methodLink "java/lang/StringUTF16" (48 : Nat) ({ cls := "java/lang/StringUTF16", name := "length", desc := "([B)I" } : Jvm.MethodName)) ∈ lw_all := lw_g (lw_at lw_m2 136 rfl) rfl
theorem q476 : (Jvm.Cond.static ({ cls := "java/lang/StringUTF16", name := "length", desc := "([B)I" } : Jvm.MethodName)) ∈ lw_all := lw_g (lw_at lw_m2 137 rfl) rfl
theorem q477 : (Jvm.Cond.code ({ cls := "java/lang/StringUTF16", name := "length", desc := "([B)I" } : Jvm.MethodName) prog_33_method_6_code (1 : Nat) (Option.some Jvm.ClassFile.FieldType.int)) ∈ lw_all := lw_g (lw_at lw_m2 138 rfl) rfl
theorem q478 : (Jvm.Cond.methodLink "java/lang/StringUTF16" (241 : Nat) ({ cls := "java/lang/String", name := "checkBoundsBeginEnd", desc := "(III)V" } : Jvm.MethodName)) ∈ lw_all := lw_g (lw_at lw_m2 139 rfl) rfl
theorem q486 : (Jvm.Cond.methodLink "java/lang/StringUTF16" (111 : Nat) ({ cls := "java/lang/StringUTF16", name := "putChar", desc := "([BII)V" } : Jvm.MethodName)) ∈ lw_all := lw_g (lw_at lw_m2 147 rfl) rfl
theorem q487 : (Jvm.Cond.static ({ cls := "java/lang/StringUTF16", name := "putChar", desc := "([BII)V" } : Jvm.MethodName)) ∈ lw_all := lw_g (lw_at lw_m2 148 rfl) rfl
theorem q488 : (Jvm.Cond.code ({ cls := "java/lang/StringUTF16", name := "putChar", desc := "([BII)V" } : Jvm.MethodName) prog_33_method_4_code (3 : Nat) (Option.none : Option Jvm.ClassFile.FieldType)) ∈ lw_all := lw_g (lw_at lw_m2 149 rfl) rfl
theorem q489 : (Jvm.Cond.fieldLink "java/lang/StringUTF16" (44 : Nat) "java/lang/StringUTF16" "$assertionsDisabled" "Z") ∈ lw_all := lw_g (lw_at lw_m2 150 rfl) rfl
theorem q490 : (Jvm.Cond.laysStatic "java/lang/StringUTF16" "$assertionsDisabled" "Z") ∈ lw_tbl := lw_at lw_m2 151 rfl
theorem q491 : (Jvm.Cond.fieldLink "java/lang/StringUTF16" (59 : Nat) "java/lang/StringUTF16" "HI_BYTE_SHIFT" "I") ∈ lw_all := lw_g (lw_at lw_m2 152 rfl) rfl
theorem q492 : (Jvm.Cond.laysStatic "java/lang/StringUTF16" "HI_BYTE_SHIFT" "I") ∈ lw_tbl := lw_at lw_m2 153 rfl
theorem q493 : (Jvm.Cond.fieldLink "java/lang/StringUTF16" (63 : Nat) "java/lang/StringUTF16" "LO_BYTE_SHIFT" "I") ∈ lw_all := lw_g (lw_at lw_m2 154 rfl) rfl
theorem q494 : (Jvm.Cond.laysStatic "java/lang/StringUTF16" "LO_BYTE_SHIFT" "I") ∈ lw_tbl := lw_at lw_m2 155 rfl
theorem q521 : (Jvm.Cond.static ({ cls := "java/lang/StringUTF16", name := "inflate", desc := "([BI[BII)V" } : Jvm.MethodName)) ∈ lw_all := lw_g (lw_at lw_m2 182 rfl) rfl
theorem q522 : (Jvm.Cond.code ({ cls := "java/lang/StringUTF16", name := "inflate", desc := "([BI[BII)V" } : Jvm.MethodName) prog_33_method_86_code (6 : Nat) (Option.none : Option Jvm.ClassFile.FieldType)) ∈ lw_all := lw_g (lw_at lw_m2 183 rfl) rfl
theorem q523 : (Jvm.Cond.methodLink "java/lang/StringUTF16" (173 : Nat) ({ cls := "java/lang/StringUTF16", name := "checkBoundsOffCount", desc := "(II[B)V" } : Jvm.MethodName)) ∈ lw_all := lw_g (lw_at lw_m2 184 rfl) rfl
theorem q524 : (Jvm.Cond.static ({ cls := "java/lang/StringUTF16", name := "checkBoundsOffCount", desc := "(II[B)V" } : Jvm.MethodName)) ∈ lw_all := lw_g (lw_at lw_m2 185 rfl) rfl
theorem q525 : (Jvm.Cond.code ({ cls := "java/lang/StringUTF16", name := "checkBoundsOffCount", desc := "(II[B)V" } : Jvm.MethodName) prog_33_method_94_code (3 : Nat) (Option.none : Option Jvm.ClassFile.FieldType)) ∈ lw_all := lw_g (lw_at lw_m2 186 rfl) rfl
theorem q526 : (Jvm.Cond.methodLink "java/lang/StringUTF16" (419 : Nat) ({ cls := "java/lang/String", name := "checkBoundsOffCount", desc := "(III)I" } : Jvm.MethodName)) ∈ lw_all := lw_g (lw_at lw_m2 187 rfl) rfl
theorem q557 : (Jvm.Cond.static ({ cls := "java/lang/StringUTF16", name := "getChars", desc := "(III[B)I" } : Jvm.MethodName)) ∈ lw_all := lw_g (lw_at lw_m2 218 rfl) rfl
theorem q558 : (Jvm.Cond.code ({ cls := "java/lang/StringUTF16", name := "getChars", desc := "(III[B)I" } : Jvm.MethodName) prog_33_method_77_code (5 : Nat) (Option.some Jvm.ClassFile.FieldType.int)) ∈ lw_all := lw_g (lw_at lw_m2 219 rfl) rfl
theorem q559 : (Jvm.Cond.methodLink "java/lang/StringUTF16" (393 : Nat) ({ cls := "java/lang/StringUTF16", name := "getChars", desc := "(II[B)I" } : Jvm.MethodName)) ∈ lw_all := lw_g (lw_at lw_m2 220 rfl) rfl
theorem q560 : (Jvm.Cond.static ({ cls := "java/lang/StringUTF16", name := "getChars", desc := "(II[B)I" } : Jvm.MethodName)) ∈ lw_all := lw_g (lw_at lw_m2 221 rfl) rfl
theorem q561 : (Jvm.Cond.code ({ cls := "java/lang/StringUTF16", name := "getChars", desc := "(II[B)I" } : Jvm.MethodName) prog_33_method_89_code (7 : Nat) (Option.some Jvm.ClassFile.FieldType.int)) ∈ lw_all := lw_g (lw_at lw_m2 222 rfl) rfl
theorem q562 : (Jvm.Cond.fieldLink "java/lang/StringUTF16" (403 : Nat) "java/lang/Integer" "DigitOnes" "[B") ∈ lw_all := lw_g (lw_at lw_m2 223 rfl) rfl
theorem q563 : (Jvm.Cond.fieldLink "java/lang/StringUTF16" (407 : Nat) "java/lang/Integer" "DigitTens" "[B") ∈ lw_all := lw_g (lw_at lw_m2 224 rfl) rfl
theorem q641 : (Jvm.Cond.static ({ cls := "java/lang/StringUTF16", name := "compress", desc := "([BII)[B" } : Jvm.MethodName)) ∈ lw_all := lw_g (lw_at lw_m3 62 rfl) rfl
theorem q642 : (Jvm.Cond.code ({ cls := "java/lang/StringUTF16", name := "compress", desc := "([BII)[B" } : Jvm.MethodName) prog_33_method_17_code (6 : Nat) (Option.some (Jvm.ClassFile.FieldType.array Jvm.ClassFile.FieldType.byte))) ∈ lw_all := lw_g (lw_at lw_m3 63 rfl) rfl
theorem q643 : (Jvm.Cond.methodLink "java/lang/StringUTF16" (123 : Nat) ({ cls := "java/lang/StringUTF16", name := "compress", desc := "([BI[BII)I" } : Jvm.MethodName)) ∈ lw_all := lw_g (lw_at lw_m3 64 rfl) rfl
theorem q644 : (Jvm.Cond.static ({ cls := "java/lang/StringUTF16", name := "compress", desc := "([BI[BII)I" } : Jvm.MethodName)) ∈ lw_all := lw_g (lw_at lw_m3 65 rfl) rfl
theorem q645 : (Jvm.Cond.code ({ cls := "java/lang/StringUTF16", name := "compress", desc := "([BI[BII)I" } : Jvm.MethodName) prog_33_method_22_code (7 : Nat) (Option.some Jvm.ClassFile.FieldType.int)) ∈ lw_all := lw_g (lw_at lw_m3 66 rfl) rfl
theorem q646 : (Jvm.Cond.methodLink "java/lang/StringUTF16" (71 : Nat) ({ cls := "java/lang/StringUTF16", name := "getChar", desc := "([BI)C" } : Jvm.MethodName)) ∈ lw_all := lw_g (lw_at lw_m3 67 rfl) rfl
theorem q647 : (Jvm.Cond.static ({ cls := "java/lang/StringUTF16", name := "getChar", desc := "([BI)C" } : Jvm.MethodName)) ∈ lw_all := lw_g (lw_at lw_m3 68 rfl) rfl
theorem q648 : (Jvm.Cond.code ({ cls := "java/lang/StringUTF16", name := "getChar", desc := "([BI)C" } : Jvm.MethodName) prog_33_method_5_code (2 : Nat) (Option.some Jvm.ClassFile.FieldType.char)) ∈ lw_all := lw_g (lw_at lw_m3 69 rfl) rfl
theorem q649 : (Jvm.Cond.methodLink "java/lang/StringUTF16" (126 : Nat) ({ cls := "java/util/Arrays", name := "copyOfRange", desc := "([BII)[B" } : Jvm.MethodName)) ∈ lw_all := lw_g (lw_at lw_m3 70 rfl) rfl
theorem q651 : (Jvm.Cond.static ({ cls := "java/lang/StringUTF16", name := "coderFromArrayLen", desc := "([BI)B" } : Jvm.MethodName)) ∈ lw_all := lw_g (lw_at lw_m3 72 rfl) rfl
theorem q652 : (Jvm.Cond.code ({ cls := "java/lang/StringUTF16", name := "coderFromArrayLen", desc := "([BI)B" } : Jvm.MethodName) prog_33_method_15_code (2 : Nat) (Option.some Jvm.ClassFile.FieldType.byte)) ∈ lw_all := lw_g (lw_at lw_m3 73 rfl) rfl
def RJ14 : String := "java/lang/Number"
theorem q118 : (Jvm.Cond.initialized "java/lang/Number") ∈ lw_all := lw_g (lw_at lw_m1 19 rfl) rfl
theorem q758 : (Jvm.Cond.instanceMethod ({ cls := "java/lang/Number", name := "<init>", desc := "()V" } : Jvm.MethodName)) ∈ lw_all := lw_g (lw_at lw_m3 179 rfl) rfl
theorem q759 : (Jvm.Cond.code ({ cls := "java/lang/Number", name := "<init>", desc := "()V" } : Jvm.MethodName) prog_28_method_1_code (1 : Nat) (Option.none : Option Jvm.ClassFile.FieldType)) ∈ lw_all := lw_g (lw_at lw_m3 180 rfl) rfl
theorem q760 : (Jvm.Cond.methodLink "java/lang/Number" (1 : Nat) ({ cls := "java/lang/Object", name := "<init>", desc := "()V" } : Jvm.MethodName)) ∈ lw_all := lw_g (lw_at lw_m3 181 rfl) rfl
theorem q119 : (Jvm.Cond.initialized "java/lang/Integer") ∈ lw_all := lw_g (lw_at lw_m1 20 rfl) rfl
theorem q252 : (Jvm.Cond.selects "java/lang/Integer" ({ cls := "java/lang/Object", name := "getClass", desc := "()Ljava/lang/Class;" } : Jvm.MethodName) ({ cls := "java/lang/Object", name := "getClass", desc := "()Ljava/lang/Class;" } : Jvm.MethodName)) ∈ lw_all := lw_g (lw_at lw_m1 153 rfl) rfl
theorem q547 : (Jvm.Cond.static ({ cls := "java/lang/Integer", name := "stringSize", desc := "(I)I" } : Jvm.MethodName)) ∈ lw_all := lw_g (lw_at lw_m2 208 rfl) rfl
theorem q548 : (Jvm.Cond.code ({ cls := "java/lang/Integer", name := "stringSize", desc := "(I)I" } : Jvm.MethodName) prog_24_method_13_code (4 : Nat) (Option.some Jvm.ClassFile.FieldType.int)) ∈ lw_all := lw_g (lw_at lw_m2 209 rfl) rfl
theorem q550 : (Jvm.Cond.static ({ cls := "java/lang/Integer", name := "getChars", desc := "(II[B)I" } : Jvm.MethodName)) ∈ lw_all := lw_g (lw_at lw_m2 211 rfl) rfl
theorem q551 : (Jvm.Cond.code ({ cls := "java/lang/Integer", name := "getChars", desc := "(II[B)I" } : Jvm.MethodName) prog_24_method_12_code (7 : Nat) (Option.some Jvm.ClassFile.FieldType.int)) ∈ lw_all := lw_g (lw_at lw_m2 212 rfl) rfl
theorem q552 : (Jvm.Cond.fieldLink "java/lang/Integer" (83 : Nat) "java/lang/Integer" "DigitOnes" "[B") ∈ lw_all := lw_g (lw_at lw_m2 213 rfl) rfl
theorem q553 : (Jvm.Cond.laysStatic "java/lang/Integer" "DigitOnes" "[B") ∈ lw_tbl := lw_at lw_m2 214 rfl
theorem q554 : (Jvm.Cond.fieldLink "java/lang/Integer" (87 : Nat) "java/lang/Integer" "DigitTens" "[B") ∈ lw_all := lw_g (lw_at lw_m2 215 rfl) rfl
theorem q555 : (Jvm.Cond.laysStatic "java/lang/Integer" "DigitTens" "[B") ∈ lw_tbl := lw_at lw_m2 216 rfl
theorem q746 : (Jvm.Cond.static ({ cls := "java/lang/Integer", name := "valueOf", desc := "(I)Ljava/lang/Integer;" } : Jvm.MethodName)) ∈ lw_all := lw_g (lw_at lw_m3 167 rfl) rfl
theorem q747 : (Jvm.Cond.code ({ cls := "java/lang/Integer", name := "valueOf", desc := "(I)Ljava/lang/Integer;" } : Jvm.MethodName) prog_24_method_22_code (1 : Nat) (Option.some (Jvm.ClassFile.FieldType.object "java/lang/Integer"))) ∈ lw_all := lw_g (lw_at lw_m3 168 rfl) rfl
theorem q748 : (Jvm.Cond.fieldLink "java/lang/Integer" (191 : Nat) "java/lang/Integer$IntegerCache" "high" "I") ∈ lw_all := lw_g (lw_at lw_m3 169 rfl) rfl
theorem q750 : (Jvm.Cond.fieldLink "java/lang/Integer" (195 : Nat) "java/lang/Integer$IntegerCache" "cache" "[Ljava/lang/Integer;") ∈ lw_all := lw_g (lw_at lw_m3 171 rfl) rfl
theorem q752 : (Jvm.Cond.classLink "java/lang/Integer" (1 : Nat) "java/lang/Integer") ∈ lw_all := lw_g (lw_at lw_m3 173 rfl) rfl
theorem q753 : (Jvm.Cond.instantiable "java/lang/Integer" (1 : Nat)) ∈ lw_all := lw_g (lw_at lw_m3 174 rfl) rfl
theorem q754 : (Jvm.Cond.methodLink "java/lang/Integer" (199 : Nat) ({ cls := "java/lang/Integer", name := "<init>", desc := "(I)V" } : Jvm.MethodName)) ∈ lw_all := lw_g (lw_at lw_m3 175 rfl) rfl
theorem q755 : (Jvm.Cond.instanceMethod ({ cls := "java/lang/Integer", name := "<init>", desc := "(I)V" } : Jvm.MethodName)) ∈ lw_all := lw_g (lw_at lw_m3 176 rfl) rfl
theorem q756 : (Jvm.Cond.code ({ cls := "java/lang/Integer", name := "<init>", desc := "(I)V" } : Jvm.MethodName) prog_24_method_23_code (2 : Nat) (Option.none : Option Jvm.ClassFile.FieldType)) ∈ lw_all := lw_g (lw_at lw_m3 177 rfl) rfl
theorem q757 : (Jvm.Cond.methodLink "java/lang/Integer" (202 : Nat) ({ cls := "java/lang/Number", name := "<init>", desc := "()V" } : Jvm.MethodName)) ∈ lw_all := lw_g (lw_at lw_m3 178 rfl) rfl
theorem q761 : (Jvm.Cond.fieldLink "java/lang/Integer" (205 : Nat) "java/lang/Integer" "value" "I") ∈ lw_all := lw_g (lw_at lw_m3 182 rfl) rfl
theorem q762 : (Jvm.Cond.laysFinal "java/lang/Integer" "java/lang/Integer" "value" "I") ∈ lw_all := lw_g (lw_at lw_m3 183 rfl) rfl
theorem q763 : (Jvm.Cond.soleField "java/lang/Integer" "value") ∈ lw_all := lw_g (lw_at lw_m3 184 rfl) rfl
theorem q764 : (Jvm.Cond.superclass "java/lang/Integer" "java/lang/Number") ∈ lw_all := lw_g (lw_at lw_m3 185 rfl) rfl
theorem q816 : (Jvm.Cond.instanceMethod ({ cls := "java/lang/Integer", name := "intValue", desc := "()I" } : Jvm.MethodName)) ∈ lw_all := lw_g (lw_at lw_m3 237 rfl) rfl
theorem q817 : (Jvm.Cond.selects "java/lang/Integer" ({ cls := "java/lang/Integer", name := "intValue", desc := "()I" } : Jvm.MethodName) ({ cls := "java/lang/Integer", name := "intValue", desc := "()I" } : Jvm.MethodName)) ∈ lw_all := lw_g (lw_at lw_m3 238 rfl) rfl
theorem q818 : (Jvm.Cond.code ({ cls := "java/lang/Integer", name := "intValue", desc := "()I" } : Jvm.MethodName) prog_24_method_27_code (1 : Nat) (Option.some Jvm.ClassFile.FieldType.int)) ∈ lw_all := lw_g (lw_at lw_m3 239 rfl) rfl
theorem q1423 : (Jvm.Cond.static ({ cls := "java/lang/Integer", name := "bitCount", desc := "(I)I" } : Jvm.MethodName)) ∈ lw_all := lw_g (lw_at lw_m6 124 rfl) rfl
theorem q1424 : (Jvm.Cond.code ({ cls := "java/lang/Integer", name := "bitCount", desc := "(I)I" } : Jvm.MethodName) prog_24_method_49_code (1 : Nat) (Option.some Jvm.ClassFile.FieldType.int)) ∈ lw_all := lw_g (lw_at lw_m6 125 rfl) rfl
theorem q1425 : (Jvm.Cond.constant "java/lang/Integer" (265 : Nat) (1431655765 : Int32)) ∈ lw_all := lw_g (lw_at lw_m6 126 rfl) rfl
theorem q1426 : (Jvm.Cond.constant "java/lang/Integer" (266 : Nat) (858993459 : Int32)) ∈ lw_all := lw_g (lw_at lw_m6 127 rfl) rfl
theorem q1427 : (Jvm.Cond.constant "java/lang/Integer" (267 : Nat) (252645135 : Int32)) ∈ lw_all := lw_g (lw_at lw_m6 128 rfl) rfl
theorem q2296 : (Jvm.Cond.castable "java/lang/Integer" "java/lang/Object") ∈ lw_tbl := lw_at lw_m10 37 rfl
def RJ16 : String := "jdk/internal/util/Preconditions"
theorem q120 : (Jvm.Cond.initialized "jdk/internal/util/Preconditions") ∈ lw_all := lw_g (lw_at lw_m1 21 rfl) rfl
theorem q482 : (Jvm.Cond.laysStatic "jdk/internal/util/Preconditions" "SIOOBE_FORMATTER" "Ljava/util/function/BiFunction;") ∈ lw_tbl := lw_at lw_m2 143 rfl
theorem q484 : (Jvm.Cond.static ({ cls := "jdk/internal/util/Preconditions", name := "checkFromToIndex", desc := "(IIILjava/util/function/BiFunction;)I" } : Jvm.MethodName)) ∈ lw_all := lw_g (lw_at lw_m2 145 rfl) rfl
theorem q485 : (Jvm.Cond.code ({ cls := "jdk/internal/util/Preconditions", name := "checkFromToIndex", desc := "(IIILjava/util/function/BiFunction;)I" } : Jvm.MethodName) prog_48_method_12_code (4 : Nat) (Option.some Jvm.ClassFile.FieldType.int)) ∈ lw_all := lw_g (lw_at lw_m2 146 rfl) rfl
theorem q530 : (Jvm.Cond.static ({ cls := "jdk/internal/util/Preconditions", name := "checkFromIndexSize", desc := "(IIILjava/util/function/BiFunction;)I" } : Jvm.MethodName)) ∈ lw_all := lw_g (lw_at lw_m2 191 rfl) rfl
theorem q531 : (Jvm.Cond.code ({ cls := "jdk/internal/util/Preconditions", name := "checkFromIndexSize", desc := "(IIILjava/util/function/BiFunction;)I" } : Jvm.MethodName) prog_48_method_13_code (4 : Nat) (Option.some Jvm.ClassFile.FieldType.int)) ∈ lw_all := lw_g (lw_at lw_m2 192 rfl) rfl
theorem q689 : (Jvm.Cond.static ({ cls := "jdk/internal/util/Preconditions", name := "checkIndex", desc := "(IILjava/util/function/BiFunction;)I" } : Jvm.MethodName)) ∈ lw_all := lw_g (lw_at lw_m3 110 rfl) rfl
theorem q690 : (Jvm.Cond.code ({ cls := "jdk/internal/util/Preconditions", name := "checkIndex", desc := "(IILjava/util/function/BiFunction;)I" } : Jvm.MethodName) prog_48_method_11_code (3 : Nat) (Option.some Jvm.ClassFile.FieldType.int)) ∈ lw_all := lw_g (lw_at lw_m3 111 rfl) rfl
def RJ17 : String := "java/lang/StringLatin1"
theorem q121 : (Jvm.Cond.initialized "java/lang/StringLatin1") ∈ lw_all := lw_g (lw_at lw_m1 22 rfl) rfl
theorem q518 : (Jvm.Cond.static ({ cls := "java/lang/StringLatin1", name := "inflate", desc := "([BI[BII)V" } : Jvm.MethodName)) ∈ lw_all := lw_g (lw_at lw_m2 179 rfl) rfl
theorem q519 : (Jvm.Cond.code ({ cls := "java/lang/StringLatin1", name := "inflate", desc := "([BI[BII)V" } : Jvm.MethodName) prog_32_method_50_code (5 : Nat) (Option.none : Option Jvm.ClassFile.FieldType)) ∈ lw_all := lw_g (lw_at lw_m2 180 rfl) rfl
theorem q520 : (Jvm.Cond.methodLink "java/lang/StringLatin1" (240 : Nat) ({ cls := "java/lang/StringUTF16", name := "inflate", desc := "([BI[BII)V" } : Jvm.MethodName)) ∈ lw_all := lw_g (lw_at lw_m2 181 rfl) rfl
theorem q122 : (Jvm.Cond.initialized "java/lang/IllegalStateException") ∈ lw_all := lw_g (lw_at lw_m1 23 rfl) rfl
theorem q250 : (Jvm.Cond.selects "java/lang/IllegalStateException" ({ cls := "java/lang/Object", name := "getClass", desc := "()Ljava/lang/Class;" } : Jvm.MethodName) ({ cls := "java/lang/Object", name := "getClass", desc := "()Ljava/lang/Class;" } : Jvm.MethodName)) ∈ lw_all := lw_g (lw_at lw_m1 151 rfl) rfl
theorem q393 : (Jvm.Cond.selects "java/lang/IllegalStateException" ({ cls := "java/lang/Throwable", name := "fillInStackTrace", desc := "()Ljava/lang/Throwable;" } : Jvm.MethodName) ({ cls := "java/lang/Throwable", name := "fillInStackTrace", desc := "()Ljava/lang/Throwable;" } : Jvm.MethodName)) ∈ lw_all := lw_g (lw_at lw_m2 54 rfl) rfl
theorem q731 : (Jvm.Cond.instantiable "java/lang/IllegalStateException" (6 : Nat)) ∈ lw_all := lw_g (lw_at lw_m3 152 rfl) rfl
theorem q732 : (Jvm.Cond.castable "java/lang/IllegalStateException" "java/lang/IllegalStateException") ∈ lw_tbl := lw_at lw_m3 153 rfl
theorem q733 : (Jvm.Cond.selects "java/lang/IllegalStateException" ({ cls := "java/lang/Throwable", name := "fillInStackTrace", desc := "(I)Ljava/lang/Throwable;" } : Jvm.MethodName) ({ cls := "java/lang/Throwable", name := "fillInStackTrace", desc := "(I)Ljava/lang/Throwable;" } : Jvm.MethodName)) ∈ lw_all := lw_g (lw_at lw_m3 154 rfl) rfl
theorem q734 : (Jvm.Cond.lays "java/lang/IllegalStateException" "java/lang/Throwable" "cause" "Ljava/lang/Throwable;") ∈ lw_all := lw_g (lw_at lw_m3 155 rfl) rfl
theorem q735 : (Jvm.Cond.lays "java/lang/IllegalStateException" "java/lang/Throwable" "stackTrace" "[Ljava/lang/StackTraceElement;") ∈ lw_all := lw_g (lw_at lw_m3 156 rfl) rfl
theorem q736 : (Jvm.Cond.lays "java/lang/IllegalStateException" "java/lang/Throwable" "suppressedExceptions" "Ljava/util/List;") ∈ lw_all := lw_g (lw_at lw_m3 157 rfl) rfl
theorem q737 : (Jvm.Cond.lays "java/lang/IllegalStateException" "java/lang/Throwable" "detailMessage" "Ljava/lang/String;") ∈ lw_all := lw_g (lw_at lw_m3 158 rfl) rfl
theorem q738 : (Jvm.Cond.lays "java/lang/IllegalStateException" "java/lang/Throwable" "backtrace" "Ljava/lang/Object;") ∈ lw_all := lw_g (lw_at lw_m3 159 rfl) rfl
theorem q740 : (Jvm.Cond.instanceMethod ({ cls := "java/lang/IllegalStateException", name := "<init>", desc := "(Ljava/lang/String;)V" } : Jvm.MethodName)) ∈ lw_all := lw_g (lw_at lw_m3 161 rfl) rfl
theorem q741 : (Jvm.Cond.code ({ cls := "java/lang/IllegalStateException", name := "<init>", desc := "(Ljava/lang/String;)V" } : Jvm.MethodName) prog_22_method_2_code (2 : Nat) (Option.none : Option Jvm.ClassFile.FieldType)) ∈ lw_all := lw_g (lw_at lw_m3 162 rfl) rfl
theorem q742 : (Jvm.Cond.methodLink "java/lang/IllegalStateException" (7 : Nat) ({ cls := "java/lang/RuntimeException", name := "<init>", desc := "(Ljava/lang/String;)V" } : Jvm.MethodName)) ∈ lw_all := lw_g (lw_at lw_m3 163 rfl) rfl
theorem q743 : (Jvm.Cond.lays "java/lang/IllegalStateException" "java/lang/Throwable" "depth" "I") ∈ lw_all := lw_g (lw_at lw_m3 164 rfl) rfl
theorem q744 : (Jvm.Cond.superclass "java/lang/IllegalStateException" "java/lang/RuntimeException") ∈ lw_all := lw_g (lw_at lw_m3 165 rfl) rfl
theorem q2295 : (Jvm.Cond.castable "java/lang/IllegalStateException" "java/lang/Object") ∈ lw_tbl := lw_at lw_m10 36 rfl
theorem q124 : (Jvm.Cond.initialized "java/lang/IndexOutOfBoundsException") ∈ lw_all := lw_g (lw_at lw_m1 25 rfl) rfl
theorem q251 : (Jvm.Cond.selects "java/lang/IndexOutOfBoundsException" ({ cls := "java/lang/Object", name := "getClass", desc := "()Ljava/lang/Class;" } : Jvm.MethodName) ({ cls := "java/lang/Object", name := "getClass", desc := "()Ljava/lang/Class;" } : Jvm.MethodName)) ∈ lw_all := lw_g (lw_at lw_m1 152 rfl) rfl
theorem q359 : (Jvm.Cond.instantiable "java/lang/IndexOutOfBoundsException" (6 : Nat)) ∈ lw_all := lw_g (lw_at lw_m2 20 rfl) rfl
theorem q360 : (Jvm.Cond.castable "java/lang/IndexOutOfBoundsException" "java/lang/IndexOutOfBoundsException") ∈ lw_tbl := lw_at lw_m2 21 rfl
theorem q367 : (Jvm.Cond.selects "java/lang/IndexOutOfBoundsException" ({ cls := "java/lang/Throwable", name := "fillInStackTrace", desc := "(I)Ljava/lang/Throwable;" } : Jvm.MethodName) ({ cls := "java/lang/Throwable", name := "fillInStackTrace", desc := "(I)Ljava/lang/Throwable;" } : Jvm.MethodName)) ∈ lw_all := lw_g (lw_at lw_m2 28 rfl) rfl
theorem q368 : (Jvm.Cond.selects "java/lang/IndexOutOfBoundsException" ({ cls := "java/lang/Throwable", name := "fillInStackTrace", desc := "()Ljava/lang/Throwable;" } : Jvm.MethodName) ({ cls := "java/lang/Throwable", name := "fillInStackTrace", desc := "()Ljava/lang/Throwable;" } : Jvm.MethodName)) ∈ lw_all := lw_g (lw_at lw_m2 29 rfl) rfl
theorem q369 : (Jvm.Cond.lays "java/lang/IndexOutOfBoundsException" "java/lang/Throwable" "cause" "Ljava/lang/Throwable;") ∈ lw_all := lw_g (lw_at lw_m2 30 rfl) rfl
theorem q371 : (Jvm.Cond.lays "java/lang/IndexOutOfBoundsException" "java/lang/Throwable" "stackTrace" "[Ljava/lang/StackTraceElement;") ∈ lw_all := lw_g (lw_at lw_m2 32 rfl) rfl
theorem q373 : (Jvm.Cond.lays "java/lang/IndexOutOfBoundsException" "java/lang/Throwable" "suppressedExceptions" "Ljava/util/List;") ∈ lw_all := lw_g (lw_at lw_m2 34 rfl) rfl
theorem q375 : (Jvm.Cond.lays "java/lang/IndexOutOfBoundsException" "java/lang/Throwable" "detailMessage" "Ljava/lang/String;") ∈ lw_all := lw_g (lw_at lw_m2 36 rfl) rfl
theorem q377 : (Jvm.Cond.lays "java/lang/IndexOutOfBoundsException" "java/lang/Throwable" "backtrace" "Ljava/lang/Object;") ∈ lw_all := lw_g (lw_at lw_m2 38 rfl) rfl
theorem q665 : (Jvm.Cond.instanceMethod ({ cls := "java/lang/IndexOutOfBoundsException", name := "<init>", desc := "(Ljava/lang/String;)V" } : Jvm.MethodName)) ∈ lw_all := lw_g (lw_at lw_m3 86 rfl) rfl
theorem q666 : (Jvm.Cond.code ({ cls := "java/lang/IndexOutOfBoundsException", name := "<init>", desc := "(Ljava/lang/String;)V" } : Jvm.MethodName) prog_23_method_2_code (2 : Nat) (Option.none : Option Jvm.ClassFile.FieldType)) ∈ lw_all := lw_g (lw_at lw_m3 87 rfl) rfl
theorem q667 : (Jvm.Cond.methodLink "java/lang/IndexOutOfBoundsException" (7 : Nat) ({ cls := "java/lang/RuntimeException", name := "<init>", desc := "(Ljava/lang/String;)V" } : Jvm.MethodName)) ∈ lw_all := lw_g (lw_at lw_m3 88 rfl) rfl
theorem q668 : (Jvm.Cond.lays "java/lang/IndexOutOfBoundsException" "java/lang/Throwable" "depth" "I") ∈ lw_all := lw_g (lw_at lw_m3 89 rfl) rfl
theorem q669 : (Jvm.Cond.superclass "java/lang/IndexOutOfBoundsException" "java/lang/RuntimeException") ∈ lw_all := lw_g (lw_at lw_m3 90 rfl) rfl
theorem q788 : (Jvm.Cond.declares ({ cls := "java/lang/IndexOutOfBoundsException", name := "<init>", desc := "()V" } : Jvm.MethodName)) ∈ lw_tbl := lw_at lw_m3 209 rfl
theorem q789 : (Jvm.Cond.declares ({ cls := "java/lang/IndexOutOfBoundsException", name := "<init>", desc := "(Ljava/lang/String;)V" } : Jvm.MethodName)) ∈ lw_tbl := lw_at lw_m3 210 rfl
theorem q2298 : (Jvm.Cond.castable "java/lang/IndexOutOfBoundsException" "java/lang/Object") ∈ lw_tbl := lw_at lw_m10 39 rfl
theorem q103 : (Jvm.Cond.initialized "java/util/ArrayList") ∈ lw_all := lw_g (lw_at lw_m1 4 rfl) rfl
theorem q148 : (Jvm.Cond.instantiable "java/util/ArrayList" (3 : Nat)) ∈ lw_all := lw_g (lw_at lw_m1 49 rfl) rfl
theorem q150 : (Jvm.Cond.instanceMethod ({ cls := "java/util/ArrayList", name := "<init>", desc := "()V" } : Jvm.MethodName)) ∈ lw_all := lw_g (lw_at lw_m1 51 rfl) rfl
theorem q151 : (Jvm.Cond.code ({ cls := "java/util/ArrayList", name := "<init>", desc := "()V" } : Jvm.MethodName) prog_38_method_2_code (1 : Nat) (Option.none : Option Jvm.ClassFile.FieldType)) ∈ lw_all := lw_g (lw_at lw_m1 52 rfl) rfl
theorem q152 : (Jvm.Cond.methodLink "java/util/ArrayList" (1 : Nat) ({ cls := "java/util/AbstractList", name := "<init>", desc := "()V" } : Jvm.MethodName)) ∈ lw_all := lw_g (lw_at lw_m1 53 rfl) rfl
theorem q159 : (Jvm.Cond.fieldLink "java/util/ArrayList" (39 : Nat) "java/util/ArrayList" "DEFAULTCAPACITY_EMPTY_ELEMENTDATA" "[Ljava/lang/Object;") ∈ lw_all := lw_g (lw_at lw_m1 60 rfl) rfl
theorem q160 : (Jvm.Cond.laysStatic "java/util/ArrayList" "DEFAULTCAPACITY_EMPTY_ELEMENTDATA" "[Ljava/lang/Object;") ∈ lw_tbl := lw_at lw_m1 61 rfl
theorem q161 : (Jvm.Cond.fieldLink "java/util/ArrayList" (9 : Nat) "java/util/ArrayList" "elementData" "[Ljava/lang/Object;") ∈ lw_all := lw_g (lw_at lw_m1 62 rfl) rfl
theorem q164 : (Jvm.Cond.fieldLink "java/util/ArrayList" (48 : Nat) "java/util/ArrayList" "size" "I") ∈ lw_all := lw_g (lw_at lw_m1 65 rfl) rfl
theorem q167 : (Jvm.Cond.sameField "java/util/ArrayList" "java/util/AbstractList" "modCount" "I") ∈ lw_all := lw_g (lw_at lw_m1 68 rfl) rfl
theorem q168 : (Jvm.Cond.fieldLink "java/util/ArrayList" (63 : Nat) "java/util/ArrayList" "modCount" "I") ∈ lw_all := lw_g (lw_at lw_m1 69 rfl) rfl
theorem q169 : (Jvm.Cond.lays "java/util/ArrayList" "java/util/ArrayList" "elementData" "[Ljava/lang/Object;") ∈ lw_all := lw_g (lw_at lw_m1 70 rfl) rfl
theorem q170 : (Jvm.Cond.soleField "java/util/ArrayList" "elementData") ∈ lw_all := lw_g (lw_at lw_m1 71 rfl) rfl
theorem q171 : (Jvm.Cond.lays "java/util/ArrayList" "java/util/ArrayList" "size" "I") ∈ lw_all := lw_g (lw_at lw_m1 72 rfl) rfl
theorem q172 : (Jvm.Cond.soleField "java/util/ArrayList" "size") ∈ lw_all := lw_g (lw_at lw_m1 73 rfl) rfl
theorem q173 : (Jvm.Cond.lays "java/util/ArrayList" "java/util/AbstractList" "modCount" "I") ∈ lw_all := lw_g (lw_at lw_m1 74 rfl) rfl
theorem q175 : (Jvm.Cond.superclass "java/util/ArrayList" "java/util/AbstractList") ∈ lw_all := lw_g (lw_at lw_m1 76 rfl) rfl
theorem q200 : (Jvm.Cond.castable "java/util/ArrayList" "java/util/List") ∈ lw_tbl := lw_at lw_m1 101 rfl
theorem q201 : (Jvm.Cond.selects "java/util/ArrayList" ({ cls := "java/util/List", name := "add", desc := "(Ljava/lang/Object;)Z" } : Jvm.MethodName) ({ cls := "java/util/ArrayList", name := "add", desc := "(Ljava/lang/Object;)Z" } : Jvm.MethodName)) ∈ lw_all := lw_g (lw_at lw_m1 102 rfl) rfl
theorem q202 : (Jvm.Cond.unhidden "java/util/ArrayList" "add" "(Ljava/lang/Object;)Z") ∈ lw_tbl := lw_at lw_m1 103 rfl
theorem q203 : (Jvm.Cond.instanceMethod ({ cls := "java/util/ArrayList", name := "add", desc := "(Ljava/lang/Object;)Z" } : Jvm.MethodName)) ∈ lw_all := lw_g (lw_at lw_m1 104 rfl) rfl
theorem q204 : (Jvm.Cond.publicMethod ({ cls := "java/util/ArrayList", name := "add", desc := "(Ljava/lang/Object;)Z" } : Jvm.MethodName)) ∈ lw_tbl := lw_at lw_m1 105 rfl
theorem q205 : (Jvm.Cond.code ({ cls := "java/util/ArrayList", name := "add", desc := "(Ljava/lang/Object;)Z" } : Jvm.MethodName) prog_38_method_25_code (2 : Nat) (Option.some Jvm.ClassFile.FieldType.boolean)) ∈ lw_all := lw_g (lw_at lw_m1 106 rfl) rfl
theorem q206 : (Jvm.Cond.methodLink "java/util/ArrayList" (131 : Nat) ({ cls := "java/util/ArrayList", name := "add", desc := "(Ljava/lang/Object;[Ljava/lang/Object;I)V" } : Jvm.MethodName)) ∈ lw_all := lw_g (lw_at lw_m1 107 rfl) rfl
theorem q207 : (Jvm.Cond.privateMethod ({ cls := "java/util/ArrayList", name := "add", desc := "(Ljava/lang/Object;[Ljava/lang/Object;I)V" } : Jvm.MethodName)) ∈ lw_tbl := lw_at lw_m1 108 rfl
theorem q208 : (Jvm.Cond.instanceMethod ({ cls := "java/util/ArrayList", name := "add", desc := "(Ljava/lang/Object;[Ljava/lang/Object;I)V" } : Jvm.MethodName)) ∈ lw_all := lw_g (lw_at lw_m1 109 rfl) rfl
theorem q209 : (Jvm.Cond.code ({ cls := "java/util/ArrayList", name := "add", desc := "(Ljava/lang/Object;[Ljava/lang/Object;I)V" } : Jvm.MethodName) prog_38_method_24_code (4 : Nat) (Option.none : Option Jvm.ClassFile.FieldType)) ∈ lw_all := lw_g (lw_at lw_m1 110 rfl) rfl
theorem q210 : (Jvm.Cond.methodLink "java/util/ArrayList" (129 : Nat) ({ cls := "java/util/ArrayList", name := "grow", desc := "()[Ljava/lang/Object;" } : Jvm.MethodName)) ∈ lw_all := lw_g (lw_at lw_m1 111 rfl) rfl
theorem q211 : (Jvm.Cond.privateMethod ({ cls := "java/util/ArrayList", name := "grow", desc := "()[Ljava/lang/Object;" } : Jvm.MethodName)) ∈ lw_tbl := lw_at lw_m1 112 rfl
theorem q212 : (Jvm.Cond.instanceMethod ({ cls := "java/util/ArrayList", name := "grow", desc := "()[Ljava/lang/Object;" } : Jvm.MethodName)) ∈ lw_all := lw_g (lw_at lw_m1 113 rfl) rfl
theorem q213 : (Jvm.Cond.code ({ cls := "java/util/ArrayList", name := "grow", desc := "()[Ljava/lang/Object;" } : Jvm.MethodName) prog_38_method_7_code (1 : Nat) (Option.some (Jvm.ClassFile.FieldType.array (Jvm.ClassFile.FieldType.object "java/lang/Object")))) ∈ lw_all := lw_g (lw_at lw_m1 114 rfl) rfl
theorem q214 : (Jvm.Cond.methodLink "java/util/ArrayList" (69 : Nat) ({ cls := "java/util/ArrayList", name := "grow", desc := "(I)[Ljava/lang/Object;" } : Jvm.MethodName)) ∈ lw_all := lw_g (lw_at lw_m1 115 rfl) rfl
theorem q215 : (Jvm.Cond.privateMethod ({ cls := "java/util/ArrayList", name := "grow", desc := "(I)[Ljava/lang/Object;" } : Jvm.MethodName)) ∈ lw_tbl := lw_at lw_m1 116 rfl
theorem q216 : (Jvm.Cond.instanceMethod ({ cls := "java/util/ArrayList", name := "grow", desc := "(I)[Ljava/lang/Object;" } : Jvm.MethodName)) ∈ lw_all := lw_g (lw_at lw_m1 117 rfl) rfl
theorem q217 : (Jvm.Cond.code ({ cls := "java/util/ArrayList", name := "grow", desc := "(I)[Ljava/lang/Object;" } : Jvm.MethodName) prog_38_method_6_code (4 : Nat) (Option.some (Jvm.ClassFile.FieldType.array (Jvm.ClassFile.FieldType.object "java/lang/Object")))) ∈ lw_all := lw_g (lw_at lw_m1 118 rfl) rfl
theorem q218 : (Jvm.Cond.methodLink "java/util/ArrayList" (73 : Nat) ({ cls := "jdk/internal/util/ArraysSupport", name := "newLength", desc := "(III)I" } : Jvm.MethodName)) ∈ lw_all := lw_g (lw_at lw_m1 119 rfl) rfl
theorem q228 : (Jvm.Cond.methodLink "java/util/ArrayList" (66 : Nat) ({ cls := "java/util/Arrays", name := "copyOf", desc := "([Ljava/lang/Object;I)[Ljava/lang/Object;" } : Jvm.MethodName)) ∈ lw_all := lw_g (lw_at lw_m1 129 rfl) rfl
theorem q255 : (Jvm.Cond.selects "java/util/ArrayList" ({ cls := "java/lang/Object", name := "getClass", desc := "()Ljava/lang/Class;" } : Jvm.MethodName) ({ cls := "java/lang/Object", name := "getClass", desc := "()Ljava/lang/Class;" } : Jvm.MethodName)) ∈ lw_all := lw_g (lw_at lw_m1 156 rfl) rfl
theorem q270 : (Jvm.Cond.methodLink "java/util/ArrayList" (79 : Nat) ({ cls := "java/lang/Math", name := "max", desc := "(II)I" } : Jvm.MethodName)) ∈ lw_all := lw_g (lw_at lw_m1 171 rfl) rfl
theorem q271 : (Jvm.Cond.classLink "java/util/ArrayList" (7 : Nat) "java/lang/Object") ∈ lw_all := lw_g (lw_at lw_m1 172 rfl) rfl
theorem q313 : (Jvm.Cond.selects "java/util/ArrayList" ({ cls := "java/util/List", name := "size", desc := "()I" } : Jvm.MethodName) ({ cls := "java/util/ArrayList", name := "size", desc := "()I" } : Jvm.MethodName)) ∈ lw_all := lw_g (lw_at lw_m1 214 rfl) rfl
theorem q314 : (Jvm.Cond.unhidden "java/util/ArrayList" "size" "()I") ∈ lw_tbl := lw_at lw_m1 215 rfl
theorem q315 : (Jvm.Cond.instanceMethod ({ cls := "java/util/ArrayList", name := "size", desc := "()I" } : Jvm.MethodName)) ∈ lw_all := lw_g (lw_at lw_m1 216 rfl) rfl
theorem q316 : (Jvm.Cond.publicMethod ({ cls := "java/util/ArrayList", name := "size", desc := "()I" } : Jvm.MethodName)) ∈ lw_tbl := lw_at lw_m1 217 rfl
theorem q317 : (Jvm.Cond.code ({ cls := "java/util/ArrayList", name := "size", desc := "()I" } : Jvm.MethodName) prog_38_method_8_code (1 : Nat) (Option.some Jvm.ClassFile.FieldType.int)) ∈ lw_all := lw_g (lw_at lw_m1 218 rfl) rfl
theorem q322 : (Jvm.Cond.selects "java/util/ArrayList" ({ cls := "java/util/List", name := "clear", desc := "()V" } : Jvm.MethodName) ({ cls := "java/util/ArrayList", name := "clear", desc := "()V" } : Jvm.MethodName)) ∈ lw_all := lw_g (lw_at lw_m1 223 rfl) rfl
theorem q323 : (Jvm.Cond.unhidden "java/util/ArrayList" "clear" "()V") ∈ lw_tbl := lw_at lw_m1 224 rfl
theorem q324 : (Jvm.Cond.instanceMethod ({ cls := "java/util/ArrayList", name := "clear", desc := "()V" } : Jvm.MethodName)) ∈ lw_all := lw_g (lw_at lw_m1 225 rfl) rfl
theorem q325 : (Jvm.Cond.publicMethod ({ cls := "java/util/ArrayList", name := "clear", desc := "()V" } : Jvm.MethodName)) ∈ lw_tbl := lw_at lw_m1 226 rfl
theorem q326 : (Jvm.Cond.code ({ cls := "java/util/ArrayList", name := "clear", desc := "()V" } : Jvm.MethodName) prog_38_method_40_code (4 : Nat) (Option.none : Option Jvm.ClassFile.FieldType)) ∈ lw_all := lw_g (lw_at lw_m1 227 rfl) rfl
theorem q680 : (Jvm.Cond.selects "java/util/ArrayList" ({ cls := "java/util/List", name := "get", desc := "(I)Ljava/lang/Object;" } : Jvm.MethodName) ({ cls := "java/util/ArrayList", name := "get", desc := "(I)Ljava/lang/Object;" } : Jvm.MethodName)) ∈ lw_all := lw_g (lw_at lw_m3 101 rfl) rfl
theorem q681 : (Jvm.Cond.unhidden "java/util/ArrayList" "get" "(I)Ljava/lang/Object;") ∈ lw_tbl := lw_at lw_m3 102 rfl
theorem q682 : (Jvm.Cond.instanceMethod ({ cls := "java/util/ArrayList", name := "get", desc := "(I)Ljava/lang/Object;" } : Jvm.MethodName)) ∈ lw_all := lw_g (lw_at lw_m3 103 rfl) rfl
theorem q683 : (Jvm.Cond.publicMethod ({ cls := "java/util/ArrayList", name := "get", desc := "(I)Ljava/lang/Object;" } : Jvm.MethodName)) ∈ lw_tbl := lw_at lw_m3 104 rfl
theorem q684 : (Jvm.Cond.code ({ cls := "java/util/ArrayList", name := "get", desc := "(I)Ljava/lang/Object;" } : Jvm.MethodName) prog_38_method_20_code (2 : Nat) (Option.some (Jvm.ClassFile.FieldType.object "java/lang/Object"))) ∈ lw_all := lw_g (lw_at lw_m3 105 rfl) rfl
theorem q685 : (Jvm.Cond.methodLink "java/util/ArrayList" (118 : Nat) ({ cls := "java/util/Objects", name := "checkIndex", desc := "(II)I" } : Jvm.MethodName)) ∈ lw_all := lw_g (lw_at lw_m3 106 rfl) rfl
theorem q691 : (Jvm.Cond.methodLink "java/util/ArrayList" (123 : Nat) ({ cls := "java/util/ArrayList", name := "elementData", desc := "(I)Ljava/lang/Object;" } : Jvm.MethodName)) ∈ lw_all := lw_g (lw_at lw_m3 112 rfl) rfl
theorem q692 : (Jvm.Cond.instanceMethod ({ cls := "java/util/ArrayList", name := "elementData", desc := "(I)Ljava/lang/Object;" } : Jvm.MethodName)) ∈ lw_all := lw_g (lw_at lw_m3 113 rfl) rfl
theorem q693 : (Jvm.Cond.selects "java/util/ArrayList" ({ cls := "java/util/ArrayList", name := "elementData", desc := "(I)Ljava/lang/Object;" } : Jvm.MethodName) ({ cls := "java/util/ArrayList", name := "elementData", desc := "(I)Ljava/lang/Object;" } : Jvm.MethodName)) ∈ lw_all := lw_g (lw_at lw_m3 114 rfl) rfl
theorem q694 : (Jvm.Cond.code ({ cls := "java/util/ArrayList", name := "elementData", desc := "(I)Ljava/lang/Object;" } : Jvm.MethodName) prog_38_method_18_code (2 : Nat) (Option.some (Jvm.ClassFile.FieldType.object "java/lang/Object"))) ∈ lw_all := lw_g (lw_at lw_m3 115 rfl) rfl
theorem q899 : (Jvm.Cond.selects "java/util/ArrayList" ({ cls := "java/util/List", name := "add", desc := "(ILjava/lang/Object;)V" } : Jvm.MethodName) ({ cls := "java/util/ArrayList", name := "add", desc := "(ILjava/lang/Object;)V" } : Jvm.MethodName)) ∈ lw_all := lw_g (lw_at lw_m4 80 rfl) rfl
theorem q900 : (Jvm.Cond.unhidden "java/util/ArrayList" "add" "(ILjava/lang/Object;)V") ∈ lw_tbl := lw_at lw_m4 81 rfl
theorem q901 : (Jvm.Cond.instanceMethod ({ cls := "java/util/ArrayList", name := "add", desc := "(ILjava/lang/Object;)V" } : Jvm.MethodName)) ∈ lw_all := lw_g (lw_at lw_m4 82 rfl) rfl
theorem q902 : (Jvm.Cond.publicMethod ({ cls := "java/util/ArrayList", name := "add", desc := "(ILjava/lang/Object;)V" } : Jvm.MethodName)) ∈ lw_tbl := lw_at lw_m4 83 rfl
theorem q903 : (Jvm.Cond.code ({ cls := "java/util/ArrayList", name := "add", desc := "(ILjava/lang/Object;)V" } : Jvm.MethodName) prog_38_method_26_code (5 : Nat) (Option.none : Option Jvm.ClassFile.FieldType)) ∈ lw_all := lw_g (lw_at lw_m4 84 rfl) rfl
theorem q904 : (Jvm.Cond.methodLink "java/util/ArrayList" (135 : Nat) ({ cls := "java/util/ArrayList", name := "rangeCheckForAdd", desc := "(I)V" } : Jvm.MethodName)) ∈ lw_all := lw_g (lw_at lw_m4 85 rfl) rfl
theorem q905 : (Jvm.Cond.privateMethod ({ cls := "java/util/ArrayList", name := "rangeCheckForAdd", desc := "(I)V" } : Jvm.MethodName)) ∈ lw_tbl := lw_at lw_m4 86 rfl
theorem q906 : (Jvm.Cond.instanceMethod ({ cls := "java/util/ArrayList", name := "rangeCheckForAdd", desc := "(I)V" } : Jvm.MethodName)) ∈ lw_all := lw_g (lw_at lw_m4 87 rfl) rfl
theorem q907 : (Jvm.Cond.code ({ cls := "java/util/ArrayList", name := "rangeCheckForAdd", desc := "(I)V" } : Jvm.MethodName) prog_38_method_45_code (2 : Nat) (Option.none : Option Jvm.ClassFile.FieldType)) ∈ lw_all := lw_g (lw_at lw_m4 88 rfl) rfl
theorem q908 : (Jvm.Cond.classLink "java/util/ArrayList" (187 : Nat) "java/lang/IndexOutOfBoundsException") ∈ lw_all := lw_g (lw_at lw_m4 89 rfl) rfl
theorem q909 : (Jvm.Cond.methodLink "java/util/ArrayList" (198 : Nat) ({ cls := "java/util/ArrayList", name := "outOfBoundsMsg", desc := "(I)Ljava/lang/String;" } : Jvm.MethodName)) ∈ lw_all := lw_g (lw_at lw_m4 90 rfl) rfl
theorem q910 : (Jvm.Cond.privateMethod ({ cls := "java/util/ArrayList", name := "outOfBoundsMsg", desc := "(I)Ljava/lang/String;" } : Jvm.MethodName)) ∈ lw_tbl := lw_at lw_m4 91 rfl
theorem q911 : (Jvm.Cond.instanceMethod ({ cls := "java/util/ArrayList", name := "outOfBoundsMsg", desc := "(I)Ljava/lang/String;" } : Jvm.MethodName)) ∈ lw_all := lw_g (lw_at lw_m4 92 rfl) rfl
theorem q912 : (Jvm.Cond.code ({ cls := "java/util/ArrayList", name := "outOfBoundsMsg", desc := "(I)Ljava/lang/String;" } : Jvm.MethodName) prog_38_method_46_code (2 : Nat) (Option.some (Jvm.ClassFile.FieldType.object "java/lang/String"))) ∈ lw_all := lw_g (lw_at lw_m4 93 rfl) rfl
theorem q913 : (Jvm.Cond.classLink "java/util/ArrayList" (20 : Nat) "java/lang/StringBuilder") ∈ lw_all := lw_g (lw_at lw_m4 94 rfl) rfl
theorem q914 : (Jvm.Cond.methodLink "java/util/ArrayList" (22 : Nat) ({ cls := "java/lang/StringBuilder", name := "<init>", desc := "()V" } : Jvm.MethodName)) ∈ lw_all := lw_g (lw_at lw_m4 95 rfl) rfl
theorem q915 : (Jvm.Cond.stringRef "java/util/ArrayList" (201 : Nat) "Index: ") ∈ lw_tbl := lw_at lw_m4 96 rfl
theorem q916 : (Jvm.Cond.methodLink "java/util/ArrayList" (25 : Nat) ({ cls := "java/lang/StringBuilder", name := "append", desc := "(Ljava/lang/String;)Ljava/lang/StringBuilder;" } : Jvm.MethodName)) ∈ lw_all := lw_g (lw_at lw_m4 97 rfl) rfl
theorem q917 : (Jvm.Cond.methodLink "java/util/ArrayList" (29 : Nat) ({ cls := "java/lang/StringBuilder", name := "append", desc := "(I)Ljava/lang/StringBuilder;" } : Jvm.MethodName)) ∈ lw_all := lw_g (lw_at lw_m4 98 rfl) rfl
theorem q918 : (Jvm.Cond.stringRef "java/util/ArrayList" (203 : Nat) ", Size: ") ∈ lw_tbl := lw_at lw_m4 99 rfl
theorem q919 : (Jvm.Cond.methodLink "java/util/ArrayList" (32 : Nat) ({ cls := "java/lang/StringBuilder", name := "toString", desc := "()Ljava/lang/String;" } : Jvm.MethodName)) ∈ lw_all := lw_g (lw_at lw_m4 100 rfl) rfl
theorem q920 : (Jvm.Cond.methodLink "java/util/ArrayList" (193 : Nat) ({ cls := "java/lang/IndexOutOfBoundsException", name := "<init>", desc := "(Ljava/lang/String;)V" } : Jvm.MethodName)) ∈ lw_all := lw_g (lw_at lw_m4 101 rfl) rfl
theorem q921 : (Jvm.Cond.methodLink "java/util/ArrayList" (112 : Nat) ({ cls := "java/lang/System", name := "arraycopy", desc := "(Ljava/lang/Object;ILjava/lang/Object;II)V" } : Jvm.MethodName)) ∈ lw_all := lw_g (lw_at lw_m4 102 rfl) rfl
theorem q971 : (Jvm.Cond.selects "java/util/ArrayList" ({ cls := "java/util/List", name := "set", desc := "(ILjava/lang/Object;)Ljava/lang/Object;" } : Jvm.MethodName) ({ cls := "java/util/ArrayList", name := "set", desc := "(ILjava/lang/Object;)Ljava/lang/Object;" } : Jvm.MethodName)) ∈ lw_all := lw_g (lw_at lw_m4 152 rfl) rfl
theorem q972 : (Jvm.Cond.unhidden "java/util/ArrayList" "set" "(ILjava/lang/Object;)Ljava/lang/Object;") ∈ lw_tbl := lw_at lw_m4 153 rfl
theorem q973 : (Jvm.Cond.instanceMethod ({ cls := "java/util/ArrayList", name := "set", desc := "(ILjava/lang/Object;)Ljava/lang/Object;" } : Jvm.MethodName)) ∈ lw_all := lw_g (lw_at lw_m4 154 rfl) rfl
theorem q974 : (Jvm.Cond.publicMethod ({ cls := "java/util/ArrayList", name := "set", desc := "(ILjava/lang/Object;)Ljava/lang/Object;" } : Jvm.MethodName)) ∈ lw_tbl := lw_at lw_m4 155 rfl
theorem q975 : (Jvm.Cond.code ({ cls := "java/util/ArrayList", name := "set", desc := "(ILjava/lang/Object;)Ljava/lang/Object;" } : Jvm.MethodName) prog_38_method_23_code (4 : Nat) (Option.some (Jvm.ClassFile.FieldType.object "java/lang/Object"))) ∈ lw_all := lw_g (lw_at lw_m4 156 rfl) rfl
theorem q983 : (Jvm.Cond.selects "java/util/ArrayList" ({ cls := "java/util/List", name := "iterator", desc := "()Ljava/util/Iterator;" } : Jvm.MethodName) ({ cls := "java/util/ArrayList", name := "iterator", desc := "()Ljava/util/Iterator;" } : Jvm.MethodName)) ∈ lw_all := lw_g (lw_at lw_m4 164 rfl) rfl
theorem q984 : (Jvm.Cond.unhidden "java/util/ArrayList" "iterator" "()Ljava/util/Iterator;") ∈ lw_tbl := lw_at lw_m4 165 rfl
theorem q985 : (Jvm.Cond.instanceMethod ({ cls := "java/util/ArrayList", name := "iterator", desc := "()Ljava/util/Iterator;" } : Jvm.MethodName)) ∈ lw_all := lw_g (lw_at lw_m4 166 rfl) rfl
theorem q986 : (Jvm.Cond.publicMethod ({ cls := "java/util/ArrayList", name := "iterator", desc := "()Ljava/util/Iterator;" } : Jvm.MethodName)) ∈ lw_tbl := lw_at lw_m4 167 rfl
theorem q987 : (Jvm.Cond.code ({ cls := "java/util/ArrayList", name := "iterator", desc := "()Ljava/util/Iterator;" } : Jvm.MethodName) prog_38_method_55_code (1 : Nat) (Option.some (Jvm.ClassFile.FieldType.object "java/util/Iterator"))) ∈ lw_all := lw_g (lw_at lw_m4 168 rfl) rfl
theorem q988 : (Jvm.Cond.classLink "java/util/ArrayList" (267 : Nat) "java/util/ArrayList$Itr") ∈ lw_all := lw_g (lw_at lw_m4 169 rfl) rfl
theorem q990 : (Jvm.Cond.methodLink "java/util/ArrayList" (269 : Nat) ({ cls := "java/util/ArrayList$Itr", name := "<init>", desc := "(Ljava/util/ArrayList;)V" } : Jvm.MethodName)) ∈ lw_all := lw_g (lw_at lw_m4 171 rfl) rfl
theorem q1581 : (Jvm.Cond.selects "java/util/ArrayList" ({ cls := "java/util/List", name := "isEmpty", desc := "()Z" } : Jvm.MethodName) ({ cls := "java/util/ArrayList", name := "isEmpty", desc := "()Z" } : Jvm.MethodName)) ∈ lw_all := lw_g (lw_at lw_m7 42 rfl) rfl
theorem q1582 : (Jvm.Cond.unhidden "java/util/ArrayList" "isEmpty" "()Z") ∈ lw_tbl := lw_at lw_m7 43 rfl
theorem q1583 : (Jvm.Cond.instanceMethod ({ cls := "java/util/ArrayList", name := "isEmpty", desc := "()Z" } : Jvm.MethodName)) ∈ lw_all := lw_g (lw_at lw_m7 44 rfl) rfl
theorem q1584 : (Jvm.Cond.publicMethod ({ cls := "java/util/ArrayList", name := "isEmpty", desc := "()Z" } : Jvm.MethodName)) ∈ lw_tbl := lw_at lw_m7 45 rfl
theorem q1585 : (Jvm.Cond.code ({ cls := "java/util/ArrayList", name := "isEmpty", desc := "()Z" } : Jvm.MethodName) prog_38_method_9_code (1 : Nat) (Option.some Jvm.ClassFile.FieldType.boolean)) ∈ lw_all := lw_g (lw_at lw_m7 46 rfl) rfl
theorem q2289 : (Jvm.Cond.castable "java/util/ArrayList" "java/lang/Object") ∈ lw_tbl := lw_at lw_m10 30 rfl
def RJ20 : String := "java/lang/ArrayIndexOutOfBoundsException"
def TJ20 : u_T := fun k => match k with
  | 0 => ("java/lang/Throwable", "backtrace", "Ljava/lang/Object;", false)
  | 1 => ("java/lang/Throwable", "detailMessage", "Ljava/lang/String;", false)
  | 2 => ("java/lang/Throwable", "cause", "Ljava/lang/Throwable;", false)
  | 3 => ("java/lang/Throwable", "stackTrace", "[Ljava/lang/StackTraceElement;", false)
  | 4 => ("java/lang/Throwable", "depth", "I", false)
  | _ => ("java/lang/Throwable", "suppressedExceptions", "Ljava/util/List;", false)
def tyJ20 : Nat → FieldType := fun k => match k with
  | 0 => .object "java/lang/Object"
  | 1 => .object "java/lang/String"
  | 2 => .object "java/lang/Throwable"
  | 3 => .array (.object "java/lang/StackTraceElement")
  | 4 => .int
  | _ => .object "java/util/List"
abbrev wsJ200 : List Cond := u_ws RJ20 TJ20 6
theorem nmJ20 : ∀ a, a < 6 → ∀ b, b < 6 → a ≠ b → (TJ20 a).2.1 ≠ (TJ20 b).2.1 := by decide +kernel
theorem tyJ20_ok : ∀ k, k < 6 → parseFieldDescriptor (TJ20 k).2.2.1 = some (tyJ20 k) := by decide +kernel
theorem in_J20 : ∀ w ∈ wsJ200, w ∈ lw_all := lw_in wsJ200 [780, 781, 782, 783, 784, 785] (by decide +kernel) (by decide +kernel)
theorem q125 : (Jvm.Cond.initialized "java/lang/ArrayIndexOutOfBoundsException") ∈ lw_all := lw_g (lw_at lw_m1 26 rfl) rfl
theorem q248 : (Jvm.Cond.selects "java/lang/ArrayIndexOutOfBoundsException" ({ cls := "java/lang/Object", name := "getClass", desc := "()Ljava/lang/Class;" } : Jvm.MethodName) ({ cls := "java/lang/Object", name := "getClass", desc := "()Ljava/lang/Class;" } : Jvm.MethodName)) ∈ lw_all := lw_g (lw_at lw_m1 149 rfl) rfl
theorem q391 : (Jvm.Cond.selects "java/lang/ArrayIndexOutOfBoundsException" ({ cls := "java/lang/Throwable", name := "fillInStackTrace", desc := "()Ljava/lang/Throwable;" } : Jvm.MethodName) ({ cls := "java/lang/Throwable", name := "fillInStackTrace", desc := "()Ljava/lang/Throwable;" } : Jvm.MethodName)) ∈ lw_all := lw_g (lw_at lw_m2 52 rfl) rfl
theorem q776 : (Jvm.Cond.instantiable "java/lang/ArrayIndexOutOfBoundsException" (6 : Nat)) ∈ lw_all := lw_g (lw_at lw_m3 197 rfl) rfl
theorem q777 : (Jvm.Cond.instanceMethod ({ cls := "java/lang/ArrayIndexOutOfBoundsException", name := "<init>", desc := "(Ljava/lang/String;)V" } : Jvm.MethodName)) ∈ lw_all := lw_g (lw_at lw_m3 198 rfl) rfl
theorem q778 : (Jvm.Cond.code ({ cls := "java/lang/ArrayIndexOutOfBoundsException", name := "<init>", desc := "(Ljava/lang/String;)V" } : Jvm.MethodName) prog_18_method_2_code (2 : Nat) (Option.none : Option Jvm.ClassFile.FieldType)) ∈ lw_all := lw_g (lw_at lw_m3 199 rfl) rfl
theorem q779 : (Jvm.Cond.methodLink "java/lang/ArrayIndexOutOfBoundsException" (7 : Nat) ({ cls := "java/lang/IndexOutOfBoundsException", name := "<init>", desc := "(Ljava/lang/String;)V" } : Jvm.MethodName)) ∈ lw_all := lw_g (lw_at lw_m3 200 rfl) rfl
theorem q780 : (Jvm.Cond.lays "java/lang/ArrayIndexOutOfBoundsException" "java/lang/Throwable" "backtrace" "Ljava/lang/Object;") ∈ lw_all := lw_g (lw_at lw_m3 201 rfl) rfl
theorem q781 : (Jvm.Cond.lays "java/lang/ArrayIndexOutOfBoundsException" "java/lang/Throwable" "detailMessage" "Ljava/lang/String;") ∈ lw_all := lw_g (lw_at lw_m3 202 rfl) rfl
theorem q782 : (Jvm.Cond.lays "java/lang/ArrayIndexOutOfBoundsException" "java/lang/Throwable" "cause" "Ljava/lang/Throwable;") ∈ lw_all := lw_g (lw_at lw_m3 203 rfl) rfl
theorem q783 : (Jvm.Cond.lays "java/lang/ArrayIndexOutOfBoundsException" "java/lang/Throwable" "stackTrace" "[Ljava/lang/StackTraceElement;") ∈ lw_all := lw_g (lw_at lw_m3 204 rfl) rfl
theorem q784 : (Jvm.Cond.lays "java/lang/ArrayIndexOutOfBoundsException" "java/lang/Throwable" "depth" "I") ∈ lw_all := lw_g (lw_at lw_m3 205 rfl) rfl
theorem q785 : (Jvm.Cond.lays "java/lang/ArrayIndexOutOfBoundsException" "java/lang/Throwable" "suppressedExceptions" "Ljava/util/List;") ∈ lw_all := lw_g (lw_at lw_m3 206 rfl) rfl
theorem q786 : (Jvm.Cond.superclass "java/lang/ArrayIndexOutOfBoundsException" "java/lang/IndexOutOfBoundsException") ∈ lw_all := lw_g (lw_at lw_m3 207 rfl) rfl
theorem q787 : (Jvm.Cond.castable "java/lang/ArrayIndexOutOfBoundsException" "java/lang/ArrayIndexOutOfBoundsException") ∈ lw_tbl := lw_at lw_m3 208 rfl
theorem q790 : (Jvm.Cond.selects "java/lang/ArrayIndexOutOfBoundsException" ({ cls := "java/lang/Throwable", name := "fillInStackTrace", desc := "(I)Ljava/lang/Throwable;" } : Jvm.MethodName) ({ cls := "java/lang/Throwable", name := "fillInStackTrace", desc := "(I)Ljava/lang/Throwable;" } : Jvm.MethodName)) ∈ lw_all := lw_g (lw_at lw_m3 211 rfl) rfl
theorem q2283 : (Jvm.Cond.castable "java/lang/ArrayIndexOutOfBoundsException" "java/lang/IndexOutOfBoundsException") ∈ lw_tbl := lw_at lw_m10 24 rfl
theorem q2297 : (Jvm.Cond.castable "java/lang/ArrayIndexOutOfBoundsException" "java/lang/Object") ∈ lw_tbl := lw_at lw_m10 38 rfl
def RJ21 : String := "java/util/Objects"
theorem q127 : (Jvm.Cond.initialized "java/util/Objects") ∈ lw_all := lw_g (lw_at lw_m1 28 rfl) rfl
theorem q686 : (Jvm.Cond.static ({ cls := "java/util/Objects", name := "checkIndex", desc := "(II)I" } : Jvm.MethodName)) ∈ lw_all := lw_g (lw_at lw_m3 107 rfl) rfl
theorem q687 : (Jvm.Cond.code ({ cls := "java/util/Objects", name := "checkIndex", desc := "(II)I" } : Jvm.MethodName) prog_44_method_17_code (2 : Nat) (Option.some Jvm.ClassFile.FieldType.int)) ∈ lw_all := lw_g (lw_at lw_m3 108 rfl) rfl
theorem q688 : (Jvm.Cond.methodLink "java/util/Objects" (105 : Nat) ({ cls := "jdk/internal/util/Preconditions", name := "checkIndex", desc := "(IILjava/util/function/BiFunction;)I" } : Jvm.MethodName)) ∈ lw_all := lw_g (lw_at lw_m3 109 rfl) rfl
theorem q130 : (Jvm.Cond.initialized "java/util/ArrayList$Itr") ∈ lw_all := lw_g (lw_at lw_m1 31 rfl) rfl
theorem q162 : (Jvm.Cond.fieldLink "java/util/ArrayList$Itr" (37 : Nat) "java/util/ArrayList" "elementData" "[Ljava/lang/Object;") ∈ lw_all := lw_g (lw_at lw_m1 63 rfl) rfl
theorem q163 : (Jvm.Cond.fieldLinkNest "java/util/ArrayList$Itr" (28 : Nat) "java/util/ArrayList" "size" "I" "java/util/ArrayList") ∈ lw_tbl := lw_at lw_m1 64 rfl
theorem q166 : (Jvm.Cond.fieldLink "java/util/ArrayList$Itr" (17 : Nat) "java/util/ArrayList" "modCount" "I") ∈ lw_all := lw_g (lw_at lw_m1 67 rfl) rfl
theorem q256 : (Jvm.Cond.selects "java/util/ArrayList$Itr" ({ cls := "java/lang/Object", name := "getClass", desc := "()Ljava/lang/Class;" } : Jvm.MethodName) ({ cls := "java/lang/Object", name := "getClass", desc := "()Ljava/lang/Class;" } : Jvm.MethodName)) ∈ lw_all := lw_g (lw_at lw_m1 157 rfl) rfl
theorem q989 : (Jvm.Cond.instantiable "java/util/ArrayList$Itr" (4 : Nat)) ∈ lw_all := lw_g (lw_at lw_m4 170 rfl) rfl
theorem q991 : (Jvm.Cond.instanceMethod ({ cls := "java/util/ArrayList$Itr", name := "<init>", desc := "(Ljava/util/ArrayList;)V" } : Jvm.MethodName)) ∈ lw_all := lw_g (lw_at lw_m4 172 rfl) rfl
theorem q992 : (Jvm.Cond.code ({ cls := "java/util/ArrayList$Itr", name := "<init>", desc := "(Ljava/util/ArrayList;)V" } : Jvm.MethodName) prog_39_method_1_code (2 : Nat) (Option.none : Option Jvm.ClassFile.FieldType)) ∈ lw_all := lw_g (lw_at lw_m4 173 rfl) rfl
theorem q993 : (Jvm.Cond.methodLink "java/util/ArrayList$Itr" (7 : Nat) ({ cls := "java/lang/Object", name := "<init>", desc := "()V" } : Jvm.MethodName)) ∈ lw_all := lw_g (lw_at lw_m4 174 rfl) rfl
theorem q994 : (Jvm.Cond.fieldLink "java/util/ArrayList$Itr" (25 : Nat) "java/util/ArrayList$Itr" "cursor" "I") ∈ lw_all := lw_g (lw_at lw_m4 175 rfl) rfl
theorem q995 : (Jvm.Cond.fieldLink "java/util/ArrayList$Itr" (13 : Nat) "java/util/ArrayList$Itr" "lastRet" "I") ∈ lw_all := lw_g (lw_at lw_m4 176 rfl) rfl
theorem q996 : (Jvm.Cond.fieldLink "java/util/ArrayList$Itr" (22 : Nat) "java/util/ArrayList$Itr" "expectedModCount" "I") ∈ lw_all := lw_g (lw_at lw_m4 177 rfl) rfl
theorem q997 : (Jvm.Cond.fieldLink "java/util/ArrayList$Itr" (1 : Nat) "java/util/ArrayList$Itr" "this$0" "Ljava/util/ArrayList;") ∈ lw_all := lw_g (lw_at lw_m4 178 rfl) rfl
theorem q998 : (Jvm.Cond.lays "java/util/ArrayList$Itr" "java/util/ArrayList$Itr" "cursor" "I") ∈ lw_all := lw_g (lw_at lw_m4 179 rfl) rfl
theorem q999 : (Jvm.Cond.soleField "java/util/ArrayList$Itr" "cursor") ∈ lw_all := lw_g (lw_at lw_m4 180 rfl) rfl
theorem q1000 : (Jvm.Cond.lays "java/util/ArrayList$Itr" "java/util/ArrayList$Itr" "lastRet" "I") ∈ lw_all := lw_g (lw_at lw_m4 181 rfl) rfl
theorem q1001 : (Jvm.Cond.soleField "java/util/ArrayList$Itr" "lastRet") ∈ lw_all := lw_g (lw_at lw_m4 182 rfl) rfl
theorem q1002 : (Jvm.Cond.lays "java/util/ArrayList$Itr" "java/util/ArrayList$Itr" "expectedModCount" "I") ∈ lw_all := lw_g (lw_at lw_m4 183 rfl) rfl
theorem q1003 : (Jvm.Cond.soleField "java/util/ArrayList$Itr" "expectedModCount") ∈ lw_all := lw_g (lw_at lw_m4 184 rfl) rfl
theorem q1004 : (Jvm.Cond.laysFinal "java/util/ArrayList$Itr" "java/util/ArrayList$Itr" "this$0" "Ljava/util/ArrayList;") ∈ lw_all := lw_g (lw_at lw_m4 185 rfl) rfl
theorem q1005 : (Jvm.Cond.soleField "java/util/ArrayList$Itr" "this$0") ∈ lw_all := lw_g (lw_at lw_m4 186 rfl) rfl
theorem q1006 : (Jvm.Cond.superclass "java/util/ArrayList$Itr" "java/lang/Object") ∈ lw_all := lw_g (lw_at lw_m4 187 rfl) rfl
theorem q1011 : (Jvm.Cond.castable "java/util/ArrayList$Itr" "java/util/Iterator") ∈ lw_tbl := lw_at lw_m4 192 rfl
theorem q1012 : (Jvm.Cond.selects "java/util/ArrayList$Itr" ({ cls := "java/util/Iterator", name := "hasNext", desc := "()Z" } : Jvm.MethodName) ({ cls := "java/util/ArrayList$Itr", name := "hasNext", desc := "()Z" } : Jvm.MethodName)) ∈ lw_all := lw_g (lw_at lw_m4 193 rfl) rfl
theorem q1013 : (Jvm.Cond.unhidden "java/util/ArrayList$Itr" "hasNext" "()Z") ∈ lw_tbl := lw_at lw_m4 194 rfl
theorem q1014 : (Jvm.Cond.instanceMethod ({ cls := "java/util/ArrayList$Itr", name := "hasNext", desc := "()Z" } : Jvm.MethodName)) ∈ lw_all := lw_g (lw_at lw_m4 195 rfl) rfl
theorem q1015 : (Jvm.Cond.publicMethod ({ cls := "java/util/ArrayList$Itr", name := "hasNext", desc := "()Z" } : Jvm.MethodName)) ∈ lw_tbl := lw_at lw_m4 196 rfl
theorem q1016 : (Jvm.Cond.code ({ cls := "java/util/ArrayList$Itr", name := "hasNext", desc := "()Z" } : Jvm.MethodName) prog_39_method_2_code (1 : Nat) (Option.some Jvm.ClassFile.FieldType.boolean)) ∈ lw_all := lw_g (lw_at lw_m4 197 rfl) rfl
theorem q1021 : (Jvm.Cond.selects "java/util/ArrayList$Itr" ({ cls := "java/util/Iterator", name := "next", desc := "()Ljava/lang/Object;" } : Jvm.MethodName) ({ cls := "java/util/ArrayList$Itr", name := "next", desc := "()Ljava/lang/Object;" } : Jvm.MethodName)) ∈ lw_all := lw_g (lw_at lw_m4 202 rfl) rfl
theorem q1022 : (Jvm.Cond.unhidden "java/util/ArrayList$Itr" "next" "()Ljava/lang/Object;") ∈ lw_tbl := lw_at lw_m4 203 rfl
theorem q1023 : (Jvm.Cond.instanceMethod ({ cls := "java/util/ArrayList$Itr", name := "next", desc := "()Ljava/lang/Object;" } : Jvm.MethodName)) ∈ lw_all := lw_g (lw_at lw_m4 204 rfl) rfl
theorem q1024 : (Jvm.Cond.publicMethod ({ cls := "java/util/ArrayList$Itr", name := "next", desc := "()Ljava/lang/Object;" } : Jvm.MethodName)) ∈ lw_tbl := lw_at lw_m4 205 rfl
theorem q1025 : (Jvm.Cond.code ({ cls := "java/util/ArrayList$Itr", name := "next", desc := "()Ljava/lang/Object;" } : Jvm.MethodName) prog_39_method_3_code (3 : Nat) (Option.some (Jvm.ClassFile.FieldType.object "java/lang/Object"))) ∈ lw_all := lw_g (lw_at lw_m4 206 rfl) rfl
theorem q1026 : (Jvm.Cond.methodLink "java/util/ArrayList$Itr" (31 : Nat) ({ cls := "java/util/ArrayList$Itr", name := "checkForComodification", desc := "()V" } : Jvm.MethodName)) ∈ lw_all := lw_g (lw_at lw_m4 207 rfl) rfl
theorem q1027 : (Jvm.Cond.instanceMethod ({ cls := "java/util/ArrayList$Itr", name := "checkForComodification", desc := "()V" } : Jvm.MethodName)) ∈ lw_all := lw_g (lw_at lw_m4 208 rfl) rfl
theorem q1028 : (Jvm.Cond.selects "java/util/ArrayList$Itr" ({ cls := "java/util/ArrayList$Itr", name := "checkForComodification", desc := "()V" } : Jvm.MethodName) ({ cls := "java/util/ArrayList$Itr", name := "checkForComodification", desc := "()V" } : Jvm.MethodName)) ∈ lw_all := lw_g (lw_at lw_m4 209 rfl) rfl
theorem q1029 : (Jvm.Cond.code ({ cls := "java/util/ArrayList$Itr", name := "checkForComodification", desc := "()V" } : Jvm.MethodName) prog_39_method_6_code (1 : Nat) (Option.none : Option Jvm.ClassFile.FieldType)) ∈ lw_all := lw_g (lw_at lw_m4 210 rfl) rfl
theorem q2301 : (Jvm.Cond.castable "java/util/ArrayList$Itr" "java/lang/Object") ∈ lw_tbl := lw_at lw_m10 42 rfl
def RJ23 : String := "java/lang/Object"
theorem q145 : (Jvm.Cond.instanceMethod ({ cls := "java/lang/Object", name := "<init>", desc := "()V" } : Jvm.MethodName)) ∈ lw_all := lw_g (lw_at lw_m1 46 rfl) rfl
theorem q146 : (Jvm.Cond.code ({ cls := "java/lang/Object", name := "<init>", desc := "()V" } : Jvm.MethodName) object_method_1_code (1 : Nat) (Option.none : Option Jvm.ClassFile.FieldType)) ∈ lw_all := lw_g (lw_at lw_m1 47 rfl) rfl
theorem q232 : (Jvm.Cond.instanceMethod ({ cls := "java/lang/Object", name := "getClass", desc := "()Ljava/lang/Class;" } : Jvm.MethodName)) ∈ lw_all := lw_g (lw_at lw_m1 133 rfl) rfl
theorem q233 : (Jvm.Cond.sameMethod "java/lang/Object" "java/lang/Object" "getClass" "()Ljava/lang/Class;") ∈ lw_all := lw_g (lw_at lw_m1 134 rfl) rfl
theorem q257 : (Jvm.Cond.native ({ cls := "java/lang/Object", name := "getClass", desc := "()Ljava/lang/Class;" } : Jvm.MethodName)) ∈ lw_all := lw_g (lw_at lw_m1 158 rfl) rfl
theorem q459 : (Jvm.Cond.native ({ cls := "java/lang/Object", name := "clone", desc := "()Ljava/lang/Object;" } : Jvm.MethodName)) ∈ lw_all := lw_g (lw_at lw_m2 120 rfl) rfl
theorem q460 : (Jvm.Cond.instanceMethod ({ cls := "java/lang/Object", name := "clone", desc := "()Ljava/lang/Object;" } : Jvm.MethodName)) ∈ lw_all := lw_g (lw_at lw_m2 121 rfl) rfl
theorem q2282 : (Jvm.Cond.initialized "java/lang/Object") ∈ lw_all := lw_g (lw_at lw_m10 23 rfl) rfl
theorem q2310 : (Jvm.Cond.declares ({ cls := "java/lang/Object", name := "getClass", desc := "()Ljava/lang/Class;" } : Jvm.MethodName)) ∈ lw_tbl := lw_at lw_m10 51 rfl
def RJ3 : String := "jdk/internal/util/ArraysSupport"
theorem q105 : (Jvm.Cond.initialized "jdk/internal/util/ArraysSupport") ∈ lw_all := lw_g (lw_at lw_m1 6 rfl) rfl
theorem q219 : (Jvm.Cond.static ({ cls := "jdk/internal/util/ArraysSupport", name := "newLength", desc := "(III)I" } : Jvm.MethodName)) ∈ lw_all := lw_g (lw_at lw_m1 120 rfl) rfl
theorem q220 : (Jvm.Cond.code ({ cls := "jdk/internal/util/ArraysSupport", name := "newLength", desc := "(III)I" } : Jvm.MethodName) prog_47_method_27_code (4 : Nat) (Option.some Jvm.ClassFile.FieldType.int)) ∈ lw_all := lw_g (lw_at lw_m1 121 rfl) rfl
theorem q221 : (Jvm.Cond.methodLink "jdk/internal/util/ArraysSupport" (194 : Nat) ({ cls := "java/lang/Math", name := "max", desc := "(II)I" } : Jvm.MethodName)) ∈ lw_all := lw_g (lw_at lw_m1 122 rfl) rfl
theorem q224 : (Jvm.Cond.constant "jdk/internal/util/ArraysSupport" (200 : Nat) (2147483639 : Int32)) ∈ lw_all := lw_g (lw_at lw_m1 125 rfl) rfl
theorem q225 : (Jvm.Cond.methodLink "jdk/internal/util/ArraysSupport" (201 : Nat) ({ cls := "jdk/internal/util/ArraysSupport", name := "hugeLength", desc := "(II)I" } : Jvm.MethodName)) ∈ lw_all := lw_g (lw_at lw_m1 126 rfl) rfl
theorem q226 : (Jvm.Cond.static ({ cls := "jdk/internal/util/ArraysSupport", name := "hugeLength", desc := "(II)I" } : Jvm.MethodName)) ∈ lw_all := lw_g (lw_at lw_m1 127 rfl) rfl
theorem q227 : (Jvm.Cond.code ({ cls := "jdk/internal/util/ArraysSupport", name := "hugeLength", desc := "(II)I" } : Jvm.MethodName) prog_47_method_28_code (3 : Nat) (Option.some Jvm.ClassFile.FieldType.int)) ∈ lw_all := lw_g (lw_at lw_m1 128 rfl) rfl
def RJ4 : String := "java/lang/Math"
theorem q106 : (Jvm.Cond.initialized "java/lang/Math") ∈ lw_all := lw_g (lw_at lw_m1 7 rfl) rfl
theorem q222 : (Jvm.Cond.static ({ cls := "java/lang/Math", name := "max", desc := "(II)I" } : Jvm.MethodName)) ∈ lw_all := lw_g (lw_at lw_m1 123 rfl) rfl
theorem q223 : (Jvm.Cond.code ({ cls := "java/lang/Math", name := "max", desc := "(II)I" } : Jvm.MethodName) prog_27_method_65_code (2 : Nat) (Option.some Jvm.ClassFile.FieldType.int)) ∈ lw_all := lw_g (lw_at lw_m1 124 rfl) rfl
theorem q265 : (Jvm.Cond.static ({ cls := "java/lang/Math", name := "min", desc := "(II)I" } : Jvm.MethodName)) ∈ lw_all := lw_g (lw_at lw_m1 166 rfl) rfl
theorem q266 : (Jvm.Cond.code ({ cls := "java/lang/Math", name := "min", desc := "(II)I" } : Jvm.MethodName) prog_27_method_69_code (2 : Nat) (Option.some Jvm.ClassFile.FieldType.int)) ∈ lw_all := lw_g (lw_at lw_m1 167 rfl) rfl
theorem q1454 : (Jvm.Cond.static ({ cls := "java/lang/Math", name := "floorMod", desc := "(II)I" } : Jvm.MethodName)) ∈ lw_all := lw_g (lw_at lw_m6 155 rfl) rfl
theorem q1455 : (Jvm.Cond.code ({ cls := "java/lang/Math", name := "floorMod", desc := "(II)I" } : Jvm.MethodName) prog_27_method_50_code (3 : Nat) (Option.some Jvm.ClassFile.FieldType.int)) ∈ lw_all := lw_g (lw_at lw_m6 156 rfl) rfl
def RJ5 : String := "java/util/Arrays"
theorem q107 : (Jvm.Cond.initialized "java/util/Arrays") ∈ lw_all := lw_g (lw_at lw_m1 8 rfl) rfl
theorem q229 : (Jvm.Cond.static ({ cls := "java/util/Arrays", name := "copyOf", desc := "([Ljava/lang/Object;I)[Ljava/lang/Object;" } : Jvm.MethodName)) ∈ lw_all := lw_g (lw_at lw_m1 130 rfl) rfl
theorem q230 : (Jvm.Cond.code ({ cls := "java/util/Arrays", name := "copyOf", desc := "([Ljava/lang/Object;I)[Ljava/lang/Object;" } : Jvm.MethodName) prog_40_method_119_code (2 : Nat) (Option.some (Jvm.ClassFile.FieldType.array (Jvm.ClassFile.FieldType.object "java/lang/Object")))) ∈ lw_all := lw_g (lw_at lw_m1 131 rfl) rfl
theorem q231 : (Jvm.Cond.methodLink "java/util/Arrays" (86 : Nat) ({ cls := "java/lang/Object", name := "getClass", desc := "()Ljava/lang/Class;" } : Jvm.MethodName)) ∈ lw_all := lw_g (lw_at lw_m1 132 rfl) rfl
theorem q258 : (Jvm.Cond.methodLink "java/util/Arrays" (300 : Nat) ({ cls := "java/util/Arrays", name := "copyOf", desc := "([Ljava/lang/Object;ILjava/lang/Class;)[Ljava/lang/Object;" } : Jvm.MethodName)) ∈ lw_all := lw_g (lw_at lw_m1 159 rfl) rfl
theorem q259 : (Jvm.Cond.static ({ cls := "java/util/Arrays", name := "copyOf", desc := "([Ljava/lang/Object;ILjava/lang/Class;)[Ljava/lang/Object;" } : Jvm.MethodName)) ∈ lw_all := lw_g (lw_at lw_m1 160 rfl) rfl
theorem q260 : (Jvm.Cond.code ({ cls := "java/util/Arrays", name := "copyOf", desc := "([Ljava/lang/Object;ILjava/lang/Class;)[Ljava/lang/Object;" } : Jvm.MethodName) prog_40_method_120_code (4 : Nat) (Option.some (Jvm.ClassFile.FieldType.array (Jvm.ClassFile.FieldType.object "java/lang/Object")))) ∈ lw_all := lw_g (lw_at lw_m1 161 rfl) rfl
theorem q261 : (Jvm.Cond.classLink "java/util/Arrays" (110 : Nat) "[Ljava/lang/Object;") ∈ lw_all := lw_g (lw_at lw_m1 162 rfl) rfl
theorem q263 : (Jvm.Cond.classLink "java/util/Arrays" (2 : Nat) "java/lang/Object") ∈ lw_all := lw_g (lw_at lw_m1 164 rfl) rfl
theorem q264 : (Jvm.Cond.methodLink "java/util/Arrays" (304 : Nat) ({ cls := "java/lang/Math", name := "min", desc := "(II)I" } : Jvm.MethodName)) ∈ lw_all := lw_g (lw_at lw_m1 165 rfl) rfl
theorem q267 : (Jvm.Cond.methodLink "java/util/Arrays" (150 : Nat) ({ cls := "java/lang/System", name := "arraycopy", desc := "(Ljava/lang/Object;ILjava/lang/Object;II)V" } : Jvm.MethodName)) ∈ lw_all := lw_g (lw_at lw_m1 168 rfl) rfl
theorem q455 : (Jvm.Cond.static ({ cls := "java/util/Arrays", name := "copyOf", desc := "([BI)[B" } : Jvm.MethodName)) ∈ lw_all := lw_g (lw_at lw_m2 116 rfl) rfl
theorem q456 : (Jvm.Cond.code ({ cls := "java/util/Arrays", name := "copyOf", desc := "([BI)[B" } : Jvm.MethodName) prog_40_method_121_code (3 : Nat) (Option.some (Jvm.ClassFile.FieldType.array Jvm.ClassFile.FieldType.byte))) ∈ lw_all := lw_g (lw_at lw_m2 117 rfl) rfl
theorem q457 : (Jvm.Cond.methodLink "java/util/Arrays" (310 : Nat) ({ cls := "[B", name := "clone", desc := "()Ljava/lang/Object;" } : Jvm.MethodName)) ∈ lw_all := lw_g (lw_at lw_m2 118 rfl) rfl
theorem q463 : (Jvm.Cond.classLink "java/util/Arrays" (311 : Nat) "[B") ∈ lw_all := lw_g (lw_at lw_m2 124 rfl) rfl
theorem q592 : (Jvm.Cond.static ({ cls := "java/util/Arrays", name := "copyOfRange", desc := "([BII)[B" } : Jvm.MethodName)) ∈ lw_all := lw_g (lw_at lw_m3 13 rfl) rfl
theorem q593 : (Jvm.Cond.code ({ cls := "java/util/Arrays", name := "copyOfRange", desc := "([BII)[B" } : Jvm.MethodName) prog_40_method_132_code (3 : Nat) (Option.some (Jvm.ClassFile.FieldType.array Jvm.ClassFile.FieldType.byte))) ∈ lw_all := lw_g (lw_at lw_m3 14 rfl) rfl
theorem q594 : (Jvm.Cond.methodLink "java/util/Arrays" (339 : Nat) ({ cls := "java/util/Arrays", name := "copyOfRangeByte", desc := "([BII)[B" } : Jvm.MethodName)) ∈ lw_all := lw_g (lw_at lw_m3 15 rfl) rfl
theorem q595 : (Jvm.Cond.static ({ cls := "java/util/Arrays", name := "copyOfRangeByte", desc := "([BII)[B" } : Jvm.MethodName)) ∈ lw_all := lw_g (lw_at lw_m3 16 rfl) rfl
theorem q596 : (Jvm.Cond.code ({ cls := "java/util/Arrays", name := "copyOfRangeByte", desc := "([BII)[B" } : Jvm.MethodName) prog_40_method_133_code (5 : Nat) (Option.some (Jvm.ClassFile.FieldType.array Jvm.ClassFile.FieldType.byte))) ∈ lw_all := lw_g (lw_at lw_m3 17 rfl) rfl
theorem q597 : (Jvm.Cond.methodLink "java/util/Arrays" (343 : Nat) ({ cls := "java/util/Arrays", name := "checkLength", desc := "(II)V" } : Jvm.MethodName)) ∈ lw_all := lw_g (lw_at lw_m3 18 rfl) rfl
theorem q598 : (Jvm.Cond.static ({ cls := "java/util/Arrays", name := "checkLength", desc := "(II)V" } : Jvm.MethodName)) ∈ lw_all := lw_g (lw_at lw_m3 19 rfl) rfl
theorem q599 : (Jvm.Cond.code ({ cls := "java/util/Arrays", name := "checkLength", desc := "(II)V" } : Jvm.MethodName) prog_40_method_131_code (2 : Nat) (Option.none : Option Jvm.ClassFile.FieldType)) ∈ lw_all := lw_g (lw_at lw_m3 20 rfl) rfl
theorem q600 : (Jvm.Cond.classLink "java/util/Arrays" (43 : Nat) "java/lang/IllegalArgumentException") ∈ lw_all := lw_g (lw_at lw_m3 21 rfl) rfl
theorem q609 : (Jvm.Cond.classLink "java/util/Arrays" (45 : Nat) "java/lang/StringBuilder") ∈ lw_all := lw_g (lw_at lw_m3 30 rfl) rfl
theorem q610 : (Jvm.Cond.methodLink "java/util/Arrays" (47 : Nat) ({ cls := "java/lang/StringBuilder", name := "<init>", desc := "()V" } : Jvm.MethodName)) ∈ lw_all := lw_g (lw_at lw_m3 31 rfl) rfl
theorem q611 : (Jvm.Cond.methodLink "java/util/Arrays" (54 : Nat) ({ cls := "java/lang/StringBuilder", name := "append", desc := "(I)Ljava/lang/StringBuilder;" } : Jvm.MethodName)) ∈ lw_all := lw_g (lw_at lw_m3 32 rfl) rfl
theorem q612 : (Jvm.Cond.stringRef "java/util/Arrays" (337 : Nat) " > ") ∈ lw_tbl := lw_at lw_m3 33 rfl
theorem q613 : (Jvm.Cond.methodLink "java/util/Arrays" (50 : Nat) ({ cls := "java/lang/StringBuilder", name := "append", desc := "(Ljava/lang/String;)Ljava/lang/StringBuilder;" } : Jvm.MethodName)) ∈ lw_all := lw_g (lw_at lw_m3 34 rfl) rfl
theorem q614 : (Jvm.Cond.methodLink "java/util/Arrays" (61 : Nat) ({ cls := "java/lang/StringBuilder", name := "toString", desc := "()Ljava/lang/String;" } : Jvm.MethodName)) ∈ lw_all := lw_g (lw_at lw_m3 35 rfl) rfl
theorem q615 : (Jvm.Cond.methodLink "java/util/Arrays" (65 : Nat) ({ cls := "java/lang/IllegalArgumentException", name := "<init>", desc := "(Ljava/lang/String;)V" } : Jvm.MethodName)) ∈ lw_all := lw_g (lw_at lw_m3 36 rfl) rfl
def RJ6 : String := "java/lang/Throwable"
def TJ6 : u_T := fun k => match k with
  | 0 => ("java/lang/Throwable", "cause", "Ljava/lang/Throwable;", false)
  | 1 => ("java/lang/Throwable", "stackTrace", "[Ljava/lang/StackTraceElement;", false)
  | 2 => ("java/lang/Throwable", "suppressedExceptions", "Ljava/util/List;", false)
  | 3 => ("java/lang/Throwable", "detailMessage", "Ljava/lang/String;", false)
  | _ => ("java/lang/Throwable", "backtrace", "Ljava/lang/Object;", false)
def tyJ6 : Nat → FieldType := fun k => match k with
  | 0 => .object "java/lang/Throwable"
  | 1 => .array (.object "java/lang/StackTraceElement")
  | 2 => .object "java/util/List"
  | 3 => .object "java/lang/String"
  | _ => .object "java/lang/Object"
abbrev wsJ60 : List Cond := u_ws RJ6 TJ6 5
theorem nmJ6 : ∀ a, a < 5 → ∀ b, b < 5 → a ≠ b → (TJ6 a).2.1 ≠ (TJ6 b).2.1 := by decide +kernel
theorem tyJ6_ok : ∀ k, k < 5 → parseFieldDescriptor (TJ6 k).2.2.1 = some (tyJ6 k) := by decide +kernel
theorem in_J6 : ∀ w ∈ wsJ60, w ∈ lw_all := lw_in wsJ60 [370, 372, 374, 376, 378] (by decide +kernel) (by decide +kernel)
theorem q110 : (Jvm.Cond.initialized "java/lang/Throwable") ∈ lw_all := lw_g (lw_at lw_m1 11 rfl) rfl
theorem q365 : (Jvm.Cond.declares ({ cls := "java/lang/Throwable", name := "<init>", desc := "()V" } : Jvm.MethodName)) ∈ lw_tbl := lw_at lw_m2 26 rfl
theorem q366 : (Jvm.Cond.declares ({ cls := "java/lang/Throwable", name := "<init>", desc := "(Ljava/lang/String;)V" } : Jvm.MethodName)) ∈ lw_tbl := lw_at lw_m2 27 rfl
theorem q370 : (Jvm.Cond.lays "java/lang/Throwable" "java/lang/Throwable" "cause" "Ljava/lang/Throwable;") ∈ lw_all := lw_g (lw_at lw_m2 31 rfl) rfl
theorem q372 : (Jvm.Cond.lays "java/lang/Throwable" "java/lang/Throwable" "stackTrace" "[Ljava/lang/StackTraceElement;") ∈ lw_all := lw_g (lw_at lw_m2 33 rfl) rfl
theorem q374 : (Jvm.Cond.lays "java/lang/Throwable" "java/lang/Throwable" "suppressedExceptions" "Ljava/util/List;") ∈ lw_all := lw_g (lw_at lw_m2 35 rfl) rfl
theorem q376 : (Jvm.Cond.lays "java/lang/Throwable" "java/lang/Throwable" "detailMessage" "Ljava/lang/String;") ∈ lw_all := lw_g (lw_at lw_m2 37 rfl) rfl
theorem q378 : (Jvm.Cond.lays "java/lang/Throwable" "java/lang/Throwable" "backtrace" "Ljava/lang/Object;") ∈ lw_all := lw_g (lw_at lw_m2 39 rfl) rfl
theorem q379 : (Jvm.Cond.fieldLink "java/lang/Throwable" (198 : Nat) "java/lang/Throwable" "backtrace" "Ljava/lang/Object;") ∈ lw_all := lw_g (lw_at lw_m2 40 rfl) rfl
theorem q380 : (Jvm.Cond.superclass "java/lang/Throwable" "java/lang/Object") ∈ lw_all := lw_g (lw_at lw_m2 41 rfl) rfl
theorem q381 : (Jvm.Cond.instanceMethod ({ cls := "java/lang/Throwable", name := "<init>", desc := "()V" } : Jvm.MethodName)) ∈ lw_all := lw_g (lw_at lw_m2 42 rfl) rfl
theorem q382 : (Jvm.Cond.code ({ cls := "java/lang/Throwable", name := "<init>", desc := "()V" } : Jvm.MethodName) prog_35_method_1_code (1 : Nat) (Option.none : Option Jvm.ClassFile.FieldType)) ∈ lw_all := lw_g (lw_at lw_m2 43 rfl) rfl
theorem q383 : (Jvm.Cond.methodLink "java/lang/Throwable" (1 : Nat) ({ cls := "java/lang/Object", name := "<init>", desc := "()V" } : Jvm.MethodName)) ∈ lw_all := lw_g (lw_at lw_m2 44 rfl) rfl
theorem q384 : (Jvm.Cond.fieldLink "java/lang/Throwable" (13 : Nat) "java/lang/Throwable" "UNASSIGNED_STACK" "[Ljava/lang/StackTraceElement;") ∈ lw_all := lw_g (lw_at lw_m2 45 rfl) rfl
theorem q385 : (Jvm.Cond.laysStatic "java/lang/Throwable" "UNASSIGNED_STACK" "[Ljava/lang/StackTraceElement;") ∈ lw_tbl := lw_at lw_m2 46 rfl
theorem q386 : (Jvm.Cond.fieldLink "java/lang/Throwable" (20 : Nat) "java/lang/Throwable" "SUPPRESSED_SENTINEL" "Ljava/util/List;") ∈ lw_all := lw_g (lw_at lw_m2 47 rfl) rfl
theorem q387 : (Jvm.Cond.laysStatic "java/lang/Throwable" "SUPPRESSED_SENTINEL" "Ljava/util/List;") ∈ lw_tbl := lw_at lw_m2 48 rfl
theorem q388 : (Jvm.Cond.methodLink "java/lang/Throwable" (27 : Nat) ({ cls := "java/lang/Throwable", name := "fillInStackTrace", desc := "()Ljava/lang/Throwable;" } : Jvm.MethodName)) ∈ lw_all := lw_g (lw_at lw_m2 49 rfl) rfl
theorem q389 : (Jvm.Cond.instanceMethod ({ cls := "java/lang/Throwable", name := "fillInStackTrace", desc := "()Ljava/lang/Throwable;" } : Jvm.MethodName)) ∈ lw_all := lw_g (lw_at lw_m2 50 rfl) rfl
theorem q390 : (Jvm.Cond.sameMethod "java/lang/Throwable" "java/lang/Throwable" "fillInStackTrace" "()Ljava/lang/Throwable;") ∈ lw_all := lw_g (lw_at lw_m2 51 rfl) rfl
theorem q394 : (Jvm.Cond.codeSync ({ cls := "java/lang/Throwable", name := "fillInStackTrace", desc := "()Ljava/lang/Throwable;" } : Jvm.MethodName) prog_35_method_18_code (1 : Nat) (Option.some (Jvm.ClassFile.FieldType.object "java/lang/Throwable"))) ∈ lw_all := lw_g (lw_at lw_m2 55 rfl) rfl
theorem q395 : (Jvm.Cond.methodLink "java/lang/Throwable" (202 : Nat) ({ cls := "java/lang/Throwable", name := "fillInStackTrace", desc := "(I)Ljava/lang/Throwable;" } : Jvm.MethodName)) ∈ lw_all := lw_g (lw_at lw_m2 56 rfl) rfl
theorem q396 : (Jvm.Cond.privateMethod ({ cls := "java/lang/Throwable", name := "fillInStackTrace", desc := "(I)Ljava/lang/Throwable;" } : Jvm.MethodName)) ∈ lw_tbl := lw_at lw_m2 57 rfl
theorem q397 : (Jvm.Cond.instanceMethod ({ cls := "java/lang/Throwable", name := "fillInStackTrace", desc := "(I)Ljava/lang/Throwable;" } : Jvm.MethodName)) ∈ lw_all := lw_g (lw_at lw_m2 58 rfl) rfl
theorem q398 : (Jvm.Cond.instantiable "java/lang/Throwable" (6 : Nat)) ∈ lw_all := lw_g (lw_at lw_m2 59 rfl) rfl
theorem q399 : (Jvm.Cond.native ({ cls := "java/lang/Throwable", name := "fillInStackTrace", desc := "(I)Ljava/lang/Throwable;" } : Jvm.MethodName)) ∈ lw_all := lw_g (lw_at lw_m2 60 rfl) rfl
theorem q625 : (Jvm.Cond.instanceMethod ({ cls := "java/lang/Throwable", name := "<init>", desc := "(Ljava/lang/String;)V" } : Jvm.MethodName)) ∈ lw_all := lw_g (lw_at lw_m3 46 rfl) rfl
theorem q626 : (Jvm.Cond.code ({ cls := "java/lang/Throwable", name := "<init>", desc := "(Ljava/lang/String;)V" } : Jvm.MethodName) prog_35_method_2_code (2 : Nat) (Option.none : Option Jvm.ClassFile.FieldType)) ∈ lw_all := lw_g (lw_at lw_m3 47 rfl) rfl
theorem q627 : (Jvm.Cond.fieldLink "java/lang/Throwable" (198 : Nat) "java/lang/Throwable" "backtrace" "Ljava/lang/Object;") ∈ lw_all := lw_g (lw_at lw_m3 48 rfl) rfl
theorem q628 : (Jvm.Cond.fieldLink "java/lang/Throwable" (31 : Nat) "java/lang/Throwable" "detailMessage" "Ljava/lang/String;") ∈ lw_all := lw_g (lw_at lw_m3 49 rfl) rfl
theorem q629 : (Jvm.Cond.fieldLink "java/lang/Throwable" (7 : Nat) "java/lang/Throwable" "cause" "Ljava/lang/Throwable;") ∈ lw_all := lw_g (lw_at lw_m3 50 rfl) rfl
theorem q630 : (Jvm.Cond.fieldLink "java/lang/Throwable" (17 : Nat) "java/lang/Throwable" "stackTrace" "[Ljava/lang/StackTraceElement;") ∈ lw_all := lw_g (lw_at lw_m3 51 rfl) rfl
theorem q631 : (Jvm.Cond.fieldLink "java/lang/Throwable" (24 : Nat) "java/lang/Throwable" "suppressedExceptions" "Ljava/util/List;") ∈ lw_all := lw_g (lw_at lw_m3 52 rfl) rfl
theorem q632 : (Jvm.Cond.soleField "java/lang/Throwable" "backtrace") ∈ lw_all := lw_g (lw_at lw_m3 53 rfl) rfl
theorem q633 : (Jvm.Cond.soleField "java/lang/Throwable" "detailMessage") ∈ lw_all := lw_g (lw_at lw_m3 54 rfl) rfl
theorem q634 : (Jvm.Cond.soleField "java/lang/Throwable" "cause") ∈ lw_all := lw_g (lw_at lw_m3 55 rfl) rfl
theorem q635 : (Jvm.Cond.soleField "java/lang/Throwable" "stackTrace") ∈ lw_all := lw_g (lw_at lw_m3 56 rfl) rfl
theorem q637 : (Jvm.Cond.soleField "java/lang/Throwable" "depth") ∈ lw_all := lw_g (lw_at lw_m3 58 rfl) rfl
theorem q638 : (Jvm.Cond.soleField "java/lang/Throwable" "suppressedExceptions") ∈ lw_all := lw_g (lw_at lw_m3 59 rfl) rfl
theorem q2273 : (Jvm.Cond.sameMethod "java/lang/Throwable" "java/lang/Throwable" "fillInStackTrace" "(I)Ljava/lang/Throwable;") ∈ lw_all := lw_g (lw_at lw_m10 14 rfl) rfl
theorem q2307 : (Jvm.Cond.castable "java/lang/Throwable" "java/lang/Object") ∈ lw_tbl := lw_at lw_m10 48 rfl
def RJ7 : String := "java/lang/Exception"
theorem q111 : (Jvm.Cond.initialized "java/lang/Exception") ∈ lw_all := lw_g (lw_at lw_m1 12 rfl) rfl
theorem q363 : (Jvm.Cond.declares ({ cls := "java/lang/Exception", name := "<init>", desc := "()V" } : Jvm.MethodName)) ∈ lw_tbl := lw_at lw_m2 24 rfl
theorem q364 : (Jvm.Cond.declares ({ cls := "java/lang/Exception", name := "<init>", desc := "(Ljava/lang/String;)V" } : Jvm.MethodName)) ∈ lw_tbl := lw_at lw_m2 25 rfl
theorem q622 : (Jvm.Cond.instanceMethod ({ cls := "java/lang/Exception", name := "<init>", desc := "(Ljava/lang/String;)V" } : Jvm.MethodName)) ∈ lw_all := lw_g (lw_at lw_m3 43 rfl) rfl
theorem q623 : (Jvm.Cond.code ({ cls := "java/lang/Exception", name := "<init>", desc := "(Ljava/lang/String;)V" } : Jvm.MethodName) prog_20_method_2_code (2 : Nat) (Option.none : Option Jvm.ClassFile.FieldType)) ∈ lw_all := lw_g (lw_at lw_m3 44 rfl) rfl
theorem q624 : (Jvm.Cond.methodLink "java/lang/Exception" (7 : Nat) ({ cls := "java/lang/Throwable", name := "<init>", desc := "(Ljava/lang/String;)V" } : Jvm.MethodName)) ∈ lw_all := lw_g (lw_at lw_m3 45 rfl) rfl
def RJ8 : String := "java/lang/RuntimeException"
theorem q112 : (Jvm.Cond.initialized "java/lang/RuntimeException") ∈ lw_all := lw_g (lw_at lw_m1 13 rfl) rfl
theorem q361 : (Jvm.Cond.declares ({ cls := "java/lang/RuntimeException", name := "<init>", desc := "()V" } : Jvm.MethodName)) ∈ lw_tbl := lw_at lw_m2 22 rfl
theorem q362 : (Jvm.Cond.declares ({ cls := "java/lang/RuntimeException", name := "<init>", desc := "(Ljava/lang/String;)V" } : Jvm.MethodName)) ∈ lw_tbl := lw_at lw_m2 23 rfl
theorem q619 : (Jvm.Cond.instanceMethod ({ cls := "java/lang/RuntimeException", name := "<init>", desc := "(Ljava/lang/String;)V" } : Jvm.MethodName)) ∈ lw_all := lw_g (lw_at lw_m3 40 rfl) rfl
theorem q620 : (Jvm.Cond.code ({ cls := "java/lang/RuntimeException", name := "<init>", desc := "(Ljava/lang/String;)V" } : Jvm.MethodName) prog_29_method_2_code (2 : Nat) (Option.none : Option Jvm.ClassFile.FieldType)) ∈ lw_all := lw_g (lw_at lw_m3 41 rfl) rfl
theorem q621 : (Jvm.Cond.methodLink "java/lang/RuntimeException" (7 : Nat) ({ cls := "java/lang/Exception", name := "<init>", desc := "(Ljava/lang/String;)V" } : Jvm.MethodName)) ∈ lw_all := lw_g (lw_at lw_m3 42 rfl) rfl
theorem q113 : (Jvm.Cond.initialized "java/lang/IllegalArgumentException") ∈ lw_all := lw_g (lw_at lw_m1 14 rfl) rfl
theorem q249 : (Jvm.Cond.selects "java/lang/IllegalArgumentException" ({ cls := "java/lang/Object", name := "getClass", desc := "()Ljava/lang/Class;" } : Jvm.MethodName) ({ cls := "java/lang/Object", name := "getClass", desc := "()Ljava/lang/Class;" } : Jvm.MethodName)) ∈ lw_all := lw_g (lw_at lw_m1 150 rfl) rfl
theorem q392 : (Jvm.Cond.selects "java/lang/IllegalArgumentException" ({ cls := "java/lang/Throwable", name := "fillInStackTrace", desc := "()Ljava/lang/Throwable;" } : Jvm.MethodName) ({ cls := "java/lang/Throwable", name := "fillInStackTrace", desc := "()Ljava/lang/Throwable;" } : Jvm.MethodName)) ∈ lw_all := lw_g (lw_at lw_m2 53 rfl) rfl
theorem q601 : (Jvm.Cond.instantiable "java/lang/IllegalArgumentException" (6 : Nat)) ∈ lw_all := lw_g (lw_at lw_m3 22 rfl) rfl
theorem q602 : (Jvm.Cond.castable "java/lang/IllegalArgumentException" "java/lang/IllegalArgumentException") ∈ lw_tbl := lw_at lw_m3 23 rfl
theorem q603 : (Jvm.Cond.selects "java/lang/IllegalArgumentException" ({ cls := "java/lang/Throwable", name := "fillInStackTrace", desc := "(I)Ljava/lang/Throwable;" } : Jvm.MethodName) ({ cls := "java/lang/Throwable", name := "fillInStackTrace", desc := "(I)Ljava/lang/Throwable;" } : Jvm.MethodName)) ∈ lw_all := lw_g (lw_at lw_m3 24 rfl) rfl
theorem q604 : (Jvm.Cond.lays "java/lang/IllegalArgumentException" "java/lang/Throwable" "cause" "Ljava/lang/Throwable;") ∈ lw_all := lw_g (lw_at lw_m3 25 rfl) rfl
theorem q605 : (Jvm.Cond.lays "java/lang/IllegalArgumentException" "java/lang/Throwable" "stackTrace" "[Ljava/lang/StackTraceElement;") ∈ lw_all := lw_g (lw_at lw_m3 26 rfl) rfl
theorem q606 : (Jvm.Cond.lays "java/lang/IllegalArgumentException" "java/lang/Throwable" "suppressedExceptions" "Ljava/util/List;") ∈ lw_all := lw_g (lw_at lw_m3 27 rfl) rfl
theorem q607 : (Jvm.Cond.lays "java/lang/IllegalArgumentException" "java/lang/Throwable" "detailMessage" "Ljava/lang/String;") ∈ lw_all := lw_g (lw_at lw_m3 28 rfl) rfl
theorem q608 : (Jvm.Cond.lays "java/lang/IllegalArgumentException" "java/lang/Throwable" "backtrace" "Ljava/lang/Object;") ∈ lw_all := lw_g (lw_at lw_m3 29 rfl) rfl
theorem q616 : (Jvm.Cond.instanceMethod ({ cls := "java/lang/IllegalArgumentException", name := "<init>", desc := "(Ljava/lang/String;)V" } : Jvm.MethodName)) ∈ lw_all := lw_g (lw_at lw_m3 37 rfl) rfl
theorem q617 : (Jvm.Cond.code ({ cls := "java/lang/IllegalArgumentException", name := "<init>", desc := "(Ljava/lang/String;)V" } : Jvm.MethodName) prog_21_method_2_code (2 : Nat) (Option.none : Option Jvm.ClassFile.FieldType)) ∈ lw_all := lw_g (lw_at lw_m3 38 rfl) rfl
theorem q618 : (Jvm.Cond.methodLink "java/lang/IllegalArgumentException" (7 : Nat) ({ cls := "java/lang/RuntimeException", name := "<init>", desc := "(Ljava/lang/String;)V" } : Jvm.MethodName)) ∈ lw_all := lw_g (lw_at lw_m3 39 rfl) rfl
theorem q636 : (Jvm.Cond.lays "java/lang/IllegalArgumentException" "java/lang/Throwable" "depth" "I") ∈ lw_all := lw_g (lw_at lw_m3 57 rfl) rfl
theorem q639 : (Jvm.Cond.superclass "java/lang/IllegalArgumentException" "java/lang/RuntimeException") ∈ lw_all := lw_g (lw_at lw_m3 60 rfl) rfl
theorem q2292 : (Jvm.Cond.castable "java/lang/IllegalArgumentException" "java/lang/Object") ∈ lw_tbl := lw_at lw_m10 33 rfl
theorem q100 : (Jvm.Cond.initialized "Weaveword") ∈ lw_all := lw_g (lw_at lw_m1 1 rfl) rfl
theorem q140 : (Jvm.Cond.instantiable "Weaveword" (10 : Nat)) ∈ lw_all := lw_g (lw_at lw_m1 41 rfl) rfl
theorem q142 : (Jvm.Cond.instanceMethod ({ cls := "Weaveword", name := "<init>", desc := "()V" } : Jvm.MethodName)) ∈ lw_all := lw_g (lw_at lw_m1 43 rfl) rfl
theorem q143 : (Jvm.Cond.code ({ cls := "Weaveword", name := "<init>", desc := "()V" } : Jvm.MethodName) prog_1_method_1_code (2 : Nat) (Option.none : Option Jvm.ClassFile.FieldType)) ∈ lw_all := lw_g (lw_at lw_m1 44 rfl) rfl
theorem q144 : (Jvm.Cond.methodLink "Weaveword" (1 : Nat) ({ cls := "java/lang/Object", name := "<init>", desc := "()V" } : Jvm.MethodName)) ∈ lw_all := lw_g (lw_at lw_m1 45 rfl) rfl
theorem q147 : (Jvm.Cond.classLink "Weaveword" (7 : Nat) "java/util/ArrayList") ∈ lw_all := lw_g (lw_at lw_m1 48 rfl) rfl
theorem q149 : (Jvm.Cond.methodLink "Weaveword" (9 : Nat) ({ cls := "java/util/ArrayList", name := "<init>", desc := "()V" } : Jvm.MethodName)) ∈ lw_all := lw_g (lw_at lw_m1 50 rfl) rfl
theorem q176 : (Jvm.Cond.classLink "Weaveword" (16 : Nat) "Weaveword$Page") ∈ lw_all := lw_g (lw_at lw_m1 77 rfl) rfl
theorem q178 : (Jvm.Cond.classLink "Weaveword" (22 : Nat) "Weaveword$Stored") ∈ lw_all := lw_g (lw_at lw_m1 79 rfl) rfl
theorem q180 : (Jvm.Cond.classLink "Weaveword" (31 : Nat) "Weaveword$Translation") ∈ lw_all := lw_g (lw_at lw_m1 81 rfl) rfl
theorem q182 : (Jvm.Cond.classLink "Weaveword" (44 : Nat) "Weaveword$Module") ∈ lw_all := lw_g (lw_at lw_m1 83 rfl) rfl
theorem q184 : (Jvm.Cond.methodLinkNest "Weaveword" (46 : Nat) ({ cls := "Weaveword$Module", name := "<init>", desc := "()V" } : Jvm.MethodName) "Weaveword") ∈ lw_tbl := lw_at lw_m1 85 rfl
theorem q191 : (Jvm.Cond.fieldLinkNest "Weaveword" (336 : Nat) "Weaveword$Module" "instructions" "Ljava/util/List;" "Weaveword") ∈ lw_tbl := lw_at lw_m1 92 rfl
theorem q196 : (Jvm.Cond.interfaceEntry "Weaveword" (47 : Nat)) ∈ lw_tbl := lw_at lw_m1 97 rfl
theorem q197 : (Jvm.Cond.methodLink "Weaveword" (47 : Nat) ({ cls := "java/util/List", name := "add", desc := "(Ljava/lang/Object;)Z" } : Jvm.MethodName)) ∈ lw_all := lw_g (lw_at lw_m1 98 rfl) rfl
theorem q234 : (Jvm.Cond.selects "Weaveword" ({ cls := "java/lang/Object", name := "getClass", desc := "()Ljava/lang/Class;" } : Jvm.MethodName) ({ cls := "java/lang/Object", name := "getClass", desc := "()Ljava/lang/Class;" } : Jvm.MethodName)) ∈ lw_all := lw_g (lw_at lw_m1 135 rfl) rfl
theorem q272 : (Jvm.Cond.fieldLink "Weaveword" (10 : Nat) "Weaveword" "draft" "Ljava/util/List;") ∈ lw_all := lw_g (lw_at lw_m1 173 rfl) rfl
theorem q273 : (Jvm.Cond.fieldLink "Weaveword" (18 : Nat) "Weaveword" "pages" "[LWeaveword$Page;") ∈ lw_all := lw_g (lw_at lw_m1 174 rfl) rfl
theorem q275 : (Jvm.Cond.fieldLink "Weaveword" (24 : Nat) "Weaveword" "stored" "[LWeaveword$Stored;") ∈ lw_all := lw_g (lw_at lw_m1 176 rfl) rfl
theorem q276 : (Jvm.Cond.fieldLink "Weaveword" (28 : Nat) "Weaveword" "modules" "Ljava/util/List;") ∈ lw_all := lw_g (lw_at lw_m1 177 rfl) rfl
theorem q278 : (Jvm.Cond.fieldLink "Weaveword" (33 : Nat) "Weaveword" "translations" "[LWeaveword$Translation;") ∈ lw_all := lw_g (lw_at lw_m1 179 rfl) rfl
theorem q279 : (Jvm.Cond.fieldLink "Weaveword" (37 : Nat) "Weaveword" "protections" "[I") ∈ lw_all := lw_g (lw_at lw_m1 180 rfl) rfl
theorem q280 : (Jvm.Cond.fieldLink "Weaveword" (41 : Nat) "Weaveword" "ranks" "[I") ∈ lw_all := lw_g (lw_at lw_m1 181 rfl) rfl
theorem q281 : (Jvm.Cond.fieldLink "Weaveword" (110 : Nat) "Weaveword" "acting" "I") ∈ lw_all := lw_g (lw_at lw_m1 182 rfl) rfl
theorem q282 : (Jvm.Cond.fieldLink "Weaveword" (204 : Nat) "Weaveword" "clock" "I") ∈ lw_all := lw_g (lw_at lw_m1 183 rfl) rfl
theorem q283 : (Jvm.Cond.fieldLink "Weaveword" (191 : Nat) "Weaveword" "made" "I") ∈ lw_all := lw_g (lw_at lw_m1 184 rfl) rfl
theorem q284 : (Jvm.Cond.laysFinal "Weaveword" "Weaveword" "draft" "Ljava/util/List;") ∈ lw_all := lw_g (lw_at lw_m1 185 rfl) rfl
theorem q285 : (Jvm.Cond.soleField "Weaveword" "draft") ∈ lw_all := lw_g (lw_at lw_m1 186 rfl) rfl
theorem q286 : (Jvm.Cond.laysFinal "Weaveword" "Weaveword" "pages" "[LWeaveword$Page;") ∈ lw_all := lw_g (lw_at lw_m1 187 rfl) rfl
theorem q287 : (Jvm.Cond.soleField "Weaveword" "pages") ∈ lw_all := lw_g (lw_at lw_m1 188 rfl) rfl
theorem q288 : (Jvm.Cond.laysFinal "Weaveword" "Weaveword" "stored" "[LWeaveword$Stored;") ∈ lw_all := lw_g (lw_at lw_m1 189 rfl) rfl
theorem q289 : (Jvm.Cond.soleField "Weaveword" "stored") ∈ lw_all := lw_g (lw_at lw_m1 190 rfl) rfl
theorem q290 : (Jvm.Cond.laysFinal "Weaveword" "Weaveword" "modules" "Ljava/util/List;") ∈ lw_all := lw_g (lw_at lw_m1 191 rfl) rfl
theorem q291 : (Jvm.Cond.soleField "Weaveword" "modules") ∈ lw_all := lw_g (lw_at lw_m1 192 rfl) rfl
theorem q292 : (Jvm.Cond.laysFinal "Weaveword" "Weaveword" "translations" "[LWeaveword$Translation;") ∈ lw_all := lw_g (lw_at lw_m1 193 rfl) rfl
theorem q293 : (Jvm.Cond.soleField "Weaveword" "translations") ∈ lw_all := lw_g (lw_at lw_m1 194 rfl) rfl
theorem q294 : (Jvm.Cond.laysFinal "Weaveword" "Weaveword" "protections" "[I") ∈ lw_all := lw_g (lw_at lw_m1 195 rfl) rfl
theorem q295 : (Jvm.Cond.soleField "Weaveword" "protections") ∈ lw_all := lw_g (lw_at lw_m1 196 rfl) rfl
theorem q296 : (Jvm.Cond.laysFinal "Weaveword" "Weaveword" "ranks" "[I") ∈ lw_all := lw_g (lw_at lw_m1 197 rfl) rfl
theorem q297 : (Jvm.Cond.soleField "Weaveword" "ranks") ∈ lw_all := lw_g (lw_at lw_m1 198 rfl) rfl
theorem q298 : (Jvm.Cond.lays "Weaveword" "Weaveword" "acting" "I") ∈ lw_all := lw_g (lw_at lw_m1 199 rfl) rfl
theorem q299 : (Jvm.Cond.soleField "Weaveword" "acting") ∈ lw_all := lw_g (lw_at lw_m1 200 rfl) rfl
theorem q300 : (Jvm.Cond.lays "Weaveword" "Weaveword" "clock" "I") ∈ lw_all := lw_g (lw_at lw_m1 201 rfl) rfl
theorem q301 : (Jvm.Cond.soleField "Weaveword" "clock") ∈ lw_all := lw_g (lw_at lw_m1 202 rfl) rfl
theorem q302 : (Jvm.Cond.lays "Weaveword" "Weaveword" "made" "I") ∈ lw_all := lw_g (lw_at lw_m1 203 rfl) rfl
theorem q303 : (Jvm.Cond.soleField "Weaveword" "made") ∈ lw_all := lw_g (lw_at lw_m1 204 rfl) rfl
theorem q304 : (Jvm.Cond.superclass "Weaveword" "java/lang/Object") ∈ lw_all := lw_g (lw_at lw_m1 205 rfl) rfl
theorem q306 : (Jvm.Cond.instanceMethod ({ cls := "Weaveword", name := "wipe", desc := "()I" } : Jvm.MethodName)) ∈ lw_all := lw_g (lw_at lw_m1 207 rfl) rfl
theorem q307 : (Jvm.Cond.selects "Weaveword" ({ cls := "Weaveword", name := "wipe", desc := "()I" } : Jvm.MethodName) ({ cls := "Weaveword", name := "wipe", desc := "()I" } : Jvm.MethodName)) ∈ lw_all := lw_g (lw_at lw_m1 208 rfl) rfl
theorem q308 : (Jvm.Cond.code ({ cls := "Weaveword", name := "wipe", desc := "()I" } : Jvm.MethodName) prog_1_method_19_code (2 : Nat) (Option.some Jvm.ClassFile.FieldType.int)) ∈ lw_all := lw_g (lw_at lw_m1 209 rfl) rfl
theorem q309 : (Jvm.Cond.interfaceEntry "Weaveword" (173 : Nat)) ∈ lw_tbl := lw_at lw_m1 210 rfl
theorem q310 : (Jvm.Cond.methodLink "Weaveword" (173 : Nat) ({ cls := "java/util/List", name := "size", desc := "()I" } : Jvm.MethodName)) ∈ lw_all := lw_g (lw_at lw_m1 211 rfl) rfl
theorem q318 : (Jvm.Cond.interfaceEntry "Weaveword" (185 : Nat)) ∈ lw_tbl := lw_at lw_m1 219 rfl
theorem q319 : (Jvm.Cond.methodLink "Weaveword" (185 : Nat) ({ cls := "java/util/List", name := "clear", desc := "()V" } : Jvm.MethodName)) ∈ lw_all := lw_g (lw_at lw_m1 220 rfl) rfl
theorem q328 : (Jvm.Cond.instanceMethod ({ cls := "Weaveword", name := "clock", desc := "()I" } : Jvm.MethodName)) ∈ lw_all := lw_g (lw_at lw_m1 229 rfl) rfl
theorem q329 : (Jvm.Cond.selects "Weaveword" ({ cls := "Weaveword", name := "clock", desc := "()I" } : Jvm.MethodName) ({ cls := "Weaveword", name := "clock", desc := "()I" } : Jvm.MethodName)) ∈ lw_all := lw_g (lw_at lw_m1 230 rfl) rfl
theorem q330 : (Jvm.Cond.code ({ cls := "Weaveword", name := "clock", desc := "()I" } : Jvm.MethodName) prog_1_method_43_code (1 : Nat) (Option.some Jvm.ClassFile.FieldType.int)) ∈ lw_all := lw_g (lw_at lw_m1 231 rfl) rfl
theorem q332 : (Jvm.Cond.instanceMethod ({ cls := "Weaveword", name := "queued", desc := "()I" } : Jvm.MethodName)) ∈ lw_all := lw_g (lw_at lw_m1 233 rfl) rfl
theorem q333 : (Jvm.Cond.selects "Weaveword" ({ cls := "Weaveword", name := "queued", desc := "()I" } : Jvm.MethodName) ({ cls := "Weaveword", name := "queued", desc := "()I" } : Jvm.MethodName)) ∈ lw_all := lw_g (lw_at lw_m1 234 rfl) rfl
theorem q334 : (Jvm.Cond.code ({ cls := "Weaveword", name := "queued", desc := "()I" } : Jvm.MethodName) prog_1_method_49_code (3 : Nat) (Option.some Jvm.ClassFile.FieldType.int)) ∈ lw_all := lw_g (lw_at lw_m1 235 rfl) rfl
theorem q335 : (Jvm.Cond.methodLink "Weaveword" (344 : Nat) ({ cls := "Weaveword", name := "isStaleAt", desc := "(I)Z" } : Jvm.MethodName)) ∈ lw_all := lw_g (lw_at lw_m1 236 rfl) rfl
theorem q336 : (Jvm.Cond.privateMethod ({ cls := "Weaveword", name := "isStaleAt", desc := "(I)Z" } : Jvm.MethodName)) ∈ lw_tbl := lw_at lw_m1 237 rfl
theorem q337 : (Jvm.Cond.instanceMethod ({ cls := "Weaveword", name := "isStaleAt", desc := "(I)Z" } : Jvm.MethodName)) ∈ lw_all := lw_g (lw_at lw_m1 238 rfl) rfl
theorem q338 : (Jvm.Cond.code ({ cls := "Weaveword", name := "isStaleAt", desc := "(I)Z" } : Jvm.MethodName) prog_1_method_17_code (2 : Nat) (Option.some Jvm.ClassFile.FieldType.boolean)) ∈ lw_all := lw_g (lw_at lw_m1 239 rfl) rfl
theorem q340 : (Jvm.Cond.instanceMethod ({ cls := "Weaveword", name := "odd", desc := "(Z)I" } : Jvm.MethodName)) ∈ lw_all := lw_g (lw_at lw_m2 1 rfl) rfl
theorem q341 : (Jvm.Cond.selects "Weaveword" ({ cls := "Weaveword", name := "odd", desc := "(Z)I" } : Jvm.MethodName) ({ cls := "Weaveword", name := "odd", desc := "(Z)I" } : Jvm.MethodName)) ∈ lw_all := lw_g (lw_at lw_m2 2 rfl) rfl
theorem q342 : (Jvm.Cond.code ({ cls := "Weaveword", name := "odd", desc := "(Z)I" } : Jvm.MethodName) prog_1_method_56_code (9 : Nat) (Option.some Jvm.ClassFile.FieldType.int)) ∈ lw_all := lw_g (lw_at lw_m2 3 rfl) rfl
theorem q343 : (Jvm.Cond.methodLink "Weaveword" (397 : Nat) ({ cls := "Weaveword", name := "linksOf", desc := "(I)I" } : Jvm.MethodName)) ∈ lw_all := lw_g (lw_at lw_m2 4 rfl) rfl
theorem q344 : (Jvm.Cond.privateMethod ({ cls := "Weaveword", name := "linksOf", desc := "(I)I" } : Jvm.MethodName)) ∈ lw_tbl := lw_at lw_m2 5 rfl
theorem q345 : (Jvm.Cond.instanceMethod ({ cls := "Weaveword", name := "linksOf", desc := "(I)I" } : Jvm.MethodName)) ∈ lw_all := lw_g (lw_at lw_m2 6 rfl) rfl
theorem q346 : (Jvm.Cond.code ({ cls := "Weaveword", name := "linksOf", desc := "(I)I" } : Jvm.MethodName) prog_1_method_53_code (2 : Nat) (Option.some Jvm.ClassFile.FieldType.int)) ∈ lw_all := lw_g (lw_at lw_m2 7 rfl) rfl
theorem q347 : (Jvm.Cond.methodLink "Weaveword" (402 : Nat) ({ cls := "Weaveword", name := "leads", desc := "(I)I" } : Jvm.MethodName)) ∈ lw_all := lw_g (lw_at lw_m2 8 rfl) rfl
theorem q348 : (Jvm.Cond.instanceMethod ({ cls := "Weaveword", name := "leads", desc := "(I)I" } : Jvm.MethodName)) ∈ lw_all := lw_g (lw_at lw_m2 9 rfl) rfl
theorem q349 : (Jvm.Cond.selects "Weaveword" ({ cls := "Weaveword", name := "leads", desc := "(I)I" } : Jvm.MethodName) ({ cls := "Weaveword", name := "leads", desc := "(I)I" } : Jvm.MethodName)) ∈ lw_all := lw_g (lw_at lw_m2 10 rfl) rfl
theorem q350 : (Jvm.Cond.code ({ cls := "Weaveword", name := "leads", desc := "(I)I" } : Jvm.MethodName) prog_1_method_47_code (5 : Nat) (Option.some Jvm.ClassFile.FieldType.int)) ∈ lw_all := lw_g (lw_at lw_m2 11 rfl) rfl
theorem q351 : (Jvm.Cond.methodLink "Weaveword" (82 : Nat) ({ cls := "Weaveword", name := "isTitle", desc := "(I)V" } : Jvm.MethodName)) ∈ lw_all := lw_g (lw_at lw_m2 12 rfl) rfl
theorem q352 : (Jvm.Cond.static ({ cls := "Weaveword", name := "isTitle", desc := "(I)V" } : Jvm.MethodName)) ∈ lw_all := lw_g (lw_at lw_m2 13 rfl) rfl
theorem q353 : (Jvm.Cond.code ({ cls := "Weaveword", name := "isTitle", desc := "(I)V" } : Jvm.MethodName) prog_1_method_3_code (1 : Nat) (Option.none : Option Jvm.ClassFile.FieldType)) ∈ lw_all := lw_g (lw_at lw_m2 14 rfl) rfl
theorem q354 : (Jvm.Cond.stringRef "Weaveword" (76 : Nat) "title") ∈ lw_tbl := lw_at lw_m2 15 rfl
theorem q355 : (Jvm.Cond.methodLink "Weaveword" (78 : Nat) ({ cls := "Weaveword", name := "place", desc := "(IILjava/lang/String;)I" } : Jvm.MethodName)) ∈ lw_all := lw_g (lw_at lw_m2 16 rfl) rfl
theorem q356 : (Jvm.Cond.static ({ cls := "Weaveword", name := "place", desc := "(IILjava/lang/String;)I" } : Jvm.MethodName)) ∈ lw_all := lw_g (lw_at lw_m2 17 rfl) rfl
theorem q357 : (Jvm.Cond.code ({ cls := "Weaveword", name := "place", desc := "(IILjava/lang/String;)I" } : Jvm.MethodName) prog_1_method_2_code (3 : Nat) (Option.some Jvm.ClassFile.FieldType.int)) ∈ lw_all := lw_g (lw_at lw_m2 18 rfl) rfl
theorem q358 : (Jvm.Cond.classLink "Weaveword" (53 : Nat) "java/lang/IndexOutOfBoundsException") ∈ lw_all := lw_g (lw_at lw_m2 19 rfl) rfl
theorem q400 : (Jvm.Cond.classLink "Weaveword" (55 : Nat) "java/lang/StringBuilder") ∈ lw_all := lw_g (lw_at lw_m2 61 rfl) rfl
theorem q402 : (Jvm.Cond.methodLink "Weaveword" (57 : Nat) ({ cls := "java/lang/StringBuilder", name := "<init>", desc := "()V" } : Jvm.MethodName)) ∈ lw_all := lw_g (lw_at lw_m2 63 rfl) rfl
theorem q432 : (Jvm.Cond.stringRef "Weaveword" (58 : Nat) "no ") ∈ lw_tbl := lw_at lw_m2 93 rfl
theorem q433 : (Jvm.Cond.methodLink "Weaveword" (60 : Nat) ({ cls := "java/lang/StringBuilder", name := "append", desc := "(Ljava/lang/String;)Ljava/lang/StringBuilder;" } : Jvm.MethodName)) ∈ lw_all := lw_g (lw_at lw_m2 94 rfl) rfl
theorem q538 : (Jvm.Cond.stringRef "Weaveword" (64 : Nat) " ") ∈ lw_tbl := lw_at lw_m2 199 rfl
theorem q539 : (Jvm.Cond.methodLink "Weaveword" (66 : Nat) ({ cls := "java/lang/StringBuilder", name := "append", desc := "(I)Ljava/lang/StringBuilder;" } : Jvm.MethodName)) ∈ lw_all := lw_g (lw_at lw_m2 200 rfl) rfl
theorem q564 : (Jvm.Cond.methodLink "Weaveword" (69 : Nat) ({ cls := "java/lang/StringBuilder", name := "toString", desc := "()Ljava/lang/String;" } : Jvm.MethodName)) ∈ lw_all := lw_g (lw_at lw_m2 225 rfl) rfl
theorem q664 : (Jvm.Cond.methodLink "Weaveword" (73 : Nat) ({ cls := "java/lang/IndexOutOfBoundsException", name := "<init>", desc := "(Ljava/lang/String;)V" } : Jvm.MethodName)) ∈ lw_all := lw_g (lw_at lw_m3 85 rfl) rfl
theorem q670 : (Jvm.Cond.methodLink "Weaveword" (153 : Nat) ({ cls := "Weaveword$Page", name := "present", desc := "()LWeaveword$Version;" } : Jvm.MethodName)) ∈ lw_all := lw_g (lw_at lw_m3 91 rfl) rfl
theorem q696 : (Jvm.Cond.methodLink "Weaveword" (375 : Nat) ({ cls := "Weaveword$Text", name := "isRedirect", desc := "()Z" } : Jvm.MethodName)) ∈ lw_all := lw_g (lw_at lw_m3 117 rfl) rfl
theorem q704 : (Jvm.Cond.methodLink "Weaveword" (378 : Nat) ({ cls := "Weaveword$Text", name := "value", desc := "(I)I" } : Jvm.MethodName)) ∈ lw_all := lw_g (lw_at lw_m3 125 rfl) rfl
theorem q714 : (Jvm.Cond.instanceMethod ({ cls := "Weaveword", name := "token", desc := "(II)I" } : Jvm.MethodName)) ∈ lw_all := lw_g (lw_at lw_m3 135 rfl) rfl
theorem q715 : (Jvm.Cond.selects "Weaveword" ({ cls := "Weaveword", name := "token", desc := "(II)I" } : Jvm.MethodName) ({ cls := "Weaveword", name := "token", desc := "(II)I" } : Jvm.MethodName)) ∈ lw_all := lw_g (lw_at lw_m3 136 rfl) rfl
theorem q716 : (Jvm.Cond.code ({ cls := "Weaveword", name := "token", desc := "(II)I" } : Jvm.MethodName) prog_1_method_18_code (3 : Nat) (Option.some Jvm.ClassFile.FieldType.int)) ∈ lw_all := lw_g (lw_at lw_m3 137 rfl) rfl
theorem q717 : (Jvm.Cond.methodLink "Weaveword" (166 : Nat) ({ cls := "Weaveword", name := "isWithin", desc := "(III)V" } : Jvm.MethodName)) ∈ lw_all := lw_g (lw_at lw_m3 138 rfl) rfl
theorem q718 : (Jvm.Cond.static ({ cls := "Weaveword", name := "isWithin", desc := "(III)V" } : Jvm.MethodName)) ∈ lw_all := lw_g (lw_at lw_m3 139 rfl) rfl
theorem q719 : (Jvm.Cond.code ({ cls := "Weaveword", name := "isWithin", desc := "(III)V" } : Jvm.MethodName) prog_1_method_7_code (3 : Nat) (Option.none : Option Jvm.ClassFile.FieldType)) ∈ lw_all := lw_g (lw_at lw_m3 140 rfl) rfl
theorem q720 : (Jvm.Cond.classLink "Weaveword" (100 : Nat) "java/lang/IllegalArgumentException") ∈ lw_all := lw_g (lw_at lw_m3 141 rfl) rfl
theorem q721 : (Jvm.Cond.stringRef "Weaveword" (102 : Nat) " is not from ") ∈ lw_tbl := lw_at lw_m3 142 rfl
theorem q722 : (Jvm.Cond.stringRef "Weaveword" (104 : Nat) " to ") ∈ lw_tbl := lw_at lw_m3 143 rfl
theorem q723 : (Jvm.Cond.methodLink "Weaveword" (106 : Nat) ({ cls := "java/lang/IllegalArgumentException", name := "<init>", desc := "(Ljava/lang/String;)V" } : Jvm.MethodName)) ∈ lw_all := lw_g (lw_at lw_m3 144 rfl) rfl
theorem q724 : (Jvm.Cond.fieldLink "Weaveword" (170 : Nat) "Weaveword" "VALUES" "[I") ∈ lw_all := lw_g (lw_at lw_m3 145 rfl) rfl
theorem q725 : (Jvm.Cond.laysStatic "Weaveword" "VALUES" "[I") ∈ lw_tbl := lw_at lw_m3 146 rfl
theorem q726 : (Jvm.Cond.stringRef "Weaveword" (177 : Nat) "the draft has too many tokens") ∈ lw_tbl := lw_at lw_m3 147 rfl
theorem q727 : (Jvm.Cond.methodLink "Weaveword" (116 : Nat) ({ cls := "Weaveword", name := "must", desc := "(ZLjava/lang/String;)V" } : Jvm.MethodName)) ∈ lw_all := lw_g (lw_at lw_m3 148 rfl) rfl
theorem q728 : (Jvm.Cond.static ({ cls := "Weaveword", name := "must", desc := "(ZLjava/lang/String;)V" } : Jvm.MethodName)) ∈ lw_all := lw_g (lw_at lw_m3 149 rfl) rfl
theorem q729 : (Jvm.Cond.code ({ cls := "Weaveword", name := "must", desc := "(ZLjava/lang/String;)V" } : Jvm.MethodName) prog_1_method_8_code (2 : Nat) (Option.none : Option Jvm.ClassFile.FieldType)) ∈ lw_all := lw_g (lw_at lw_m3 150 rfl) rfl
theorem q730 : (Jvm.Cond.classLink "Weaveword" (107 : Nat) "java/lang/IllegalStateException") ∈ lw_all := lw_g (lw_at lw_m3 151 rfl) rfl
theorem q739 : (Jvm.Cond.methodLink "Weaveword" (109 : Nat) ({ cls := "java/lang/IllegalStateException", name := "<init>", desc := "(Ljava/lang/String;)V" } : Jvm.MethodName)) ∈ lw_all := lw_g (lw_at lw_m3 160 rfl) rfl
theorem q745 : (Jvm.Cond.methodLink "Weaveword" (179 : Nat) ({ cls := "java/lang/Integer", name := "valueOf", desc := "(I)Ljava/lang/Integer;" } : Jvm.MethodName)) ∈ lw_all := lw_g (lw_at lw_m3 166 rfl) rfl
theorem q769 : (Jvm.Cond.instanceMethod ({ cls := "Weaveword", name := "act", desc := "(I)I" } : Jvm.MethodName)) ∈ lw_all := lw_g (lw_at lw_m3 190 rfl) rfl
theorem q770 : (Jvm.Cond.selects "Weaveword" ({ cls := "Weaveword", name := "act", desc := "(I)I" } : Jvm.MethodName) ({ cls := "Weaveword", name := "act", desc := "(I)I" } : Jvm.MethodName)) ∈ lw_all := lw_g (lw_at lw_m3 191 rfl) rfl
theorem q771 : (Jvm.Cond.code ({ cls := "Weaveword", name := "act", desc := "(I)I" } : Jvm.MethodName) prog_1_method_20_code (3 : Nat) (Option.some Jvm.ClassFile.FieldType.int)) ∈ lw_all := lw_g (lw_at lw_m3 192 rfl) rfl
theorem q792 : (Jvm.Cond.instanceMethod ({ cls := "Weaveword", name := "protect", desc := "(II)I" } : Jvm.MethodName)) ∈ lw_all := lw_g (lw_at lw_m3 213 rfl) rfl
theorem q793 : (Jvm.Cond.selects "Weaveword" ({ cls := "Weaveword", name := "protect", desc := "(II)I" } : Jvm.MethodName) ({ cls := "Weaveword", name := "protect", desc := "(II)I" } : Jvm.MethodName)) ∈ lw_all := lw_g (lw_at lw_m3 214 rfl) rfl
theorem q794 : (Jvm.Cond.code ({ cls := "Weaveword", name := "protect", desc := "(II)I" } : Jvm.MethodName) prog_1_method_21_code (4 : Nat) (Option.some Jvm.ClassFile.FieldType.int)) ∈ lw_all := lw_g (lw_at lw_m3 215 rfl) rfl
theorem q795 : (Jvm.Cond.methodLink "Weaveword" (188 : Nat) ({ cls := "Weaveword", name := "mayAct", desc := "(I)V" } : Jvm.MethodName)) ∈ lw_all := lw_g (lw_at lw_m3 216 rfl) rfl
theorem q796 : (Jvm.Cond.privateMethod ({ cls := "Weaveword", name := "mayAct", desc := "(I)V" } : Jvm.MethodName)) ∈ lw_tbl := lw_at lw_m3 217 rfl
theorem q797 : (Jvm.Cond.instanceMethod ({ cls := "Weaveword", name := "mayAct", desc := "(I)V" } : Jvm.MethodName)) ∈ lw_all := lw_g (lw_at lw_m3 218 rfl) rfl
theorem q798 : (Jvm.Cond.code ({ cls := "Weaveword", name := "mayAct", desc := "(I)V" } : Jvm.MethodName) prog_1_method_9_code (2 : Nat) (Option.none : Option Jvm.ClassFile.FieldType)) ∈ lw_all := lw_g (lw_at lw_m3 219 rfl) rfl
theorem q799 : (Jvm.Cond.stringRef "Weaveword" (114 : Nat) "the rank is too low") ∈ lw_tbl := lw_at lw_m3 220 rfl
theorem q804 : (Jvm.Cond.instanceMethod ({ cls := "Weaveword", name := "create", desc := "(I)I" } : Jvm.MethodName)) ∈ lw_all := lw_g (lw_at lw_m3 225 rfl) rfl
theorem q805 : (Jvm.Cond.selects "Weaveword" ({ cls := "Weaveword", name := "create", desc := "(I)I" } : Jvm.MethodName) ({ cls := "Weaveword", name := "create", desc := "(I)I" } : Jvm.MethodName)) ∈ lw_all := lw_g (lw_at lw_m3 226 rfl) rfl
theorem q806 : (Jvm.Cond.code ({ cls := "Weaveword", name := "create", desc := "(I)I" } : Jvm.MethodName) prog_1_method_24_code (3 : Nat) (Option.some Jvm.ClassFile.FieldType.int)) ∈ lw_all := lw_g (lw_at lw_m3 227 rfl) rfl
theorem q807 : (Jvm.Cond.methodLink "Weaveword" (211 : Nat) ({ cls := "Weaveword$Text", name := "of", desc := "(Ljava/util/List;)LWeaveword$Text;" } : Jvm.MethodName)) ∈ lw_all := lw_g (lw_at lw_m3 228 rfl) rfl
theorem q826 : (Jvm.Cond.fieldLinkNest "Weaveword" (372 : Nat) "Weaveword$Text" "tokens" "[I" "Weaveword") ∈ lw_tbl := lw_at lw_m4 7 rfl
theorem q830 : (Jvm.Cond.methodLink "Weaveword" (217 : Nat) ({ cls := "Weaveword$Text", name := "isText", desc := "()Z" } : Jvm.MethodName)) ∈ lw_all := lw_g (lw_at lw_m4 11 rfl) rfl
theorem q845 : (Jvm.Cond.stringRef "Weaveword" (221 : Nat) "no page can be made of the draft there") ∈ lw_tbl := lw_at lw_m4 26 rfl
theorem q847 : (Jvm.Cond.methodLinkNest "Weaveword" (223 : Nat) ({ cls := "Weaveword$Page", name := "<init>", desc := "()V" } : Jvm.MethodName) "Weaveword") ∈ lw_tbl := lw_at lw_m4 28 rfl
theorem q854 : (Jvm.Cond.fieldLinkNest "Weaveword" (252 : Nat) "Weaveword$Page" "versions" "Ljava/util/List;" "Weaveword") ∈ lw_tbl := lw_at lw_m4 35 rfl
theorem q856 : (Jvm.Cond.fieldLinkNest "Weaveword" (310 : Nat) "Weaveword$Page" "approvals" "Ljava/util/List;" "Weaveword") ∈ lw_tbl := lw_at lw_m4 37 rfl
theorem q862 : (Jvm.Cond.methodLink "Weaveword" (224 : Nat) ({ cls := "Weaveword", name := "makes", desc := "(ILWeaveword$Text;)I" } : Jvm.MethodName)) ∈ lw_all := lw_g (lw_at lw_m4 43 rfl) rfl
theorem q863 : (Jvm.Cond.privateMethod ({ cls := "Weaveword", name := "makes", desc := "(ILWeaveword$Text;)I" } : Jvm.MethodName)) ∈ lw_tbl := lw_at lw_m4 44 rfl
theorem q864 : (Jvm.Cond.instanceMethod ({ cls := "Weaveword", name := "makes", desc := "(ILWeaveword$Text;)I" } : Jvm.MethodName)) ∈ lw_all := lw_g (lw_at lw_m4 45 rfl) rfl
theorem q865 : (Jvm.Cond.code ({ cls := "Weaveword", name := "makes", desc := "(ILWeaveword$Text;)I" } : Jvm.MethodName) prog_1_method_23_code (3 : Nat) (Option.some Jvm.ClassFile.FieldType.int)) ∈ lw_all := lw_g (lw_at lw_m4 46 rfl) rfl
theorem q866 : (Jvm.Cond.methodLink "Weaveword" (207 : Nat) ({ cls := "Weaveword", name := "makes", desc := "(ILWeaveword$Text;I)I" } : Jvm.MethodName)) ∈ lw_all := lw_g (lw_at lw_m4 47 rfl) rfl
theorem q867 : (Jvm.Cond.privateMethod ({ cls := "Weaveword", name := "makes", desc := "(ILWeaveword$Text;I)I" } : Jvm.MethodName)) ∈ lw_tbl := lw_at lw_m4 48 rfl
theorem q868 : (Jvm.Cond.instanceMethod ({ cls := "Weaveword", name := "makes", desc := "(ILWeaveword$Text;I)I" } : Jvm.MethodName)) ∈ lw_all := lw_g (lw_at lw_m4 49 rfl) rfl
theorem q869 : (Jvm.Cond.code ({ cls := "Weaveword", name := "makes", desc := "(ILWeaveword$Text;I)I" } : Jvm.MethodName) prog_1_method_22_code (4 : Nat) (Option.some Jvm.ClassFile.FieldType.int)) ∈ lw_all := lw_g (lw_at lw_m4 50 rfl) rfl
theorem q870 : (Jvm.Cond.classLink "Weaveword" (158 : Nat) "Weaveword$Version") ∈ lw_all := lw_g (lw_at lw_m4 51 rfl) rfl
theorem q872 : (Jvm.Cond.methodLink "Weaveword" (194 : Nat) ({ cls := "Weaveword$Version", name := "<init>", desc := "(IILWeaveword$Text;)V" } : Jvm.MethodName)) ∈ lw_all := lw_g (lw_at lw_m4 53 rfl) rfl
theorem q878 : (Jvm.Cond.fieldLinkNest "Weaveword" (261 : Nat) "Weaveword$Version" "number" "I" "Weaveword") ∈ lw_tbl := lw_at lw_m4 59 rfl
theorem q883 : (Jvm.Cond.fieldLinkNest "Weaveword" (157 : Nat) "Weaveword$Version" "text" "LWeaveword$Text;" "Weaveword") ∈ lw_tbl := lw_at lw_m4 64 rfl
theorem q891 : (Jvm.Cond.methodLink "Weaveword" (197 : Nat) ({ cls := "Weaveword$Page", name := "gets", desc := "(LWeaveword$Version;)Z" } : Jvm.MethodName)) ∈ lw_all := lw_g (lw_at lw_m4 72 rfl) rfl
theorem q923 : (Jvm.Cond.methodLink "Weaveword" (201 : Nat) ({ cls := "Weaveword", name := "changed", desc := "(I)V" } : Jvm.MethodName)) ∈ lw_all := lw_g (lw_at lw_m4 104 rfl) rfl
theorem q924 : (Jvm.Cond.privateMethod ({ cls := "Weaveword", name := "changed", desc := "(I)V" } : Jvm.MethodName)) ∈ lw_tbl := lw_at lw_m4 105 rfl
theorem q925 : (Jvm.Cond.instanceMethod ({ cls := "Weaveword", name := "changed", desc := "(I)V" } : Jvm.MethodName)) ∈ lw_all := lw_g (lw_at lw_m4 106 rfl) rfl
theorem q926 : (Jvm.Cond.code ({ cls := "Weaveword", name := "changed", desc := "(I)V" } : Jvm.MethodName) prog_1_method_11_code (4 : Nat) (Option.none : Option Jvm.ClassFile.FieldType)) ∈ lw_all := lw_g (lw_at lw_m4 107 rfl) rfl
theorem q927 : (Jvm.Cond.methodLink "Weaveword" (133 : Nat) ({ cls := "Weaveword", name := "marks", desc := "(ZLWeaveword$Stored;)V" } : Jvm.MethodName)) ∈ lw_all := lw_g (lw_at lw_m4 108 rfl) rfl
theorem q928 : (Jvm.Cond.privateMethod ({ cls := "Weaveword", name := "marks", desc := "(ZLWeaveword$Stored;)V" } : Jvm.MethodName)) ∈ lw_tbl := lw_at lw_m4 109 rfl
theorem q929 : (Jvm.Cond.instanceMethod ({ cls := "Weaveword", name := "marks", desc := "(ZLWeaveword$Stored;)V" } : Jvm.MethodName)) ∈ lw_all := lw_g (lw_at lw_m4 110 rfl) rfl
theorem q930 : (Jvm.Cond.code ({ cls := "Weaveword", name := "marks", desc := "(ZLWeaveword$Stored;)V" } : Jvm.MethodName) prog_1_method_10_code (3 : Nat) (Option.none : Option Jvm.ClassFile.FieldType)) ∈ lw_all := lw_g (lw_at lw_m4 111 rfl) rfl
theorem q935 : (Jvm.Cond.instanceMethod ({ cls := "Weaveword", name := "edit", desc := "(III)I" } : Jvm.MethodName)) ∈ lw_all := lw_g (lw_at lw_m4 116 rfl) rfl
theorem q936 : (Jvm.Cond.selects "Weaveword" ({ cls := "Weaveword", name := "edit", desc := "(III)I" } : Jvm.MethodName) ({ cls := "Weaveword", name := "edit", desc := "(III)I" } : Jvm.MethodName)) ∈ lw_all := lw_g (lw_at lw_m4 117 rfl) rfl
theorem q937 : (Jvm.Cond.code ({ cls := "Weaveword", name := "edit", desc := "(III)I" } : Jvm.MethodName) prog_1_method_27_code (10 : Nat) (Option.some Jvm.ClassFile.FieldType.int)) ∈ lw_all := lw_g (lw_at lw_m4 118 rfl) rfl
theorem q938 : (Jvm.Cond.methodLink "Weaveword" (248 : Nat) ({ cls := "Weaveword", name := "at", desc := "(I)LWeaveword$Page;" } : Jvm.MethodName)) ∈ lw_all := lw_g (lw_at lw_m4 119 rfl) rfl
theorem q939 : (Jvm.Cond.privateMethod ({ cls := "Weaveword", name := "at", desc := "(I)LWeaveword$Page;" } : Jvm.MethodName)) ∈ lw_tbl := lw_at lw_m4 120 rfl
theorem q940 : (Jvm.Cond.instanceMethod ({ cls := "Weaveword", name := "at", desc := "(I)LWeaveword$Page;" } : Jvm.MethodName)) ∈ lw_all := lw_g (lw_at lw_m4 121 rfl) rfl
theorem q941 : (Jvm.Cond.code ({ cls := "Weaveword", name := "at", desc := "(I)LWeaveword$Page;" } : Jvm.MethodName) prog_1_method_4_code (2 : Nat) (Option.some (Jvm.ClassFile.FieldType.object "Weaveword$Page"))) ∈ lw_all := lw_g (lw_at lw_m4 122 rfl) rfl
theorem q942 : (Jvm.Cond.stringRef "Weaveword" (86 : Nat) "no page at ") ∈ lw_tbl := lw_at lw_m4 123 rfl
theorem q943 : (Jvm.Cond.methodLink "Weaveword" (255 : Nat) ({ cls := "Weaveword", name := "versionOf", desc := "(LWeaveword$Page;I)I" } : Jvm.MethodName)) ∈ lw_all := lw_g (lw_at lw_m4 124 rfl) rfl
theorem q944 : (Jvm.Cond.static ({ cls := "Weaveword", name := "versionOf", desc := "(LWeaveword$Page;I)I" } : Jvm.MethodName)) ∈ lw_all := lw_g (lw_at lw_m4 125 rfl) rfl
theorem q945 : (Jvm.Cond.code ({ cls := "Weaveword", name := "versionOf", desc := "(LWeaveword$Page;I)I" } : Jvm.MethodName) prog_1_method_5_code (3 : Nat) (Option.some Jvm.ClassFile.FieldType.int)) ∈ lw_all := lw_g (lw_at lw_m4 126 rfl) rfl
theorem q946 : (Jvm.Cond.methodLink "Weaveword" (88 : Nat) ({ cls := "Weaveword$Page", name := "placeOf", desc := "(I)I" } : Jvm.MethodName)) ∈ lw_all := lw_g (lw_at lw_m4 127 rfl) rfl
theorem q950 : (Jvm.Cond.stringRef "Weaveword" (92 : Nat) "no version ") ∈ lw_tbl := lw_at lw_m4 131 rfl
theorem q951 : (Jvm.Cond.stringRef "Weaveword" (94 : Nat) " of the page") ∈ lw_tbl := lw_at lw_m4 132 rfl
theorem q952 : (Jvm.Cond.interfaceEntry "Weaveword" (231 : Nat)) ∈ lw_tbl := lw_at lw_m4 133 rfl
theorem q953 : (Jvm.Cond.methodLink "Weaveword" (231 : Nat) ({ cls := "java/util/List", name := "get", desc := "(I)Ljava/lang/Object;" } : Jvm.MethodName)) ∈ lw_all := lw_g (lw_at lw_m4 134 rfl) rfl
theorem q954 : (Jvm.Cond.methodLink "Weaveword" (227 : Nat) ({ cls := "Weaveword$Text", name := "sections", desc := "()Ljava/util/List;" } : Jvm.MethodName)) ∈ lw_all := lw_g (lw_at lw_m4 135 rfl) rfl
theorem q966 : (Jvm.Cond.stringRef "Weaveword" (259 : Nat) "section") ∈ lw_tbl := lw_at lw_m4 147 rfl
theorem q967 : (Jvm.Cond.interfaceEntry "Weaveword" (239 : Nat)) ∈ lw_tbl := lw_at lw_m4 148 rfl
theorem q968 : (Jvm.Cond.methodLink "Weaveword" (239 : Nat) ({ cls := "java/util/List", name := "set", desc := "(ILjava/lang/Object;)Ljava/lang/Object;" } : Jvm.MethodName)) ∈ lw_all := lw_g (lw_at lw_m4 149 rfl) rfl
theorem q976 : (Jvm.Cond.methodLink "Weaveword" (243 : Nat) ({ cls := "Weaveword$Text", name := "joined", desc := "(Ljava/util/List;)LWeaveword$Text;" } : Jvm.MethodName)) ∈ lw_all := lw_g (lw_at lw_m4 157 rfl) rfl
theorem q1030 : (Jvm.Cond.methodLink "Weaveword" (264 : Nat) ({ cls := "Weaveword", name := "merged", desc := "(LWeaveword$Text;LWeaveword$Text;LWeaveword$Text;)LWeaveword$Text;" } : Jvm.MethodName)) ∈ lw_all := lw_g (lw_at lw_m4 211 rfl) rfl
theorem q1031 : (Jvm.Cond.static ({ cls := "Weaveword", name := "merged", desc := "(LWeaveword$Text;LWeaveword$Text;LWeaveword$Text;)LWeaveword$Text;" } : Jvm.MethodName)) ∈ lw_all := lw_g (lw_at lw_m4 212 rfl) rfl
theorem q1032 : (Jvm.Cond.code ({ cls := "Weaveword", name := "merged", desc := "(LWeaveword$Text;LWeaveword$Text;LWeaveword$Text;)LWeaveword$Text;" } : Jvm.MethodName) prog_1_method_25_code (8 : Nat) (Option.some (Jvm.ClassFile.FieldType.object "Weaveword$Text"))) ∈ lw_all := lw_g (lw_at lw_m4 213 rfl) rfl
theorem q1033 : (Jvm.Cond.classLink "Weaveword" (212 : Nat) "Weaveword$Text") ∈ lw_all := lw_g (lw_at lw_m4 214 rfl) rfl
theorem q1034 : (Jvm.Cond.methodLink "Weaveword" (235 : Nat) ({ cls := "Weaveword$Text", name := "isSame", desc := "(LWeaveword$Text;)Z" } : Jvm.MethodName)) ∈ lw_all := lw_g (lw_at lw_m4 215 rfl) rfl
theorem q1038 : (Jvm.Cond.methodLink "Weaveword" (268 : Nat) ({ cls := "Weaveword", name := "edits", desc := "(ILWeaveword$Text;)I" } : Jvm.MethodName)) ∈ lw_all := lw_g (lw_at lw_m4 219 rfl) rfl
theorem q1039 : (Jvm.Cond.privateMethod ({ cls := "Weaveword", name := "edits", desc := "(ILWeaveword$Text;)I" } : Jvm.MethodName)) ∈ lw_tbl := lw_at lw_m4 220 rfl
theorem q1040 : (Jvm.Cond.instanceMethod ({ cls := "Weaveword", name := "edits", desc := "(ILWeaveword$Text;)I" } : Jvm.MethodName)) ∈ lw_all := lw_g (lw_at lw_m4 221 rfl) rfl
theorem q1041 : (Jvm.Cond.code ({ cls := "Weaveword", name := "edits", desc := "(ILWeaveword$Text;)I" } : Jvm.MethodName) prog_1_method_26_code (3 : Nat) (Option.some Jvm.ClassFile.FieldType.int)) ∈ lw_all := lw_g (lw_at lw_m4 222 rfl) rfl
theorem q1042 : (Jvm.Cond.stringRef "Weaveword" (246 : Nat) "no such version can be made") ∈ lw_tbl := lw_at lw_m4 223 rfl
theorem q1047 : (Jvm.Cond.instanceMethod ({ cls := "Weaveword", name := "undo", desc := "(II)I" } : Jvm.MethodName)) ∈ lw_all := lw_g (lw_at lw_m4 228 rfl) rfl
theorem q1048 : (Jvm.Cond.selects "Weaveword" ({ cls := "Weaveword", name := "undo", desc := "(II)I" } : Jvm.MethodName) ({ cls := "Weaveword", name := "undo", desc := "(II)I" } : Jvm.MethodName)) ∈ lw_all := lw_g (lw_at lw_m4 229 rfl) rfl
theorem q1049 : (Jvm.Cond.code ({ cls := "Weaveword", name := "undo", desc := "(II)I" } : Jvm.MethodName) prog_1_method_28_code (11 : Nat) (Option.some Jvm.ClassFile.FieldType.int)) ∈ lw_all := lw_g (lw_at lw_m4 230 rfl) rfl
theorem q1050 : (Jvm.Cond.stringRef "Weaveword" (271 : Nat) "no version is ahead of ") ∈ lw_tbl := lw_at lw_m4 231 rfl
theorem q1051 : (Jvm.Cond.stringRef "Weaveword" (273 : Nat) "the version cannot be undone") ∈ lw_tbl := lw_at lw_m4 232 rfl
theorem q1056 : (Jvm.Cond.instanceMethod ({ cls := "Weaveword", name := "bringIn", desc := "(II)I" } : Jvm.MethodName)) ∈ lw_all := lw_g (lw_at lw_m4 237 rfl) rfl
theorem q1057 : (Jvm.Cond.selects "Weaveword" ({ cls := "Weaveword", name := "bringIn", desc := "(II)I" } : Jvm.MethodName) ({ cls := "Weaveword", name := "bringIn", desc := "(II)I" } : Jvm.MethodName)) ∈ lw_all := lw_g (lw_at lw_m4 238 rfl) rfl
theorem q1058 : (Jvm.Cond.code ({ cls := "Weaveword", name := "bringIn", desc := "(II)I" } : Jvm.MethodName) prog_1_method_29_code (4 : Nat) (Option.some Jvm.ClassFile.FieldType.int)) ∈ lw_all := lw_g (lw_at lw_m4 239 rfl) rfl
theorem q1059 : (Jvm.Cond.stringRef "Weaveword" (275 : Nat) "the draft is no text, or there are too many versions") ∈ lw_tbl := lw_at lw_m5 0 rfl
theorem q1064 : (Jvm.Cond.instanceMethod ({ cls := "Weaveword", name := "move", desc := "(II)I" } : Jvm.MethodName)) ∈ lw_all := lw_g (lw_at lw_m5 5 rfl) rfl
theorem q1065 : (Jvm.Cond.selects "Weaveword" ({ cls := "Weaveword", name := "move", desc := "(II)I" } : Jvm.MethodName) ({ cls := "Weaveword", name := "move", desc := "(II)I" } : Jvm.MethodName)) ∈ lw_all := lw_g (lw_at lw_m5 6 rfl) rfl
theorem q1066 : (Jvm.Cond.code ({ cls := "Weaveword", name := "move", desc := "(II)I" } : Jvm.MethodName) prog_1_method_31_code (3 : Nat) (Option.some Jvm.ClassFile.FieldType.int)) ∈ lw_all := lw_g (lw_at lw_m5 7 rfl) rfl
theorem q1067 : (Jvm.Cond.stringRef "Weaveword" (281 : Nat) "there is a page at the title") ∈ lw_tbl := lw_at lw_m5 8 rfl
theorem q1068 : (Jvm.Cond.stringRef "Weaveword" (283 : Nat) "there are too many versions") ∈ lw_tbl := lw_at lw_m5 9 rfl
theorem q1069 : (Jvm.Cond.methodLink "Weaveword" (285 : Nat) ({ cls := "Weaveword", name := "brings", desc := "(II)V" } : Jvm.MethodName)) ∈ lw_all := lw_g (lw_at lw_m5 10 rfl) rfl
theorem q1070 : (Jvm.Cond.privateMethod ({ cls := "Weaveword", name := "brings", desc := "(II)V" } : Jvm.MethodName)) ∈ lw_tbl := lw_at lw_m5 11 rfl
theorem q1071 : (Jvm.Cond.instanceMethod ({ cls := "Weaveword", name := "brings", desc := "(II)V" } : Jvm.MethodName)) ∈ lw_all := lw_g (lw_at lw_m5 12 rfl) rfl
theorem q1072 : (Jvm.Cond.code ({ cls := "Weaveword", name := "brings", desc := "(II)V" } : Jvm.MethodName) prog_1_method_30_code (3 : Nat) (Option.none : Option Jvm.ClassFile.FieldType)) ∈ lw_all := lw_g (lw_at lw_m5 13 rfl) rfl
theorem q1073 : (Jvm.Cond.methodLink "Weaveword" (277 : Nat) ({ cls := "Weaveword", name := "stores", desc := "(ILWeaveword$Stored;)V" } : Jvm.MethodName)) ∈ lw_all := lw_g (lw_at lw_m5 14 rfl) rfl
theorem q1074 : (Jvm.Cond.privateMethod ({ cls := "Weaveword", name := "stores", desc := "(ILWeaveword$Stored;)V" } : Jvm.MethodName)) ∈ lw_tbl := lw_at lw_m5 15 rfl
theorem q1075 : (Jvm.Cond.instanceMethod ({ cls := "Weaveword", name := "stores", desc := "(ILWeaveword$Stored;)V" } : Jvm.MethodName)) ∈ lw_all := lw_g (lw_at lw_m5 16 rfl) rfl
theorem q1076 : (Jvm.Cond.code ({ cls := "Weaveword", name := "stores", desc := "(ILWeaveword$Stored;)V" } : Jvm.MethodName) prog_1_method_15_code (4 : Nat) (Option.none : Option Jvm.ClassFile.FieldType)) ∈ lw_all := lw_g (lw_at lw_m5 17 rfl) rfl
theorem q1077 : (Jvm.Cond.methodLink "Weaveword" (146 : Nat) ({ cls := "Weaveword", name := "categoriesOf", desc := "(LWeaveword$Stored;)I" } : Jvm.MethodName)) ∈ lw_all := lw_g (lw_at lw_m5 18 rfl) rfl
theorem q1078 : (Jvm.Cond.static ({ cls := "Weaveword", name := "categoriesOf", desc := "(LWeaveword$Stored;)I" } : Jvm.MethodName)) ∈ lw_all := lw_g (lw_at lw_m5 19 rfl) rfl
theorem q1079 : (Jvm.Cond.code ({ cls := "Weaveword", name := "categoriesOf", desc := "(LWeaveword$Stored;)I" } : Jvm.MethodName) prog_1_method_14_code (1 : Nat) (Option.some Jvm.ClassFile.FieldType.int)) ∈ lw_all := lw_g (lw_at lw_m5 20 rfl) rfl
theorem q1080 : (Jvm.Cond.methodLink "Weaveword" (150 : Nat) ({ cls := "Weaveword", name := "changedCategories", desc := "(I)V" } : Jvm.MethodName)) ∈ lw_all := lw_g (lw_at lw_m5 21 rfl) rfl
theorem q1081 : (Jvm.Cond.privateMethod ({ cls := "Weaveword", name := "changedCategories", desc := "(I)V" } : Jvm.MethodName)) ∈ lw_tbl := lw_at lw_m5 22 rfl
theorem q1082 : (Jvm.Cond.instanceMethod ({ cls := "Weaveword", name := "changedCategories", desc := "(I)V" } : Jvm.MethodName)) ∈ lw_all := lw_g (lw_at lw_m5 23 rfl) rfl
theorem q1083 : (Jvm.Cond.code ({ cls := "Weaveword", name := "changedCategories", desc := "(I)V" } : Jvm.MethodName) prog_1_method_12_code (6 : Nat) (Option.none : Option Jvm.ClassFile.FieldType)) ∈ lw_all := lw_g (lw_at lw_m5 24 rfl) rfl
theorem q1084 : (Jvm.Cond.methodLink "Weaveword" (289 : Nat) ({ cls := "Weaveword$Text", name := "<init>", desc := "([I)V" } : Jvm.MethodName)) ∈ lw_all := lw_g (lw_at lw_m5 25 rfl) rfl
theorem q1089 : (Jvm.Cond.instanceMethod ({ cls := "Weaveword", name := "moveTree", desc := "(II)I" } : Jvm.MethodName)) ∈ lw_all := lw_g (lw_at lw_m5 30 rfl) rfl
theorem q1090 : (Jvm.Cond.selects "Weaveword" ({ cls := "Weaveword", name := "moveTree", desc := "(II)I" } : Jvm.MethodName) ({ cls := "Weaveword", name := "moveTree", desc := "(II)I" } : Jvm.MethodName)) ∈ lw_all := lw_g (lw_at lw_m5 31 rfl) rfl
theorem q1091 : (Jvm.Cond.code ({ cls := "Weaveword", name := "moveTree", desc := "(II)I" } : Jvm.MethodName) prog_1_method_33_code (11 : Nat) (Option.some Jvm.ClassFile.FieldType.int)) ∈ lw_all := lw_g (lw_at lw_m5 32 rfl) rfl
theorem q1092 : (Jvm.Cond.stringRef "Weaveword" (292 : Nat) "tree") ∈ lw_tbl := lw_at lw_m5 33 rfl
theorem q1093 : (Jvm.Cond.methodLink "Weaveword" (294 : Nat) ({ cls := "Weaveword", name := "pagesOf", desc := "(I)[Z" } : Jvm.MethodName)) ∈ lw_all := lw_g (lw_at lw_m5 34 rfl) rfl
theorem q1094 : (Jvm.Cond.privateMethod ({ cls := "Weaveword", name := "pagesOf", desc := "(I)[Z" } : Jvm.MethodName)) ∈ lw_tbl := lw_at lw_m5 35 rfl
theorem q1095 : (Jvm.Cond.instanceMethod ({ cls := "Weaveword", name := "pagesOf", desc := "(I)[Z" } : Jvm.MethodName)) ∈ lw_all := lw_g (lw_at lw_m5 36 rfl) rfl
theorem q1096 : (Jvm.Cond.code ({ cls := "Weaveword", name := "pagesOf", desc := "(I)[Z" } : Jvm.MethodName) prog_1_method_32_code (4 : Nat) (Option.some (Jvm.ClassFile.FieldType.array Jvm.ClassFile.FieldType.boolean))) ∈ lw_all := lw_g (lw_at lw_m5 37 rfl) rfl
theorem q1097 : (Jvm.Cond.stringRef "Weaveword" (298 : Nat) "the tree has pages") ∈ lw_tbl := lw_at lw_m5 38 rfl
theorem q1098 : (Jvm.Cond.methodLink "Weaveword" (300 : Nat) ({ cls := "Weaveword$Text", name := "leadsTo", desc := "([Z)Z" } : Jvm.MethodName)) ∈ lw_all := lw_g (lw_at lw_m5 39 rfl) rfl
theorem q1103 : (Jvm.Cond.stringRef "Weaveword" (304 : Nat) "the tree has no page, or there are too many versions") ∈ lw_tbl := lw_at lw_m5 44 rfl
theorem q1104 : (Jvm.Cond.methodLink "Weaveword" (306 : Nat) ({ cls := "Weaveword$Text", name := "moved", desc := "([ZI)LWeaveword$Text;" } : Jvm.MethodName)) ∈ lw_all := lw_g (lw_at lw_m5 45 rfl) rfl
theorem q1113 : (Jvm.Cond.instanceMethod ({ cls := "Weaveword", name := "approve", desc := "(I)I" } : Jvm.MethodName)) ∈ lw_all := lw_g (lw_at lw_m5 54 rfl) rfl
theorem q1114 : (Jvm.Cond.selects "Weaveword" ({ cls := "Weaveword", name := "approve", desc := "(I)I" } : Jvm.MethodName) ({ cls := "Weaveword", name := "approve", desc := "(I)I" } : Jvm.MethodName)) ∈ lw_all := lw_g (lw_at lw_m5 55 rfl) rfl
theorem q1115 : (Jvm.Cond.code ({ cls := "Weaveword", name := "approve", desc := "(I)I" } : Jvm.MethodName) prog_1_method_34_code (3 : Nat) (Option.some Jvm.ClassFile.FieldType.int)) ∈ lw_all := lw_g (lw_at lw_m5 56 rfl) rfl
theorem q1116 : (Jvm.Cond.classLink "Weaveword" (313 : Nat) "Weaveword$Approval") ∈ lw_all := lw_g (lw_at lw_m5 57 rfl) rfl
theorem q1118 : (Jvm.Cond.methodLink "Weaveword" (315 : Nat) ({ cls := "Weaveword$Approval", name := "<init>", desc := "(LWeaveword$Version;I)V" } : Jvm.MethodName)) ∈ lw_all := lw_g (lw_at lw_m5 59 rfl) rfl
theorem q1124 : (Jvm.Cond.fieldLinkNest "Weaveword" (389 : Nat) "Weaveword$Approval" "version" "LWeaveword$Version;" "Weaveword") ∈ lw_tbl := lw_at lw_m5 65 rfl
theorem q1127 : (Jvm.Cond.fieldLinkNest "Weaveword" (386 : Nat) "Weaveword$Approval" "time" "I" "Weaveword") ∈ lw_tbl := lw_at lw_m5 68 rfl
theorem q1137 : (Jvm.Cond.instanceMethod ({ cls := "Weaveword", name := "translate", desc := "(III)I" } : Jvm.MethodName)) ∈ lw_all := lw_g (lw_at lw_m5 78 rfl) rfl
theorem q1138 : (Jvm.Cond.selects "Weaveword" ({ cls := "Weaveword", name := "translate", desc := "(III)I" } : Jvm.MethodName) ({ cls := "Weaveword", name := "translate", desc := "(III)I" } : Jvm.MethodName)) ∈ lw_all := lw_g (lw_at lw_m5 79 rfl) rfl
theorem q1139 : (Jvm.Cond.code ({ cls := "Weaveword", name := "translate", desc := "(III)I" } : Jvm.MethodName) prog_1_method_36_code (6 : Nat) (Option.some Jvm.ClassFile.FieldType.int)) ∈ lw_all := lw_g (lw_at lw_m5 80 rfl) rfl
theorem q1140 : (Jvm.Cond.methodLink "Weaveword" (318 : Nat) ({ cls := "Weaveword", name := "isLanguage", desc := "(I)V" } : Jvm.MethodName)) ∈ lw_all := lw_g (lw_at lw_m5 81 rfl) rfl
theorem q1141 : (Jvm.Cond.static ({ cls := "Weaveword", name := "isLanguage", desc := "(I)V" } : Jvm.MethodName)) ∈ lw_all := lw_g (lw_at lw_m5 82 rfl) rfl
theorem q1142 : (Jvm.Cond.code ({ cls := "Weaveword", name := "isLanguage", desc := "(I)V" } : Jvm.MethodName) prog_1_method_35_code (1 : Nat) (Option.none : Option Jvm.ClassFile.FieldType)) ∈ lw_all := lw_g (lw_at lw_m5 83 rfl) rfl
theorem q1143 : (Jvm.Cond.stringRef "Weaveword" (321 : Nat) "a title is not its own translation") ∈ lw_tbl := lw_at lw_m5 84 rfl
theorem q1145 : (Jvm.Cond.methodLink "Weaveword" (323 : Nat) ({ cls := "Weaveword$Translation", name := "<init>", desc := "(II)V" } : Jvm.MethodName)) ∈ lw_all := lw_g (lw_at lw_m5 86 rfl) rfl
theorem q1150 : (Jvm.Cond.fieldLinkNest "Weaveword" (325 : Nat) "Weaveword$Translation" "title" "I" "Weaveword") ∈ lw_tbl := lw_at lw_m5 91 rfl
theorem q1152 : (Jvm.Cond.fieldLinkNest "Weaveword" (405 : Nat) "Weaveword$Translation" "base" "I" "Weaveword") ∈ lw_tbl := lw_at lw_m5 93 rfl
theorem q1162 : (Jvm.Cond.instanceMethod ({ cls := "Weaveword", name := "instruct", desc := "(III)I" } : Jvm.MethodName)) ∈ lw_all := lw_g (lw_at lw_m5 103 rfl) rfl
theorem q1163 : (Jvm.Cond.selects "Weaveword" ({ cls := "Weaveword", name := "instruct", desc := "(III)I" } : Jvm.MethodName) ({ cls := "Weaveword", name := "instruct", desc := "(III)I" } : Jvm.MethodName)) ∈ lw_all := lw_g (lw_at lw_m5 104 rfl) rfl
theorem q1164 : (Jvm.Cond.code ({ cls := "Weaveword", name := "instruct", desc := "(III)I" } : Jvm.MethodName) prog_1_method_38_code (5 : Nat) (Option.some Jvm.ClassFile.FieldType.int)) ∈ lw_all := lw_g (lw_at lw_m5 105 rfl) rfl
theorem q1165 : (Jvm.Cond.methodLink "Weaveword" (329 : Nat) ({ cls := "Weaveword", name := "moduleAt", desc := "(I)LWeaveword$Module;" } : Jvm.MethodName)) ∈ lw_all := lw_g (lw_at lw_m5 106 rfl) rfl
theorem q1166 : (Jvm.Cond.privateMethod ({ cls := "Weaveword", name := "moduleAt", desc := "(I)LWeaveword$Module;" } : Jvm.MethodName)) ∈ lw_tbl := lw_at lw_m5 107 rfl
theorem q1167 : (Jvm.Cond.instanceMethod ({ cls := "Weaveword", name := "moduleAt", desc := "(I)LWeaveword$Module;" } : Jvm.MethodName)) ∈ lw_all := lw_g (lw_at lw_m5 108 rfl) rfl
theorem q1168 : (Jvm.Cond.code ({ cls := "Weaveword", name := "moduleAt", desc := "(I)LWeaveword$Module;" } : Jvm.MethodName) prog_1_method_37_code (2 : Nat) (Option.some (Jvm.ClassFile.FieldType.object "Weaveword$Module"))) ∈ lw_all := lw_g (lw_at lw_m5 109 rfl) rfl
theorem q1169 : (Jvm.Cond.stringRef "Weaveword" (327 : Nat) "module") ∈ lw_tbl := lw_at lw_m5 110 rfl
theorem q1170 : (Jvm.Cond.fieldLink "Weaveword" (333 : Nat) "Weaveword" "INSTRUCTED" "[I") ∈ lw_all := lw_g (lw_at lw_m5 111 rfl) rfl
theorem q1171 : (Jvm.Cond.laysStatic "Weaveword" "INSTRUCTED" "[I") ∈ lw_tbl := lw_at lw_m5 112 rfl
theorem q1172 : (Jvm.Cond.stringRef "Weaveword" (339 : Nat) "the module has too many instructions") ∈ lw_tbl := lw_at lw_m5 113 rfl
theorem q1173 : (Jvm.Cond.methodLink "Weaveword" (341 : Nat) ({ cls := "Weaveword", name := "changedModule", desc := "(I)V" } : Jvm.MethodName)) ∈ lw_all := lw_g (lw_at lw_m5 114 rfl) rfl
theorem q1174 : (Jvm.Cond.privateMethod ({ cls := "Weaveword", name := "changedModule", desc := "(I)V" } : Jvm.MethodName)) ∈ lw_tbl := lw_at lw_m5 115 rfl
theorem q1175 : (Jvm.Cond.instanceMethod ({ cls := "Weaveword", name := "changedModule", desc := "(I)V" } : Jvm.MethodName)) ∈ lw_all := lw_g (lw_at lw_m5 116 rfl) rfl
theorem q1176 : (Jvm.Cond.code ({ cls := "Weaveword", name := "changedModule", desc := "(I)V" } : Jvm.MethodName) prog_1_method_13_code (6 : Nat) (Option.none : Option Jvm.ClassFile.FieldType)) ∈ lw_all := lw_g (lw_at lw_m5 117 rfl) rfl
theorem q1181 : (Jvm.Cond.instanceMethod ({ cls := "Weaveword", name := "empty", desc := "(I)I" } : Jvm.MethodName)) ∈ lw_all := lw_g (lw_at lw_m5 122 rfl) rfl
theorem q1182 : (Jvm.Cond.selects "Weaveword" ({ cls := "Weaveword", name := "empty", desc := "(I)I" } : Jvm.MethodName) ({ cls := "Weaveword", name := "empty", desc := "(I)I" } : Jvm.MethodName)) ∈ lw_all := lw_g (lw_at lw_m5 123 rfl) rfl
theorem q1183 : (Jvm.Cond.code ({ cls := "Weaveword", name := "empty", desc := "(I)I" } : Jvm.MethodName) prog_1_method_39_code (4 : Nat) (Option.some Jvm.ClassFile.FieldType.int)) ∈ lw_all := lw_g (lw_at lw_m5 124 rfl) rfl
theorem q1188 : (Jvm.Cond.instanceMethod ({ cls := "Weaveword", name := "rank", desc := "(II)I" } : Jvm.MethodName)) ∈ lw_all := lw_g (lw_at lw_m5 129 rfl) rfl
theorem q1189 : (Jvm.Cond.selects "Weaveword" ({ cls := "Weaveword", name := "rank", desc := "(II)I" } : Jvm.MethodName) ({ cls := "Weaveword", name := "rank", desc := "(II)I" } : Jvm.MethodName)) ∈ lw_all := lw_g (lw_at lw_m5 130 rfl) rfl
theorem q1190 : (Jvm.Cond.code ({ cls := "Weaveword", name := "rank", desc := "(II)I" } : Jvm.MethodName) prog_1_method_40_code (4 : Nat) (Option.some Jvm.ClassFile.FieldType.int)) ∈ lw_all := lw_g (lw_at lw_m5 131 rfl) rfl
theorem q1195 : (Jvm.Cond.instanceMethod ({ cls := "Weaveword", name := "work", desc := "(I)I" } : Jvm.MethodName)) ∈ lw_all := lw_g (lw_at lw_m5 136 rfl) rfl
theorem q1196 : (Jvm.Cond.selects "Weaveword" ({ cls := "Weaveword", name := "work", desc := "(I)I" } : Jvm.MethodName) ({ cls := "Weaveword", name := "work", desc := "(I)I" } : Jvm.MethodName)) ∈ lw_all := lw_g (lw_at lw_m5 137 rfl) rfl
theorem q1197 : (Jvm.Cond.code ({ cls := "Weaveword", name := "work", desc := "(I)I" } : Jvm.MethodName) prog_1_method_41_code (6 : Nat) (Option.some Jvm.ClassFile.FieldType.int)) ∈ lw_all := lw_g (lw_at lw_m5 138 rfl) rfl
theorem q1199 : (Jvm.Cond.methodLink "Weaveword" (348 : Nat) ({ cls := "Weaveword", name := "rendered", desc := "(I)LWeaveword$Rendering;" } : Jvm.MethodName)) ∈ lw_all := lw_g (lw_at lw_m5 140 rfl) rfl
theorem q1200 : (Jvm.Cond.privateMethod ({ cls := "Weaveword", name := "rendered", desc := "(I)LWeaveword$Rendering;" } : Jvm.MethodName)) ∈ lw_tbl := lw_at lw_m5 141 rfl
theorem q1201 : (Jvm.Cond.instanceMethod ({ cls := "Weaveword", name := "rendered", desc := "(I)LWeaveword$Rendering;" } : Jvm.MethodName)) ∈ lw_all := lw_g (lw_at lw_m5 142 rfl) rfl
theorem q1202 : (Jvm.Cond.code ({ cls := "Weaveword", name := "rendered", desc := "(I)LWeaveword$Rendering;" } : Jvm.MethodName) prog_1_method_16_code (2 : Nat) (Option.some (Jvm.ClassFile.FieldType.object "Weaveword$Rendering"))) ∈ lw_all := lw_g (lw_at lw_m5 143 rfl) rfl
theorem q1203 : (Jvm.Cond.classLink "Weaveword" (129 : Nat) "Weaveword$Rendering") ∈ lw_all := lw_g (lw_at lw_m5 144 rfl) rfl
theorem q1205 : (Jvm.Cond.methodLink "Weaveword" (163 : Nat) ({ cls := "Weaveword$Rendering", name := "<init>", desc := "(LWeaveword;IILWeaveword$Text;)V" } : Jvm.MethodName)) ∈ lw_all := lw_g (lw_at lw_m5 146 rfl) rfl
theorem q1217 : (Jvm.Cond.fieldLinkNest "Weaveword" (359 : Nat) "Weaveword$Row" "many" "I" "Weaveword") ∈ lw_tbl := lw_at lw_m5 158 rfl
theorem q1418 : (Jvm.Cond.instanceMethod ({ cls := "Weaveword", name := "members", desc := "(I)I" } : Jvm.MethodName)) ∈ lw_all := lw_g (lw_at lw_m6 119 rfl) rfl
theorem q1419 : (Jvm.Cond.selects "Weaveword" ({ cls := "Weaveword", name := "members", desc := "(I)I" } : Jvm.MethodName) ({ cls := "Weaveword", name := "members", desc := "(I)I" } : Jvm.MethodName)) ∈ lw_all := lw_g (lw_at lw_m6 120 rfl) rfl
theorem q1420 : (Jvm.Cond.code ({ cls := "Weaveword", name := "members", desc := "(I)I" } : Jvm.MethodName) prog_1_method_55_code (4 : Nat) (Option.some Jvm.ClassFile.FieldType.int)) ∈ lw_all := lw_g (lw_at lw_m6 121 rfl) rfl
theorem q1421 : (Jvm.Cond.stringRef "Weaveword" (400 : Nat) "category") ∈ lw_tbl := lw_at lw_m6 122 rfl
theorem q1458 : (Jvm.Cond.fieldLinkNest "Weaveword" (355 : Nat) "Weaveword$Rendering" "row" "LWeaveword$Row;" "Weaveword") ∈ lw_tbl := lw_at lw_m6 159 rfl
theorem q1461 : (Jvm.Cond.fieldLinkNest "Weaveword" (392 : Nat) "Weaveword$Rendering" "links" "I" "Weaveword") ∈ lw_tbl := lw_at lw_m6 162 rfl
theorem q1463 : (Jvm.Cond.fieldLinkNest "Weaveword" (143 : Nat) "Weaveword$Rendering" "categories" "I" "Weaveword") ∈ lw_tbl := lw_at lw_m6 164 rfl
theorem q1465 : (Jvm.Cond.fieldLinkNest "Weaveword" (128 : Nat) "Weaveword$Rendering" "titles" "I" "Weaveword") ∈ lw_tbl := lw_at lw_m6 166 rfl
theorem q1467 : (Jvm.Cond.fieldLinkNest "Weaveword" (137 : Nat) "Weaveword$Rendering" "counted" "I" "Weaveword") ∈ lw_tbl := lw_at lw_m6 168 rfl
theorem q1468 : (Jvm.Cond.fieldLinkNest "Weaveword" (140 : Nat) "Weaveword$Rendering" "used" "I" "Weaveword") ∈ lw_tbl := lw_at lw_m6 169 rfl
theorem q1493 : (Jvm.Cond.methodLink "Weaveword" (352 : Nat) ({ cls := "Weaveword$Stored", name := "<init>", desc := "(LWeaveword$Rendering;)V" } : Jvm.MethodName)) ∈ lw_all := lw_g (lw_at lw_m6 194 rfl) rfl
theorem q1498 : (Jvm.Cond.fieldLinkNest "Weaveword" (124 : Nat) "Weaveword$Stored" "rendering" "LWeaveword$Rendering;" "Weaveword") ∈ lw_tbl := lw_at lw_m6 199 rfl
theorem q1499 : (Jvm.Cond.fieldLinkNest "Weaveword" (120 : Nat) "Weaveword$Stored" "isStale" "Z" "Weaveword") ∈ lw_tbl := lw_at lw_m6 200 rfl
theorem q1509 : (Jvm.Cond.instanceMethod ({ cls := "Weaveword", name := "read", desc := "(IZ)I" } : Jvm.MethodName)) ∈ lw_all := lw_g (lw_at lw_m6 210 rfl) rfl
theorem q1510 : (Jvm.Cond.selects "Weaveword" ({ cls := "Weaveword", name := "read", desc := "(IZ)I" } : Jvm.MethodName) ({ cls := "Weaveword", name := "read", desc := "(IZ)I" } : Jvm.MethodName)) ∈ lw_all := lw_g (lw_at lw_m6 211 rfl) rfl
theorem q1511 : (Jvm.Cond.code ({ cls := "Weaveword", name := "read", desc := "(IZ)I" } : Jvm.MethodName) prog_1_method_42_code (4 : Nat) (Option.some Jvm.ClassFile.FieldType.int)) ∈ lw_all := lw_g (lw_at lw_m6 212 rfl) rfl
theorem q1516 : (Jvm.Cond.instanceMethod ({ cls := "Weaveword", name := "versions", desc := "(I)I" } : Jvm.MethodName)) ∈ lw_all := lw_g (lw_at lw_m6 217 rfl) rfl
theorem q1517 : (Jvm.Cond.selects "Weaveword" ({ cls := "Weaveword", name := "versions", desc := "(I)I" } : Jvm.MethodName) ({ cls := "Weaveword", name := "versions", desc := "(I)I" } : Jvm.MethodName)) ∈ lw_all := lw_g (lw_at lw_m6 218 rfl) rfl
theorem q1518 : (Jvm.Cond.code ({ cls := "Weaveword", name := "versions", desc := "(I)I" } : Jvm.MethodName) prog_1_method_44_code (2 : Nat) (Option.some Jvm.ClassFile.FieldType.int)) ∈ lw_all := lw_g (lw_at lw_m6 219 rfl) rfl
theorem q1523 : (Jvm.Cond.instanceMethod ({ cls := "Weaveword", name := "versionAt", desc := "(II)I" } : Jvm.MethodName)) ∈ lw_all := lw_g (lw_at lw_m6 224 rfl) rfl
theorem q1524 : (Jvm.Cond.selects "Weaveword" ({ cls := "Weaveword", name := "versionAt", desc := "(II)I" } : Jvm.MethodName) ({ cls := "Weaveword", name := "versionAt", desc := "(II)I" } : Jvm.MethodName)) ∈ lw_all := lw_g (lw_at lw_m6 225 rfl) rfl
theorem q1525 : (Jvm.Cond.code ({ cls := "Weaveword", name := "versionAt", desc := "(II)I" } : Jvm.MethodName) prog_1_method_45_code (3 : Nat) (Option.some Jvm.ClassFile.FieldType.int)) ∈ lw_all := lw_g (lw_at lw_m6 226 rfl) rfl
theorem q1526 : (Jvm.Cond.methodLink "Weaveword" (364 : Nat) ({ cls := "Weaveword", name := "versions", desc := "(I)I" } : Jvm.MethodName)) ∈ lw_all := lw_g (lw_at lw_m6 227 rfl) rfl
theorem q1527 : (Jvm.Cond.stringRef "Weaveword" (366 : Nat) "version") ∈ lw_tbl := lw_at lw_m6 228 rfl
theorem q1532 : (Jvm.Cond.instanceMethod ({ cls := "Weaveword", name := "tokenAt", desc := "(II)I" } : Jvm.MethodName)) ∈ lw_all := lw_g (lw_at lw_m6 233 rfl) rfl
theorem q1533 : (Jvm.Cond.selects "Weaveword" ({ cls := "Weaveword", name := "tokenAt", desc := "(II)I" } : Jvm.MethodName) ({ cls := "Weaveword", name := "tokenAt", desc := "(II)I" } : Jvm.MethodName)) ∈ lw_all := lw_g (lw_at lw_m6 234 rfl) rfl
theorem q1534 : (Jvm.Cond.code ({ cls := "Weaveword", name := "tokenAt", desc := "(II)I" } : Jvm.MethodName) prog_1_method_46_code (4 : Nat) (Option.some Jvm.ClassFile.FieldType.int)) ∈ lw_all := lw_g (lw_at lw_m6 235 rfl) rfl
theorem q1535 : (Jvm.Cond.methodLink "Weaveword" (368 : Nat) ({ cls := "Weaveword", name := "isIndex", desc := "(I)V" } : Jvm.MethodName)) ∈ lw_all := lw_g (lw_at lw_m6 236 rfl) rfl
theorem q1536 : (Jvm.Cond.static ({ cls := "Weaveword", name := "isIndex", desc := "(I)V" } : Jvm.MethodName)) ∈ lw_all := lw_g (lw_at lw_m6 237 rfl) rfl
theorem q1537 : (Jvm.Cond.code ({ cls := "Weaveword", name := "isIndex", desc := "(I)V" } : Jvm.MethodName) prog_1_method_6_code (1 : Nat) (Option.none : Option Jvm.ClassFile.FieldType)) ∈ lw_all := lw_g (lw_at lw_m6 238 rfl) rfl
theorem q1538 : (Jvm.Cond.stringRef "Weaveword" (96 : Nat) "the index ") ∈ lw_tbl := lw_at lw_m6 239 rfl
theorem q1539 : (Jvm.Cond.stringRef "Weaveword" (98 : Nat) " is below 0") ∈ lw_tbl := lw_at lw_m7 0 rfl
theorem q1540 : (Jvm.Cond.methodLink "Weaveword" (371 : Nat) ({ cls := "Weaveword$Text", name := "size", desc := "()I" } : Jvm.MethodName)) ∈ lw_all := lw_g (lw_at lw_m7 1 rfl) rfl
theorem q1549 : (Jvm.Cond.instanceMethod ({ cls := "Weaveword", name := "isStale", desc := "(I)Z" } : Jvm.MethodName)) ∈ lw_all := lw_g (lw_at lw_m7 10 rfl) rfl
theorem q1550 : (Jvm.Cond.selects "Weaveword" ({ cls := "Weaveword", name := "isStale", desc := "(I)Z" } : Jvm.MethodName) ({ cls := "Weaveword", name := "isStale", desc := "(I)Z" } : Jvm.MethodName)) ∈ lw_all := lw_g (lw_at lw_m7 11 rfl) rfl
theorem q1551 : (Jvm.Cond.code ({ cls := "Weaveword", name := "isStale", desc := "(I)Z" } : Jvm.MethodName) prog_1_method_48_code (2 : Nat) (Option.some Jvm.ClassFile.FieldType.boolean)) ∈ lw_all := lw_g (lw_at lw_m7 12 rfl) rfl
theorem q1556 : (Jvm.Cond.instanceMethod ({ cls := "Weaveword", name := "shown", desc := "(II)I" } : Jvm.MethodName)) ∈ lw_all := lw_g (lw_at lw_m7 17 rfl) rfl
theorem q1557 : (Jvm.Cond.selects "Weaveword" ({ cls := "Weaveword", name := "shown", desc := "(II)I" } : Jvm.MethodName) ({ cls := "Weaveword", name := "shown", desc := "(II)I" } : Jvm.MethodName)) ∈ lw_all := lw_g (lw_at lw_m7 18 rfl) rfl
theorem q1558 : (Jvm.Cond.code ({ cls := "Weaveword", name := "shown", desc := "(II)I" } : Jvm.MethodName) prog_1_method_50_code (3 : Nat) (Option.some Jvm.ClassFile.FieldType.int)) ∈ lw_all := lw_g (lw_at lw_m7 19 rfl) rfl
theorem q1559 : (Jvm.Cond.methodLink "Weaveword" (381 : Nat) ({ cls := "Weaveword$Row", name := "at", desc := "(I)I" } : Jvm.MethodName)) ∈ lw_all := lw_g (lw_at lw_m7 20 rfl) rfl
theorem q1567 : (Jvm.Cond.instanceMethod ({ cls := "Weaveword", name := "shownAnew", desc := "(II)I" } : Jvm.MethodName)) ∈ lw_all := lw_g (lw_at lw_m7 28 rfl) rfl
theorem q1568 : (Jvm.Cond.selects "Weaveword" ({ cls := "Weaveword", name := "shownAnew", desc := "(II)I" } : Jvm.MethodName) ({ cls := "Weaveword", name := "shownAnew", desc := "(II)I" } : Jvm.MethodName)) ∈ lw_all := lw_g (lw_at lw_m7 29 rfl) rfl
theorem q1569 : (Jvm.Cond.code ({ cls := "Weaveword", name := "shownAnew", desc := "(II)I" } : Jvm.MethodName) prog_1_method_51_code (3 : Nat) (Option.some Jvm.ClassFile.FieldType.int)) ∈ lw_all := lw_g (lw_at lw_m7 30 rfl) rfl
theorem q1574 : (Jvm.Cond.instanceMethod ({ cls := "Weaveword", name := "approvedAt", desc := "(II)I" } : Jvm.MethodName)) ∈ lw_all := lw_g (lw_at lw_m7 35 rfl) rfl
theorem q1575 : (Jvm.Cond.selects "Weaveword" ({ cls := "Weaveword", name := "approvedAt", desc := "(II)I" } : Jvm.MethodName) ({ cls := "Weaveword", name := "approvedAt", desc := "(II)I" } : Jvm.MethodName)) ∈ lw_all := lw_g (lw_at lw_m7 36 rfl) rfl
theorem q1576 : (Jvm.Cond.code ({ cls := "Weaveword", name := "approvedAt", desc := "(II)I" } : Jvm.MethodName) prog_1_method_52_code (5 : Nat) (Option.some Jvm.ClassFile.FieldType.int)) ∈ lw_all := lw_g (lw_at lw_m7 37 rfl) rfl
theorem q1577 : (Jvm.Cond.interfaceEntry "Weaveword" (383 : Nat)) ∈ lw_tbl := lw_at lw_m7 38 rfl
theorem q1578 : (Jvm.Cond.methodLink "Weaveword" (383 : Nat) ({ cls := "java/util/List", name := "isEmpty", desc := "()Z" } : Jvm.MethodName)) ∈ lw_all := lw_g (lw_at lw_m7 39 rfl) rfl
theorem q1590 : (Jvm.Cond.instanceMethod ({ cls := "Weaveword", name := "linked", desc := "(II)I" } : Jvm.MethodName)) ∈ lw_all := lw_g (lw_at lw_m7 51 rfl) rfl
theorem q1591 : (Jvm.Cond.selects "Weaveword" ({ cls := "Weaveword", name := "linked", desc := "(II)I" } : Jvm.MethodName) ({ cls := "Weaveword", name := "linked", desc := "(II)I" } : Jvm.MethodName)) ∈ lw_all := lw_g (lw_at lw_m7 52 rfl) rfl
theorem q1592 : (Jvm.Cond.code ({ cls := "Weaveword", name := "linked", desc := "(II)I" } : Jvm.MethodName) prog_1_method_54_code (5 : Nat) (Option.some Jvm.ClassFile.FieldType.int)) ∈ lw_all := lw_g (lw_at lw_m7 53 rfl) rfl
theorem q1593 : (Jvm.Cond.stringRef "Weaveword" (395 : Nat) "thing") ∈ lw_tbl := lw_at lw_m7 54 rfl
theorem q1602 : (Jvm.Cond.instanceMethod ({ cls := "Weaveword", name := "inLanguage", desc := "(II)I" } : Jvm.MethodName)) ∈ lw_all := lw_g (lw_at lw_m7 63 rfl) rfl
theorem q1603 : (Jvm.Cond.selects "Weaveword" ({ cls := "Weaveword", name := "inLanguage", desc := "(II)I" } : Jvm.MethodName) ({ cls := "Weaveword", name := "inLanguage", desc := "(II)I" } : Jvm.MethodName)) ∈ lw_all := lw_g (lw_at lw_m7 64 rfl) rfl
theorem q1604 : (Jvm.Cond.code ({ cls := "Weaveword", name := "inLanguage", desc := "(II)I" } : Jvm.MethodName) prog_1_method_57_code (5 : Nat) (Option.some Jvm.ClassFile.FieldType.int)) ∈ lw_all := lw_g (lw_at lw_m7 65 rfl) rfl
theorem q1609 : (Jvm.Cond.instanceMethod ({ cls := "Weaveword", name := "isOutdated", desc := "(II)Z" } : Jvm.MethodName)) ∈ lw_all := lw_g (lw_at lw_m7 70 rfl) rfl
theorem q1610 : (Jvm.Cond.selects "Weaveword" ({ cls := "Weaveword", name := "isOutdated", desc := "(II)Z" } : Jvm.MethodName) ({ cls := "Weaveword", name := "isOutdated", desc := "(II)Z" } : Jvm.MethodName)) ∈ lw_all := lw_g (lw_at lw_m7 71 rfl) rfl
theorem q1611 : (Jvm.Cond.code ({ cls := "Weaveword", name := "isOutdated", desc := "(II)Z" } : Jvm.MethodName) prog_1_method_58_code (4 : Nat) (Option.some Jvm.ClassFile.FieldType.boolean)) ∈ lw_all := lw_g (lw_at lw_m7 72 rfl) rfl
theorem q2288 : (Jvm.Cond.castable "Weaveword" "java/lang/Object") ∈ lw_tbl := lw_at lw_m10 29 rfl
theorem q134 : (Jvm.Cond.initialized "Weaveword$Rendering") ∈ lw_all := lw_g (lw_at lw_m1 35 rfl) rfl
theorem q241 : (Jvm.Cond.selects "Weaveword$Rendering" ({ cls := "java/lang/Object", name := "getClass", desc := "()Ljava/lang/Class;" } : Jvm.MethodName) ({ cls := "java/lang/Object", name := "getClass", desc := "()Ljava/lang/Class;" } : Jvm.MethodName)) ∈ lw_all := lw_g (lw_at lw_m1 142 rfl) rfl
theorem q274 : (Jvm.Cond.fieldLinkNest "Weaveword$Rendering" (44 : Nat) "Weaveword" "pages" "[LWeaveword$Page;" "Weaveword") ∈ lw_tbl := lw_at lw_m1 175 rfl
theorem q277 : (Jvm.Cond.fieldLinkNest "Weaveword$Rendering" (222 : Nat) "Weaveword" "modules" "Ljava/util/List;" "Weaveword") ∈ lw_tbl := lw_at lw_m1 178 rfl
theorem q882 : (Jvm.Cond.fieldLinkNest "Weaveword$Rendering" (58 : Nat) "Weaveword$Version" "text" "LWeaveword$Text;" "Weaveword") ∈ lw_tbl := lw_at lw_m4 63 rfl
theorem q1204 : (Jvm.Cond.instantiable "Weaveword$Rendering" (10 : Nat)) ∈ lw_all := lw_g (lw_at lw_m5 145 rfl) rfl
theorem q1206 : (Jvm.Cond.instanceMethod ({ cls := "Weaveword$Rendering", name := "<init>", desc := "(LWeaveword;IILWeaveword$Text;)V" } : Jvm.MethodName)) ∈ lw_all := lw_g (lw_at lw_m5 147 rfl) rfl
theorem q1207 : (Jvm.Cond.code ({ cls := "Weaveword$Rendering", name := "<init>", desc := "(LWeaveword;IILWeaveword$Text;)V" } : Jvm.MethodName) prog_8_method_1_code (6 : Nat) (Option.none : Option Jvm.ClassFile.FieldType)) ∈ lw_all := lw_g (lw_at lw_m5 148 rfl) rfl
theorem q1208 : (Jvm.Cond.methodLink "Weaveword$Rendering" (9 : Nat) ({ cls := "java/lang/Object", name := "<init>", desc := "()V" } : Jvm.MethodName)) ∈ lw_all := lw_g (lw_at lw_m5 149 rfl) rfl
theorem q1209 : (Jvm.Cond.classLink "Weaveword$Rendering" (15 : Nat) "Weaveword$Row") ∈ lw_all := lw_g (lw_at lw_m5 150 rfl) rfl
theorem q1211 : (Jvm.Cond.methodLinkNest "Weaveword$Rendering" (17 : Nat) ({ cls := "Weaveword$Row", name := "<init>", desc := "()V" } : Jvm.MethodName) "Weaveword") ∈ lw_tbl := lw_at lw_m5 152 rfl
theorem q1223 : (Jvm.Cond.classLink "Weaveword$Rendering" (29 : Nat) "Weaveword$Frame") ∈ lw_all := lw_g (lw_at lw_m5 164 rfl) rfl
theorem q1225 : (Jvm.Cond.methodLink "Weaveword$Rendering" (31 : Nat) ({ cls := "Weaveword$Frame", name := "<init>", desc := "(LWeaveword$Rendering;LWeaveword$Frame;ILWeaveword$Text;)V" } : Jvm.MethodName)) ∈ lw_all := lw_g (lw_at lw_m5 166 rfl) rfl
theorem q1236 : (Jvm.Cond.fieldLinkNest "Weaveword$Rendering" (115 : Nat) "Weaveword$Frame" "depth" "I" "Weaveword") ∈ lw_tbl := lw_at lw_m5 177 rfl
theorem q1238 : (Jvm.Cond.fieldLinkNest "Weaveword$Rendering" (79 : Nat) "Weaveword$Frame" "text" "LWeaveword$Text;" "Weaveword") ∈ lw_tbl := lw_at lw_m5 179 rfl
theorem q1240 : (Jvm.Cond.fieldLinkNest "Weaveword$Rendering" (121 : Nat) "Weaveword$Frame" "arguments" "[LWeaveword$Content;" "Weaveword") ∈ lw_tbl := lw_at lw_m5 181 rfl
theorem q1254 : (Jvm.Cond.methodLink "Weaveword$Rendering" (34 : Nat) ({ cls := "Weaveword$Text", name := "size", desc := "()I" } : Jvm.MethodName)) ∈ lw_all := lw_g (lw_at lw_m5 195 rfl) rfl
theorem q1255 : (Jvm.Cond.methodLink "Weaveword$Rendering" (40 : Nat) ({ cls := "Weaveword$Rendering", name := "expands", desc := "(LWeaveword$Frame;IILWeaveword$Row;)V" } : Jvm.MethodName)) ∈ lw_all := lw_g (lw_at lw_m5 196 rfl) rfl
theorem q1256 : (Jvm.Cond.instanceMethod ({ cls := "Weaveword$Rendering", name := "expands", desc := "(LWeaveword$Frame;IILWeaveword$Row;)V" } : Jvm.MethodName)) ∈ lw_all := lw_g (lw_at lw_m5 197 rfl) rfl
theorem q1257 : (Jvm.Cond.selects "Weaveword$Rendering" ({ cls := "Weaveword$Rendering", name := "expands", desc := "(LWeaveword$Frame;IILWeaveword$Row;)V" } : Jvm.MethodName) ({ cls := "Weaveword$Rendering", name := "expands", desc := "(LWeaveword$Frame;IILWeaveword$Row;)V" } : Jvm.MethodName)) ∈ lw_all := lw_g (lw_at lw_m5 198 rfl) rfl
theorem q1258 : (Jvm.Cond.code ({ cls := "Weaveword$Rendering", name := "expands", desc := "(LWeaveword$Frame;IILWeaveword$Row;)V" } : Jvm.MethodName) prog_8_method_4_code (9 : Nat) (Option.none : Option Jvm.ClassFile.FieldType)) ∈ lw_all := lw_g (lw_at lw_m5 199 rfl) rfl
theorem q1259 : (Jvm.Cond.methodLink "Weaveword$Rendering" (75 : Nat) ({ cls := "Weaveword$Text", name := "value", desc := "(I)I" } : Jvm.MethodName)) ∈ lw_all := lw_g (lw_at lw_m5 200 rfl) rfl
theorem q1260 : (Jvm.Cond.methodLink "Weaveword$Rendering" (80 : Nat) ({ cls := "Weaveword$Text", name := "kind", desc := "(I)I" } : Jvm.MethodName)) ∈ lw_all := lw_g (lw_at lw_m5 201 rfl) rfl
theorem q1261 : (Jvm.Cond.methodLinkNest "Weaveword$Rendering" (83 : Nat) ({ cls := "Weaveword$Text", name := "isOpening", desc := "(I)Z" } : Jvm.MethodName) "Weaveword") ∈ lw_tbl := lw_at lw_m5 202 rfl
theorem q1262 : (Jvm.Cond.methodLink "Weaveword$Rendering" (87 : Nat) ({ cls := "Weaveword$Text", name := "closing", desc := "(I)I" } : Jvm.MethodName)) ∈ lw_all := lw_g (lw_at lw_m5 203 rfl) rfl
theorem q1266 : (Jvm.Cond.methodLink "Weaveword$Rendering" (90 : Nat) ({ cls := "Weaveword$Row", name := "adds", desc := "(I)V" } : Jvm.MethodName)) ∈ lw_all := lw_g (lw_at lw_m5 207 rfl) rfl
theorem q1272 : (Jvm.Cond.methodLink "Weaveword$Rendering" (94 : Nat) ({ cls := "Weaveword$Rendering", name := "linksTo", desc := "(IILWeaveword$Row;)V" } : Jvm.MethodName)) ∈ lw_all := lw_g (lw_at lw_m5 213 rfl) rfl
theorem q1273 : (Jvm.Cond.privateMethod ({ cls := "Weaveword$Rendering", name := "linksTo", desc := "(IILWeaveword$Row;)V" } : Jvm.MethodName)) ∈ lw_tbl := lw_at lw_m5 214 rfl
theorem q1274 : (Jvm.Cond.instanceMethod ({ cls := "Weaveword$Rendering", name := "linksTo", desc := "(IILWeaveword$Row;)V" } : Jvm.MethodName)) ∈ lw_all := lw_g (lw_at lw_m5 215 rfl) rfl
theorem q1275 : (Jvm.Cond.code ({ cls := "Weaveword$Rendering", name := "linksTo", desc := "(IILWeaveword$Row;)V" } : Jvm.MethodName) prog_8_method_5_code (4 : Nat) (Option.none : Option Jvm.ClassFile.FieldType)) ∈ lw_all := lw_g (lw_at lw_m5 216 rfl) rfl
theorem q1276 : (Jvm.Cond.methodLink "Weaveword$Rendering" (101 : Nat) ({ cls := "Weaveword$Rendering", name := "calls", desc := "(LWeaveword$Frame;IILWeaveword$Row;)V" } : Jvm.MethodName)) ∈ lw_all := lw_g (lw_at lw_m5 217 rfl) rfl
theorem q1277 : (Jvm.Cond.privateMethod ({ cls := "Weaveword$Rendering", name := "calls", desc := "(LWeaveword$Frame;IILWeaveword$Row;)V" } : Jvm.MethodName)) ∈ lw_tbl := lw_at lw_m5 218 rfl
theorem q1278 : (Jvm.Cond.instanceMethod ({ cls := "Weaveword$Rendering", name := "calls", desc := "(LWeaveword$Frame;IILWeaveword$Row;)V" } : Jvm.MethodName)) ∈ lw_all := lw_g (lw_at lw_m5 219 rfl) rfl
theorem q1279 : (Jvm.Cond.code ({ cls := "Weaveword$Rendering", name := "calls", desc := "(LWeaveword$Frame;IILWeaveword$Row;)V" } : Jvm.MethodName) prog_8_method_7_code (13 : Nat) (Option.none : Option Jvm.ClassFile.FieldType)) ∈ lw_all := lw_g (lw_at lw_m5 220 rfl) rfl
theorem q1280 : (Jvm.Cond.methodLink "Weaveword$Rendering" (136 : Nat) ({ cls := "Weaveword$Rendering", name := "leadsTo", desc := "(I)I" } : Jvm.MethodName)) ∈ lw_all := lw_g (lw_at lw_m5 221 rfl) rfl
theorem q1281 : (Jvm.Cond.privateMethod ({ cls := "Weaveword$Rendering", name := "leadsTo", desc := "(I)I" } : Jvm.MethodName)) ∈ lw_tbl := lw_at lw_m5 222 rfl
theorem q1282 : (Jvm.Cond.instanceMethod ({ cls := "Weaveword$Rendering", name := "leadsTo", desc := "(I)I" } : Jvm.MethodName)) ∈ lw_all := lw_g (lw_at lw_m5 223 rfl) rfl
theorem q1283 : (Jvm.Cond.code ({ cls := "Weaveword$Rendering", name := "leadsTo", desc := "(I)I" } : Jvm.MethodName) prog_8_method_3_code (5 : Nat) (Option.some Jvm.ClassFile.FieldType.int)) ∈ lw_all := lw_g (lw_at lw_m5 224 rfl) rfl
theorem q1284 : (Jvm.Cond.methodLink "Weaveword$Rendering" (67 : Nat) ({ cls := "Weaveword$Rendering", name := "textOf", desc := "(I)LWeaveword$Text;" } : Jvm.MethodName)) ∈ lw_all := lw_g (lw_at lw_m5 225 rfl) rfl
theorem q1285 : (Jvm.Cond.privateMethod ({ cls := "Weaveword$Rendering", name := "textOf", desc := "(I)LWeaveword$Text;" } : Jvm.MethodName)) ∈ lw_tbl := lw_at lw_m5 226 rfl
theorem q1286 : (Jvm.Cond.instanceMethod ({ cls := "Weaveword$Rendering", name := "textOf", desc := "(I)LWeaveword$Text;" } : Jvm.MethodName)) ∈ lw_all := lw_g (lw_at lw_m5 227 rfl) rfl
theorem q1287 : (Jvm.Cond.code ({ cls := "Weaveword$Rendering", name := "textOf", desc := "(I)LWeaveword$Text;" } : Jvm.MethodName) prog_8_method_2_code (3 : Nat) (Option.some (Jvm.ClassFile.FieldType.object "Weaveword$Text"))) ∈ lw_all := lw_g (lw_at lw_m5 228 rfl) rfl
theorem q1288 : (Jvm.Cond.methodLink "Weaveword$Rendering" (48 : Nat) ({ cls := "Weaveword$Page", name := "present", desc := "()LWeaveword$Version;" } : Jvm.MethodName)) ∈ lw_all := lw_g (lw_at lw_m5 229 rfl) rfl
theorem q1289 : (Jvm.Cond.methodLink "Weaveword$Rendering" (54 : Nat) ({ cls := "Weaveword$Page", name := "approved", desc := "(I)LWeaveword$Version;" } : Jvm.MethodName)) ∈ lw_all := lw_g (lw_at lw_m5 230 rfl) rfl
theorem q1300 : (Jvm.Cond.methodLink "Weaveword$Rendering" (71 : Nat) ({ cls := "Weaveword$Text", name := "isRedirect", desc := "()Z" } : Jvm.MethodName)) ∈ lw_all := lw_g (lw_at lw_m6 1 rfl) rfl
theorem q1301 : (Jvm.Cond.methodLink "Weaveword$Rendering" (139 : Nat) ({ cls := "Weaveword$Frame", name := "isOf", desc := "(I)Z" } : Jvm.MethodName)) ∈ lw_all := lw_g (lw_at lw_m6 2 rfl) rfl
theorem q1305 : (Jvm.Cond.methodLink "Weaveword$Rendering" (107 : Nat) ({ cls := "Weaveword$Rendering", name := "partsOf", desc := "(LWeaveword$Frame;II)LWeaveword$Parts;" } : Jvm.MethodName)) ∈ lw_all := lw_g (lw_at lw_m6 6 rfl) rfl
theorem q1306 : (Jvm.Cond.privateMethod ({ cls := "Weaveword$Rendering", name := "partsOf", desc := "(LWeaveword$Frame;II)LWeaveword$Parts;" } : Jvm.MethodName)) ∈ lw_tbl := lw_at lw_m6 7 rfl
theorem q1307 : (Jvm.Cond.instanceMethod ({ cls := "Weaveword$Rendering", name := "partsOf", desc := "(LWeaveword$Frame;II)LWeaveword$Parts;" } : Jvm.MethodName)) ∈ lw_all := lw_g (lw_at lw_m6 8 rfl) rfl
theorem q1308 : (Jvm.Cond.code ({ cls := "Weaveword$Rendering", name := "partsOf", desc := "(LWeaveword$Frame;II)LWeaveword$Parts;" } : Jvm.MethodName) prog_8_method_8_code (8 : Nat) (Option.some (Jvm.ClassFile.FieldType.object "Weaveword$Parts"))) ∈ lw_all := lw_g (lw_at lw_m6 9 rfl) rfl
theorem q1309 : (Jvm.Cond.classLink "Weaveword$Rendering" (143 : Nat) "Weaveword$Parts") ∈ lw_all := lw_g (lw_at lw_m6 10 rfl) rfl
theorem q1311 : (Jvm.Cond.methodLink "Weaveword$Rendering" (166 : Nat) ({ cls := "Weaveword$Parts", name := "<init>", desc := "(LWeaveword$Row;)V" } : Jvm.MethodName)) ∈ lw_all := lw_g (lw_at lw_m6 12 rfl) rfl
theorem q1318 : (Jvm.Cond.fieldLinkNest "Weaveword$Rendering" (142 : Nat) "Weaveword$Parts" "parts" "Ljava/util/List;" "Weaveword") ∈ lw_tbl := lw_at lw_m6 19 rfl
theorem q1325 : (Jvm.Cond.classLink "Weaveword$Rendering" (126 : Nat) "Weaveword$Content") ∈ lw_all := lw_g (lw_at lw_m6 26 rfl) rfl
theorem q1327 : (Jvm.Cond.methodLink "Weaveword$Rendering" (168 : Nat) ({ cls := "Weaveword$Content", name := "<init>", desc := "(LWeaveword$Frame;II)V" } : Jvm.MethodName)) ∈ lw_all := lw_g (lw_at lw_m6 28 rfl) rfl
theorem q1333 : (Jvm.Cond.fieldLinkNest "Weaveword$Rendering" (163 : Nat) "Weaveword$Content" "from" "I" "Weaveword") ∈ lw_tbl := lw_at lw_m6 34 rfl
theorem q1345 : (Jvm.Cond.interfaceEntry "Weaveword$Rendering" (171 : Nat)) ∈ lw_tbl := lw_at lw_m6 46 rfl
theorem q1346 : (Jvm.Cond.methodLink "Weaveword$Rendering" (171 : Nat) ({ cls := "java/util/List", name := "add", desc := "(Ljava/lang/Object;)Z" } : Jvm.MethodName)) ∈ lw_all := lw_g (lw_at lw_m6 47 rfl) rfl
theorem q1347 : (Jvm.Cond.interfaceEntry "Weaveword$Rendering" (148 : Nat)) ∈ lw_tbl := lw_at lw_m6 48 rfl
theorem q1348 : (Jvm.Cond.methodLink "Weaveword$Rendering" (148 : Nat) ({ cls := "java/util/List", name := "iterator", desc := "()Ljava/util/Iterator;" } : Jvm.MethodName)) ∈ lw_all := lw_g (lw_at lw_m6 49 rfl) rfl
theorem q1349 : (Jvm.Cond.interfaceEntry "Weaveword$Rendering" (154 : Nat)) ∈ lw_tbl := lw_at lw_m6 50 rfl
theorem q1350 : (Jvm.Cond.methodLink "Weaveword$Rendering" (154 : Nat) ({ cls := "java/util/Iterator", name := "hasNext", desc := "()Z" } : Jvm.MethodName)) ∈ lw_all := lw_g (lw_at lw_m6 51 rfl) rfl
theorem q1351 : (Jvm.Cond.interfaceEntry "Weaveword$Rendering" (159 : Nat)) ∈ lw_tbl := lw_at lw_m6 52 rfl
theorem q1352 : (Jvm.Cond.methodLink "Weaveword$Rendering" (159 : Nat) ({ cls := "java/util/Iterator", name := "next", desc := "()Ljava/lang/Object;" } : Jvm.MethodName)) ∈ lw_all := lw_g (lw_at lw_m6 53 rfl) rfl
theorem q1353 : (Jvm.Cond.methodLink "Weaveword$Rendering" (104 : Nat) ({ cls := "Weaveword$Rendering", name := "puts", desc := "(LWeaveword$Frame;IILWeaveword$Row;)V" } : Jvm.MethodName)) ∈ lw_all := lw_g (lw_at lw_m6 54 rfl) rfl
theorem q1354 : (Jvm.Cond.privateMethod ({ cls := "Weaveword$Rendering", name := "puts", desc := "(LWeaveword$Frame;IILWeaveword$Row;)V" } : Jvm.MethodName)) ∈ lw_tbl := lw_at lw_m6 55 rfl
theorem q1355 : (Jvm.Cond.instanceMethod ({ cls := "Weaveword$Rendering", name := "puts", desc := "(LWeaveword$Frame;IILWeaveword$Row;)V" } : Jvm.MethodName)) ∈ lw_all := lw_g (lw_at lw_m6 56 rfl) rfl
theorem q1356 : (Jvm.Cond.code ({ cls := "Weaveword$Rendering", name := "puts", desc := "(LWeaveword$Frame;IILWeaveword$Row;)V" } : Jvm.MethodName) prog_8_method_6_code (6 : Nat) (Option.none : Option Jvm.ClassFile.FieldType)) ∈ lw_all := lw_g (lw_at lw_m6 57 rfl) rfl
theorem q1357 : (Jvm.Cond.methodLink "Weaveword$Rendering" (125 : Nat) ({ cls := "Weaveword$Content", name := "row", desc := "()LWeaveword$Row;" } : Jvm.MethodName)) ∈ lw_all := lw_g (lw_at lw_m6 58 rfl) rfl
theorem q1364 : (Jvm.Cond.methodLink "Weaveword$Rendering" (130 : Nat) ({ cls := "Weaveword$Row", name := "addsAll", desc := "(LWeaveword$Row;)V" } : Jvm.MethodName)) ∈ lw_all := lw_g (lw_at lw_m6 65 rfl) rfl
theorem q1369 : (Jvm.Cond.methodLink "Weaveword$Rendering" (111 : Nat) ({ cls := "Weaveword$Rendering", name := "does", desc := "(ILWeaveword$Parts;LWeaveword$Row;)V" } : Jvm.MethodName)) ∈ lw_all := lw_g (lw_at lw_m6 70 rfl) rfl
theorem q1370 : (Jvm.Cond.privateMethod ({ cls := "Weaveword$Rendering", name := "does", desc := "(ILWeaveword$Parts;LWeaveword$Row;)V" } : Jvm.MethodName)) ∈ lw_tbl := lw_at lw_m6 71 rfl
theorem q1371 : (Jvm.Cond.instanceMethod ({ cls := "Weaveword$Rendering", name := "does", desc := "(ILWeaveword$Parts;LWeaveword$Row;)V" } : Jvm.MethodName)) ∈ lw_all := lw_g (lw_at lw_m6 72 rfl) rfl
theorem q1372 : (Jvm.Cond.code ({ cls := "Weaveword$Rendering", name := "does", desc := "(ILWeaveword$Parts;LWeaveword$Row;)V" } : Jvm.MethodName) prog_8_method_9_code (4 : Nat) (Option.none : Option Jvm.ClassFile.FieldType)) ∈ lw_all := lw_g (lw_at lw_m6 73 rfl) rfl
theorem q1373 : (Jvm.Cond.methodLink "Weaveword$Rendering" (175 : Nat) ({ cls := "Weaveword$Parts", name := "row", desc := "(I)LWeaveword$Row;" } : Jvm.MethodName)) ∈ lw_all := lw_g (lw_at lw_m6 74 rfl) rfl
theorem q1383 : (Jvm.Cond.methodLink "Weaveword$Rendering" (178 : Nat) ({ cls := "Weaveword$Row", name := "isTrue", desc := "()Z" } : Jvm.MethodName)) ∈ lw_all := lw_g (lw_at lw_m6 84 rfl) rfl
theorem q1387 : (Jvm.Cond.methodLink "Weaveword$Rendering" (181 : Nat) ({ cls := "Weaveword$Row", name := "isSame", desc := "(LWeaveword$Row;)Z" } : Jvm.MethodName)) ∈ lw_all := lw_g (lw_at lw_m6 88 rfl) rfl
theorem q1391 : (Jvm.Cond.methodLink "Weaveword$Rendering" (185 : Nat) ({ cls := "Weaveword$Rendering", name := "sum", desc := "(LWeaveword$Parts;)I" } : Jvm.MethodName)) ∈ lw_all := lw_g (lw_at lw_m6 92 rfl) rfl
theorem q1392 : (Jvm.Cond.privateMethod ({ cls := "Weaveword$Rendering", name := "sum", desc := "(LWeaveword$Parts;)I" } : Jvm.MethodName)) ∈ lw_tbl := lw_at lw_m6 93 rfl
theorem q1393 : (Jvm.Cond.instanceMethod ({ cls := "Weaveword$Rendering", name := "sum", desc := "(LWeaveword$Parts;)I" } : Jvm.MethodName)) ∈ lw_all := lw_g (lw_at lw_m6 94 rfl) rfl
theorem q1394 : (Jvm.Cond.code ({ cls := "Weaveword$Rendering", name := "sum", desc := "(LWeaveword$Parts;)I" } : Jvm.MethodName) prog_8_method_10_code (4 : Nat) (Option.some Jvm.ClassFile.FieldType.int)) ∈ lw_all := lw_g (lw_at lw_m6 95 rfl) rfl
theorem q1395 : (Jvm.Cond.interfaceEntry "Weaveword$Rendering" (210 : Nat)) ∈ lw_tbl := lw_at lw_m6 96 rfl
theorem q1396 : (Jvm.Cond.methodLink "Weaveword$Rendering" (210 : Nat) ({ cls := "java/util/List", name := "size", desc := "()I" } : Jvm.MethodName)) ∈ lw_all := lw_g (lw_at lw_m6 97 rfl) rfl
theorem q1397 : (Jvm.Cond.methodLink "Weaveword$Rendering" (211 : Nat) ({ cls := "Weaveword$Row", name := "sum", desc := "()I" } : Jvm.MethodName)) ∈ lw_all := lw_g (lw_at lw_m6 98 rfl) rfl
theorem q1401 : (Jvm.Cond.methodLink "Weaveword$Rendering" (189 : Nat) ({ cls := "Weaveword$Parts", name := "number", desc := "(I)I" } : Jvm.MethodName)) ∈ lw_all := lw_g (lw_at lw_m6 102 rfl) rfl
theorem q1409 : (Jvm.Cond.methodLink "Weaveword$Rendering" (192 : Nat) ({ cls := "Weaveword$Rendering", name := "exists", desc := "(I)Z" } : Jvm.MethodName)) ∈ lw_all := lw_g (lw_at lw_m6 110 rfl) rfl
theorem q1410 : (Jvm.Cond.privateMethod ({ cls := "Weaveword$Rendering", name := "exists", desc := "(I)Z" } : Jvm.MethodName)) ∈ lw_tbl := lw_at lw_m6 111 rfl
theorem q1411 : (Jvm.Cond.instanceMethod ({ cls := "Weaveword$Rendering", name := "exists", desc := "(I)Z" } : Jvm.MethodName)) ∈ lw_all := lw_g (lw_at lw_m6 112 rfl) rfl
theorem q1412 : (Jvm.Cond.code ({ cls := "Weaveword$Rendering", name := "exists", desc := "(I)Z" } : Jvm.MethodName) prog_8_method_11_code (3 : Nat) (Option.some Jvm.ClassFile.FieldType.boolean)) ∈ lw_all := lw_g (lw_at lw_m6 113 rfl) rfl
theorem q1413 : (Jvm.Cond.methodLink "Weaveword$Rendering" (195 : Nat) ({ cls := "Weaveword$Rendering", name := "membersOf", desc := "(I)I" } : Jvm.MethodName)) ∈ lw_all := lw_g (lw_at lw_m6 114 rfl) rfl
theorem q1414 : (Jvm.Cond.privateMethod ({ cls := "Weaveword$Rendering", name := "membersOf", desc := "(I)I" } : Jvm.MethodName)) ∈ lw_tbl := lw_at lw_m6 115 rfl
theorem q1415 : (Jvm.Cond.instanceMethod ({ cls := "Weaveword$Rendering", name := "membersOf", desc := "(I)I" } : Jvm.MethodName)) ∈ lw_all := lw_g (lw_at lw_m6 116 rfl) rfl
theorem q1416 : (Jvm.Cond.code ({ cls := "Weaveword$Rendering", name := "membersOf", desc := "(I)I" } : Jvm.MethodName) prog_8_method_12_code (3 : Nat) (Option.some Jvm.ClassFile.FieldType.int)) ∈ lw_all := lw_g (lw_at lw_m6 117 rfl) rfl
theorem q1417 : (Jvm.Cond.methodLink "Weaveword$Rendering" (216 : Nat) ({ cls := "Weaveword", name := "members", desc := "(I)I" } : Jvm.MethodName)) ∈ lw_all := lw_g (lw_at lw_m6 118 rfl) rfl
theorem q1422 : (Jvm.Cond.methodLink "Weaveword$Rendering" (198 : Nat) ({ cls := "java/lang/Integer", name := "bitCount", desc := "(I)I" } : Jvm.MethodName)) ∈ lw_all := lw_g (lw_at lw_m6 123 rfl) rfl
theorem q1428 : (Jvm.Cond.methodLink "Weaveword$Rendering" (203 : Nat) ({ cls := "Weaveword$Rendering", name := "lists", desc := "(ILWeaveword$Row;)V" } : Jvm.MethodName)) ∈ lw_all := lw_g (lw_at lw_m6 129 rfl) rfl
theorem q1429 : (Jvm.Cond.privateMethod ({ cls := "Weaveword$Rendering", name := "lists", desc := "(ILWeaveword$Row;)V" } : Jvm.MethodName)) ∈ lw_tbl := lw_at lw_m6 130 rfl
theorem q1430 : (Jvm.Cond.instanceMethod ({ cls := "Weaveword$Rendering", name := "lists", desc := "(ILWeaveword$Row;)V" } : Jvm.MethodName)) ∈ lw_all := lw_g (lw_at lw_m6 131 rfl) rfl
theorem q1431 : (Jvm.Cond.code ({ cls := "Weaveword$Rendering", name := "lists", desc := "(ILWeaveword$Row;)V" } : Jvm.MethodName) prog_8_method_13_code (4 : Nat) (Option.none : Option Jvm.ClassFile.FieldType)) ∈ lw_all := lw_g (lw_at lw_m6 132 rfl) rfl
theorem q1432 : (Jvm.Cond.methodLink "Weaveword$Rendering" (207 : Nat) ({ cls := "Weaveword$Rendering", name := "given", desc := "(LWeaveword$Parts;)I" } : Jvm.MethodName)) ∈ lw_all := lw_g (lw_at lw_m6 133 rfl) rfl
theorem q1433 : (Jvm.Cond.privateMethod ({ cls := "Weaveword$Rendering", name := "given", desc := "(LWeaveword$Parts;)I" } : Jvm.MethodName)) ∈ lw_tbl := lw_at lw_m6 134 rfl
theorem q1434 : (Jvm.Cond.instanceMethod ({ cls := "Weaveword$Rendering", name := "given", desc := "(LWeaveword$Parts;)I" } : Jvm.MethodName)) ∈ lw_all := lw_g (lw_at lw_m6 135 rfl) rfl
theorem q1435 : (Jvm.Cond.code ({ cls := "Weaveword$Rendering", name := "given", desc := "(LWeaveword$Parts;)I" } : Jvm.MethodName) prog_8_method_14_code (3 : Nat) (Option.some Jvm.ClassFile.FieldType.int)) ∈ lw_all := lw_g (lw_at lw_m6 136 rfl) rfl
theorem q1436 : (Jvm.Cond.interfaceEntry "Weaveword$Rendering" (225 : Nat)) ∈ lw_tbl := lw_at lw_m6 137 rfl
theorem q1437 : (Jvm.Cond.methodLink "Weaveword$Rendering" (225 : Nat) ({ cls := "java/util/List", name := "get", desc := "(I)Ljava/lang/Object;" } : Jvm.MethodName)) ∈ lw_all := lw_g (lw_at lw_m6 138 rfl) rfl
theorem q1438 : (Jvm.Cond.classLink "Weaveword$Rendering" (229 : Nat) "Weaveword$Module") ∈ lw_all := lw_g (lw_at lw_m6 139 rfl) rfl
theorem q1439 : (Jvm.Cond.methodLink "Weaveword$Rendering" (231 : Nat) ({ cls := "Weaveword$Module", name := "gives", desc := "(LWeaveword$Parts;)I" } : Jvm.MethodName)) ∈ lw_all := lw_g (lw_at lw_m6 140 rfl) rfl
theorem q1456 : (Jvm.Cond.fieldLink "Weaveword$Rendering" (25 : Nat) "Weaveword$Rendering" "time" "I") ∈ lw_all := lw_g (lw_at lw_m6 157 rfl) rfl
theorem q1457 : (Jvm.Cond.fieldLink "Weaveword$Rendering" (18 : Nat) "Weaveword$Rendering" "row" "LWeaveword$Row;") ∈ lw_all := lw_g (lw_at lw_m6 158 rfl) rfl
theorem q1459 : (Jvm.Cond.fieldLink "Weaveword$Rendering" (22 : Nat) "Weaveword$Rendering" "nothing" "LWeaveword$Row;") ∈ lw_all := lw_g (lw_at lw_m6 160 rfl) rfl
theorem q1460 : (Jvm.Cond.fieldLink "Weaveword$Rendering" (118 : Nat) "Weaveword$Rendering" "links" "I") ∈ lw_all := lw_g (lw_at lw_m6 161 rfl) rfl
theorem q1462 : (Jvm.Cond.fieldLink "Weaveword$Rendering" (98 : Nat) "Weaveword$Rendering" "categories" "I") ∈ lw_all := lw_g (lw_at lw_m6 163 rfl) rfl
theorem q1464 : (Jvm.Cond.fieldLink "Weaveword$Rendering" (64 : Nat) "Weaveword$Rendering" "titles" "I") ∈ lw_all := lw_g (lw_at lw_m6 165 rfl) rfl
theorem q1466 : (Jvm.Cond.fieldLink "Weaveword$Rendering" (213 : Nat) "Weaveword$Rendering" "counted" "I") ∈ lw_all := lw_g (lw_at lw_m6 167 rfl) rfl
theorem q1469 : (Jvm.Cond.fieldLink "Weaveword$Rendering" (219 : Nat) "Weaveword$Rendering" "used" "I") ∈ lw_all := lw_g (lw_at lw_m6 170 rfl) rfl
theorem q1470 : (Jvm.Cond.fieldLink "Weaveword$Rendering" (134 : Nat) "Weaveword$Rendering" "calls" "I") ∈ lw_all := lw_g (lw_at lw_m6 171 rfl) rfl
theorem q1471 : (Jvm.Cond.fieldLink "Weaveword$Rendering" (3 : Nat) "Weaveword$Rendering" "this$0" "LWeaveword;") ∈ lw_all := lw_g (lw_at lw_m6 172 rfl) rfl
theorem q1472 : (Jvm.Cond.laysFinal "Weaveword$Rendering" "Weaveword$Rendering" "time" "I") ∈ lw_all := lw_g (lw_at lw_m6 173 rfl) rfl
theorem q1473 : (Jvm.Cond.soleField "Weaveword$Rendering" "time") ∈ lw_all := lw_g (lw_at lw_m6 174 rfl) rfl
theorem q1474 : (Jvm.Cond.laysFinal "Weaveword$Rendering" "Weaveword$Rendering" "row" "LWeaveword$Row;") ∈ lw_all := lw_g (lw_at lw_m6 175 rfl) rfl
theorem q1475 : (Jvm.Cond.soleField "Weaveword$Rendering" "row") ∈ lw_all := lw_g (lw_at lw_m6 176 rfl) rfl
theorem q1476 : (Jvm.Cond.laysFinal "Weaveword$Rendering" "Weaveword$Rendering" "nothing" "LWeaveword$Row;") ∈ lw_all := lw_g (lw_at lw_m6 177 rfl) rfl
theorem q1477 : (Jvm.Cond.soleField "Weaveword$Rendering" "nothing") ∈ lw_all := lw_g (lw_at lw_m6 178 rfl) rfl
theorem q1478 : (Jvm.Cond.lays "Weaveword$Rendering" "Weaveword$Rendering" "links" "I") ∈ lw_all := lw_g (lw_at lw_m6 179 rfl) rfl
theorem q1479 : (Jvm.Cond.soleField "Weaveword$Rendering" "links") ∈ lw_all := lw_g (lw_at lw_m6 180 rfl) rfl
theorem q1480 : (Jvm.Cond.lays "Weaveword$Rendering" "Weaveword$Rendering" "categories" "I") ∈ lw_all := lw_g (lw_at lw_m6 181 rfl) rfl
theorem q1481 : (Jvm.Cond.soleField "Weaveword$Rendering" "categories") ∈ lw_all := lw_g (lw_at lw_m6 182 rfl) rfl
theorem q1482 : (Jvm.Cond.lays "Weaveword$Rendering" "Weaveword$Rendering" "titles" "I") ∈ lw_all := lw_g (lw_at lw_m6 183 rfl) rfl
theorem q1483 : (Jvm.Cond.soleField "Weaveword$Rendering" "titles") ∈ lw_all := lw_g (lw_at lw_m6 184 rfl) rfl
theorem q1484 : (Jvm.Cond.lays "Weaveword$Rendering" "Weaveword$Rendering" "counted" "I") ∈ lw_all := lw_g (lw_at lw_m6 185 rfl) rfl
theorem q1485 : (Jvm.Cond.soleField "Weaveword$Rendering" "counted") ∈ lw_all := lw_g (lw_at lw_m6 186 rfl) rfl
theorem q1486 : (Jvm.Cond.lays "Weaveword$Rendering" "Weaveword$Rendering" "used" "I") ∈ lw_all := lw_g (lw_at lw_m6 187 rfl) rfl
theorem q1487 : (Jvm.Cond.soleField "Weaveword$Rendering" "used") ∈ lw_all := lw_g (lw_at lw_m6 188 rfl) rfl
theorem q1488 : (Jvm.Cond.lays "Weaveword$Rendering" "Weaveword$Rendering" "calls" "I") ∈ lw_all := lw_g (lw_at lw_m6 189 rfl) rfl
theorem q1489 : (Jvm.Cond.soleField "Weaveword$Rendering" "calls") ∈ lw_all := lw_g (lw_at lw_m6 190 rfl) rfl
theorem q1490 : (Jvm.Cond.laysFinal "Weaveword$Rendering" "Weaveword$Rendering" "this$0" "LWeaveword;") ∈ lw_all := lw_g (lw_at lw_m6 191 rfl) rfl
theorem q1491 : (Jvm.Cond.soleField "Weaveword$Rendering" "this$0") ∈ lw_all := lw_g (lw_at lw_m6 192 rfl) rfl
theorem q1492 : (Jvm.Cond.superclass "Weaveword$Rendering" "java/lang/Object") ∈ lw_all := lw_g (lw_at lw_m6 193 rfl) rfl
theorem q2303 : (Jvm.Cond.castable "Weaveword$Rendering" "java/lang/Object") ∈ lw_tbl := lw_at lw_m10 44 rfl
theorem q135 : (Jvm.Cond.initialized "Weaveword$Row") ∈ lw_all := lw_g (lw_at lw_m1 36 rfl) rfl
theorem q242 : (Jvm.Cond.selects "Weaveword$Row" ({ cls := "java/lang/Object", name := "getClass", desc := "()Ljava/lang/Class;" } : Jvm.MethodName) ({ cls := "java/lang/Object", name := "getClass", desc := "()Ljava/lang/Class;" } : Jvm.MethodName)) ∈ lw_all := lw_g (lw_at lw_m1 143 rfl) rfl
theorem q1210 : (Jvm.Cond.instantiable "Weaveword$Row" (2 : Nat)) ∈ lw_all := lw_g (lw_at lw_m5 151 rfl) rfl
theorem q1212 : (Jvm.Cond.instanceMethod ({ cls := "Weaveword$Row", name := "<init>", desc := "()V" } : Jvm.MethodName)) ∈ lw_all := lw_g (lw_at lw_m5 153 rfl) rfl
theorem q1213 : (Jvm.Cond.code ({ cls := "Weaveword$Row", name := "<init>", desc := "()V" } : Jvm.MethodName) prog_9_method_1_code (1 : Nat) (Option.none : Option Jvm.ClassFile.FieldType)) ∈ lw_all := lw_g (lw_at lw_m5 154 rfl) rfl
theorem q1214 : (Jvm.Cond.methodLink "Weaveword$Row" (3 : Nat) ({ cls := "java/lang/Object", name := "<init>", desc := "()V" } : Jvm.MethodName)) ∈ lw_all := lw_g (lw_at lw_m5 155 rfl) rfl
theorem q1215 : (Jvm.Cond.fieldLink "Weaveword$Row" (15 : Nat) "Weaveword$Row" "numbers" "[I") ∈ lw_all := lw_g (lw_at lw_m5 156 rfl) rfl
theorem q1216 : (Jvm.Cond.fieldLink "Weaveword$Row" (9 : Nat) "Weaveword$Row" "many" "I") ∈ lw_all := lw_g (lw_at lw_m5 157 rfl) rfl
theorem q1218 : (Jvm.Cond.lays "Weaveword$Row" "Weaveword$Row" "numbers" "[I") ∈ lw_all := lw_g (lw_at lw_m5 159 rfl) rfl
theorem q1219 : (Jvm.Cond.soleField "Weaveword$Row" "numbers") ∈ lw_all := lw_g (lw_at lw_m5 160 rfl) rfl
theorem q1220 : (Jvm.Cond.lays "Weaveword$Row" "Weaveword$Row" "many" "I") ∈ lw_all := lw_g (lw_at lw_m5 161 rfl) rfl
theorem q1221 : (Jvm.Cond.soleField "Weaveword$Row" "many") ∈ lw_all := lw_g (lw_at lw_m5 162 rfl) rfl
theorem q1222 : (Jvm.Cond.superclass "Weaveword$Row" "java/lang/Object") ∈ lw_all := lw_g (lw_at lw_m5 163 rfl) rfl
theorem q1267 : (Jvm.Cond.instanceMethod ({ cls := "Weaveword$Row", name := "adds", desc := "(I)V" } : Jvm.MethodName)) ∈ lw_all := lw_g (lw_at lw_m5 208 rfl) rfl
theorem q1268 : (Jvm.Cond.selects "Weaveword$Row" ({ cls := "Weaveword$Row", name := "adds", desc := "(I)V" } : Jvm.MethodName) ({ cls := "Weaveword$Row", name := "adds", desc := "(I)V" } : Jvm.MethodName)) ∈ lw_all := lw_g (lw_at lw_m5 209 rfl) rfl
theorem q1269 : (Jvm.Cond.code ({ cls := "Weaveword$Row", name := "adds", desc := "(I)V" } : Jvm.MethodName) prog_9_method_2_code (3 : Nat) (Option.none : Option Jvm.ClassFile.FieldType)) ∈ lw_all := lw_g (lw_at lw_m5 210 rfl) rfl
theorem q1270 : (Jvm.Cond.methodLink "Weaveword$Row" (19 : Nat) ({ cls := "java/lang/Math", name := "min", desc := "(II)I" } : Jvm.MethodName)) ∈ lw_all := lw_g (lw_at lw_m5 211 rfl) rfl
theorem q1271 : (Jvm.Cond.methodLink "Weaveword$Row" (25 : Nat) ({ cls := "java/lang/System", name := "arraycopy", desc := "(Ljava/lang/Object;ILjava/lang/Object;II)V" } : Jvm.MethodName)) ∈ lw_all := lw_g (lw_at lw_m5 212 rfl) rfl
theorem q1365 : (Jvm.Cond.instanceMethod ({ cls := "Weaveword$Row", name := "addsAll", desc := "(LWeaveword$Row;)V" } : Jvm.MethodName)) ∈ lw_all := lw_g (lw_at lw_m6 66 rfl) rfl
theorem q1366 : (Jvm.Cond.selects "Weaveword$Row" ({ cls := "Weaveword$Row", name := "addsAll", desc := "(LWeaveword$Row;)V" } : Jvm.MethodName) ({ cls := "Weaveword$Row", name := "addsAll", desc := "(LWeaveword$Row;)V" } : Jvm.MethodName)) ∈ lw_all := lw_g (lw_at lw_m6 67 rfl) rfl
theorem q1367 : (Jvm.Cond.code ({ cls := "Weaveword$Row", name := "addsAll", desc := "(LWeaveword$Row;)V" } : Jvm.MethodName) prog_9_method_3_code (3 : Nat) (Option.none : Option Jvm.ClassFile.FieldType)) ∈ lw_all := lw_g (lw_at lw_m6 68 rfl) rfl
theorem q1368 : (Jvm.Cond.methodLink "Weaveword$Row" (31 : Nat) ({ cls := "Weaveword$Row", name := "adds", desc := "(I)V" } : Jvm.MethodName)) ∈ lw_all := lw_g (lw_at lw_m6 69 rfl) rfl
theorem q1384 : (Jvm.Cond.instanceMethod ({ cls := "Weaveword$Row", name := "isTrue", desc := "()Z" } : Jvm.MethodName)) ∈ lw_all := lw_g (lw_at lw_m6 85 rfl) rfl
theorem q1385 : (Jvm.Cond.selects "Weaveword$Row" ({ cls := "Weaveword$Row", name := "isTrue", desc := "()Z" } : Jvm.MethodName) ({ cls := "Weaveword$Row", name := "isTrue", desc := "()Z" } : Jvm.MethodName)) ∈ lw_all := lw_g (lw_at lw_m6 86 rfl) rfl
theorem q1386 : (Jvm.Cond.code ({ cls := "Weaveword$Row", name := "isTrue", desc := "()Z" } : Jvm.MethodName) prog_9_method_7_code (3 : Nat) (Option.some Jvm.ClassFile.FieldType.boolean)) ∈ lw_all := lw_g (lw_at lw_m6 87 rfl) rfl
theorem q1388 : (Jvm.Cond.instanceMethod ({ cls := "Weaveword$Row", name := "isSame", desc := "(LWeaveword$Row;)Z" } : Jvm.MethodName)) ∈ lw_all := lw_g (lw_at lw_m6 89 rfl) rfl
theorem q1389 : (Jvm.Cond.selects "Weaveword$Row" ({ cls := "Weaveword$Row", name := "isSame", desc := "(LWeaveword$Row;)Z" } : Jvm.MethodName) ({ cls := "Weaveword$Row", name := "isSame", desc := "(LWeaveword$Row;)Z" } : Jvm.MethodName)) ∈ lw_all := lw_g (lw_at lw_m6 90 rfl) rfl
theorem q1390 : (Jvm.Cond.code ({ cls := "Weaveword$Row", name := "isSame", desc := "(LWeaveword$Row;)Z" } : Jvm.MethodName) prog_9_method_4_code (4 : Nat) (Option.some Jvm.ClassFile.FieldType.boolean)) ∈ lw_all := lw_g (lw_at lw_m6 91 rfl) rfl
theorem q1398 : (Jvm.Cond.instanceMethod ({ cls := "Weaveword$Row", name := "sum", desc := "()I" } : Jvm.MethodName)) ∈ lw_all := lw_g (lw_at lw_m6 99 rfl) rfl
theorem q1399 : (Jvm.Cond.selects "Weaveword$Row" ({ cls := "Weaveword$Row", name := "sum", desc := "()I" } : Jvm.MethodName) ({ cls := "Weaveword$Row", name := "sum", desc := "()I" } : Jvm.MethodName)) ∈ lw_all := lw_g (lw_at lw_m6 100 rfl) rfl
theorem q1400 : (Jvm.Cond.code ({ cls := "Weaveword$Row", name := "sum", desc := "()I" } : Jvm.MethodName) prog_9_method_8_code (3 : Nat) (Option.some Jvm.ClassFile.FieldType.int)) ∈ lw_all := lw_g (lw_at lw_m6 101 rfl) rfl
theorem q1406 : (Jvm.Cond.instanceMethod ({ cls := "Weaveword$Row", name := "number", desc := "()I" } : Jvm.MethodName)) ∈ lw_all := lw_g (lw_at lw_m6 107 rfl) rfl
theorem q1407 : (Jvm.Cond.selects "Weaveword$Row" ({ cls := "Weaveword$Row", name := "number", desc := "()I" } : Jvm.MethodName) ({ cls := "Weaveword$Row", name := "number", desc := "()I" } : Jvm.MethodName)) ∈ lw_all := lw_g (lw_at lw_m6 108 rfl) rfl
theorem q1408 : (Jvm.Cond.code ({ cls := "Weaveword$Row", name := "number", desc := "()I" } : Jvm.MethodName) prog_9_method_6_code (1 : Nat) (Option.some Jvm.ClassFile.FieldType.int)) ∈ lw_all := lw_g (lw_at lw_m6 109 rfl) rfl
theorem q1560 : (Jvm.Cond.instanceMethod ({ cls := "Weaveword$Row", name := "at", desc := "(I)I" } : Jvm.MethodName)) ∈ lw_all := lw_g (lw_at lw_m7 21 rfl) rfl
theorem q1561 : (Jvm.Cond.selects "Weaveword$Row" ({ cls := "Weaveword$Row", name := "at", desc := "(I)I" } : Jvm.MethodName) ({ cls := "Weaveword$Row", name := "at", desc := "(I)I" } : Jvm.MethodName)) ∈ lw_all := lw_g (lw_at lw_m7 22 rfl) rfl
theorem q1562 : (Jvm.Cond.code ({ cls := "Weaveword$Row", name := "at", desc := "(I)I" } : Jvm.MethodName) prog_9_method_5_code (2 : Nat) (Option.some Jvm.ClassFile.FieldType.int)) ∈ lw_all := lw_g (lw_at lw_m7 23 rfl) rfl
theorem q2304 : (Jvm.Cond.castable "Weaveword$Row" "java/lang/Object") ∈ lw_tbl := lw_at lw_m10 45 rfl
theorem q136 : (Jvm.Cond.initialized "Weaveword$Frame") ∈ lw_all := lw_g (lw_at lw_m1 37 rfl) rfl
theorem q237 : (Jvm.Cond.selects "Weaveword$Frame" ({ cls := "java/lang/Object", name := "getClass", desc := "()Ljava/lang/Class;" } : Jvm.MethodName) ({ cls := "java/lang/Object", name := "getClass", desc := "()Ljava/lang/Class;" } : Jvm.MethodName)) ∈ lw_all := lw_g (lw_at lw_m1 138 rfl) rfl
theorem q1224 : (Jvm.Cond.instantiable "Weaveword$Frame" (6 : Nat)) ∈ lw_all := lw_g (lw_at lw_m5 165 rfl) rfl
theorem q1226 : (Jvm.Cond.instanceMethod ({ cls := "Weaveword$Frame", name := "<init>", desc := "(LWeaveword$Rendering;LWeaveword$Frame;ILWeaveword$Text;)V" } : Jvm.MethodName)) ∈ lw_all := lw_g (lw_at lw_m5 167 rfl) rfl
theorem q1227 : (Jvm.Cond.code ({ cls := "Weaveword$Frame", name := "<init>", desc := "(LWeaveword$Rendering;LWeaveword$Frame;ILWeaveword$Text;)V" } : Jvm.MethodName) prog_4_method_1_code (5 : Nat) (Option.none : Option Jvm.ClassFile.FieldType)) ∈ lw_all := lw_g (lw_at lw_m5 168 rfl) rfl
theorem q1228 : (Jvm.Cond.methodLink "Weaveword$Frame" (3 : Nat) ({ cls := "java/lang/Object", name := "<init>", desc := "()V" } : Jvm.MethodName)) ∈ lw_all := lw_g (lw_at lw_m5 169 rfl) rfl
theorem q1229 : (Jvm.Cond.classLink "Weaveword$Frame" (9 : Nat) "Weaveword$Content") ∈ lw_all := lw_g (lw_at lw_m5 170 rfl) rfl
theorem q1231 : (Jvm.Cond.fieldLink "Weaveword$Frame" (17 : Nat) "Weaveword$Frame" "rendering" "LWeaveword$Rendering;") ∈ lw_all := lw_g (lw_at lw_m5 172 rfl) rfl
theorem q1233 : (Jvm.Cond.fieldLink "Weaveword$Frame" (21 : Nat) "Weaveword$Frame" "caller" "LWeaveword$Frame;") ∈ lw_all := lw_g (lw_at lw_m5 174 rfl) rfl
theorem q1234 : (Jvm.Cond.fieldLink "Weaveword$Frame" (25 : Nat) "Weaveword$Frame" "title" "I") ∈ lw_all := lw_g (lw_at lw_m5 175 rfl) rfl
theorem q1235 : (Jvm.Cond.fieldLink "Weaveword$Frame" (29 : Nat) "Weaveword$Frame" "depth" "I") ∈ lw_all := lw_g (lw_at lw_m5 176 rfl) rfl
theorem q1237 : (Jvm.Cond.fieldLink "Weaveword$Frame" (32 : Nat) "Weaveword$Frame" "text" "LWeaveword$Text;") ∈ lw_all := lw_g (lw_at lw_m5 178 rfl) rfl
theorem q1239 : (Jvm.Cond.fieldLink "Weaveword$Frame" (11 : Nat) "Weaveword$Frame" "arguments" "[LWeaveword$Content;") ∈ lw_all := lw_g (lw_at lw_m5 180 rfl) rfl
theorem q1241 : (Jvm.Cond.laysFinal "Weaveword$Frame" "Weaveword$Frame" "rendering" "LWeaveword$Rendering;") ∈ lw_all := lw_g (lw_at lw_m5 182 rfl) rfl
theorem q1242 : (Jvm.Cond.soleField "Weaveword$Frame" "rendering") ∈ lw_all := lw_g (lw_at lw_m5 183 rfl) rfl
theorem q1243 : (Jvm.Cond.laysFinal "Weaveword$Frame" "Weaveword$Frame" "caller" "LWeaveword$Frame;") ∈ lw_all := lw_g (lw_at lw_m5 184 rfl) rfl
theorem q1244 : (Jvm.Cond.soleField "Weaveword$Frame" "caller") ∈ lw_all := lw_g (lw_at lw_m5 185 rfl) rfl
theorem q1245 : (Jvm.Cond.laysFinal "Weaveword$Frame" "Weaveword$Frame" "title" "I") ∈ lw_all := lw_g (lw_at lw_m5 186 rfl) rfl
theorem q1246 : (Jvm.Cond.soleField "Weaveword$Frame" "title") ∈ lw_all := lw_g (lw_at lw_m5 187 rfl) rfl
theorem q1247 : (Jvm.Cond.laysFinal "Weaveword$Frame" "Weaveword$Frame" "depth" "I") ∈ lw_all := lw_g (lw_at lw_m5 188 rfl) rfl
theorem q1248 : (Jvm.Cond.soleField "Weaveword$Frame" "depth") ∈ lw_all := lw_g (lw_at lw_m5 189 rfl) rfl
theorem q1249 : (Jvm.Cond.laysFinal "Weaveword$Frame" "Weaveword$Frame" "text" "LWeaveword$Text;") ∈ lw_all := lw_g (lw_at lw_m5 190 rfl) rfl
theorem q1250 : (Jvm.Cond.soleField "Weaveword$Frame" "text") ∈ lw_all := lw_g (lw_at lw_m5 191 rfl) rfl
theorem q1251 : (Jvm.Cond.laysFinal "Weaveword$Frame" "Weaveword$Frame" "arguments" "[LWeaveword$Content;") ∈ lw_all := lw_g (lw_at lw_m5 192 rfl) rfl
theorem q1252 : (Jvm.Cond.soleField "Weaveword$Frame" "arguments") ∈ lw_all := lw_g (lw_at lw_m5 193 rfl) rfl
theorem q1253 : (Jvm.Cond.superclass "Weaveword$Frame" "java/lang/Object") ∈ lw_all := lw_g (lw_at lw_m5 194 rfl) rfl
theorem q1302 : (Jvm.Cond.instanceMethod ({ cls := "Weaveword$Frame", name := "isOf", desc := "(I)Z" } : Jvm.MethodName)) ∈ lw_all := lw_g (lw_at lw_m6 3 rfl) rfl
theorem q1303 : (Jvm.Cond.selects "Weaveword$Frame" ({ cls := "Weaveword$Frame", name := "isOf", desc := "(I)Z" } : Jvm.MethodName) ({ cls := "Weaveword$Frame", name := "isOf", desc := "(I)Z" } : Jvm.MethodName)) ∈ lw_all := lw_g (lw_at lw_m6 4 rfl) rfl
theorem q1304 : (Jvm.Cond.code ({ cls := "Weaveword$Frame", name := "isOf", desc := "(I)Z" } : Jvm.MethodName) prog_4_method_2_code (4 : Nat) (Option.some Jvm.ClassFile.FieldType.boolean)) ∈ lw_all := lw_g (lw_at lw_m6 5 rfl) rfl
theorem q2305 : (Jvm.Cond.castable "Weaveword$Frame" "java/lang/Object") ∈ lw_tbl := lw_at lw_m10 46 rfl
theorem q137 : (Jvm.Cond.initialized "Weaveword$Parts") ∈ lw_all := lw_g (lw_at lw_m1 38 rfl) rfl
theorem q240 : (Jvm.Cond.selects "Weaveword$Parts" ({ cls := "java/lang/Object", name := "getClass", desc := "()Ljava/lang/Class;" } : Jvm.MethodName) ({ cls := "java/lang/Object", name := "getClass", desc := "()Ljava/lang/Class;" } : Jvm.MethodName)) ∈ lw_all := lw_g (lw_at lw_m1 141 rfl) rfl
theorem q1310 : (Jvm.Cond.instantiable "Weaveword$Parts" (2 : Nat)) ∈ lw_all := lw_g (lw_at lw_m6 11 rfl) rfl
theorem q1312 : (Jvm.Cond.instanceMethod ({ cls := "Weaveword$Parts", name := "<init>", desc := "(LWeaveword$Row;)V" } : Jvm.MethodName)) ∈ lw_all := lw_g (lw_at lw_m6 13 rfl) rfl
theorem q1313 : (Jvm.Cond.code ({ cls := "Weaveword$Parts", name := "<init>", desc := "(LWeaveword$Row;)V" } : Jvm.MethodName) prog_7_method_1_code (2 : Nat) (Option.none : Option Jvm.ClassFile.FieldType)) ∈ lw_all := lw_g (lw_at lw_m6 14 rfl) rfl
theorem q1314 : (Jvm.Cond.methodLink "Weaveword$Parts" (3 : Nat) ({ cls := "java/lang/Object", name := "<init>", desc := "()V" } : Jvm.MethodName)) ∈ lw_all := lw_g (lw_at lw_m6 15 rfl) rfl
theorem q1315 : (Jvm.Cond.classLink "Weaveword$Parts" (9 : Nat) "java/util/ArrayList") ∈ lw_all := lw_g (lw_at lw_m6 16 rfl) rfl
theorem q1316 : (Jvm.Cond.methodLink "Weaveword$Parts" (11 : Nat) ({ cls := "java/util/ArrayList", name := "<init>", desc := "()V" } : Jvm.MethodName)) ∈ lw_all := lw_g (lw_at lw_m6 17 rfl) rfl
theorem q1317 : (Jvm.Cond.fieldLink "Weaveword$Parts" (12 : Nat) "Weaveword$Parts" "parts" "Ljava/util/List;") ∈ lw_all := lw_g (lw_at lw_m6 18 rfl) rfl
theorem q1319 : (Jvm.Cond.fieldLink "Weaveword$Parts" (18 : Nat) "Weaveword$Parts" "nothing" "LWeaveword$Row;") ∈ lw_all := lw_g (lw_at lw_m6 20 rfl) rfl
theorem q1320 : (Jvm.Cond.laysFinal "Weaveword$Parts" "Weaveword$Parts" "parts" "Ljava/util/List;") ∈ lw_all := lw_g (lw_at lw_m6 21 rfl) rfl
theorem q1321 : (Jvm.Cond.soleField "Weaveword$Parts" "parts") ∈ lw_all := lw_g (lw_at lw_m6 22 rfl) rfl
theorem q1322 : (Jvm.Cond.laysFinal "Weaveword$Parts" "Weaveword$Parts" "nothing" "LWeaveword$Row;") ∈ lw_all := lw_g (lw_at lw_m6 23 rfl) rfl
theorem q1323 : (Jvm.Cond.soleField "Weaveword$Parts" "nothing") ∈ lw_all := lw_g (lw_at lw_m6 24 rfl) rfl
theorem q1324 : (Jvm.Cond.superclass "Weaveword$Parts" "java/lang/Object") ∈ lw_all := lw_g (lw_at lw_m6 25 rfl) rfl
theorem q1374 : (Jvm.Cond.instanceMethod ({ cls := "Weaveword$Parts", name := "row", desc := "(I)LWeaveword$Row;" } : Jvm.MethodName)) ∈ lw_all := lw_g (lw_at lw_m6 75 rfl) rfl
theorem q1375 : (Jvm.Cond.selects "Weaveword$Parts" ({ cls := "Weaveword$Parts", name := "row", desc := "(I)LWeaveword$Row;" } : Jvm.MethodName) ({ cls := "Weaveword$Parts", name := "row", desc := "(I)LWeaveword$Row;" } : Jvm.MethodName)) ∈ lw_all := lw_g (lw_at lw_m6 76 rfl) rfl
theorem q1376 : (Jvm.Cond.code ({ cls := "Weaveword$Parts", name := "row", desc := "(I)LWeaveword$Row;" } : Jvm.MethodName) prog_7_method_2_code (2 : Nat) (Option.some (Jvm.ClassFile.FieldType.object "Weaveword$Row"))) ∈ lw_all := lw_g (lw_at lw_m6 77 rfl) rfl
theorem q1377 : (Jvm.Cond.interfaceEntry "Weaveword$Parts" (22 : Nat)) ∈ lw_tbl := lw_at lw_m6 78 rfl
theorem q1378 : (Jvm.Cond.methodLink "Weaveword$Parts" (22 : Nat) ({ cls := "java/util/List", name := "size", desc := "()I" } : Jvm.MethodName)) ∈ lw_all := lw_g (lw_at lw_m6 79 rfl) rfl
theorem q1379 : (Jvm.Cond.interfaceEntry "Weaveword$Parts" (28 : Nat)) ∈ lw_tbl := lw_at lw_m6 80 rfl
theorem q1380 : (Jvm.Cond.methodLink "Weaveword$Parts" (28 : Nat) ({ cls := "java/util/List", name := "get", desc := "(I)Ljava/lang/Object;" } : Jvm.MethodName)) ∈ lw_all := lw_g (lw_at lw_m6 81 rfl) rfl
theorem q1381 : (Jvm.Cond.classLink "Weaveword$Parts" (32 : Nat) "Weaveword$Content") ∈ lw_all := lw_g (lw_at lw_m6 82 rfl) rfl
theorem q1382 : (Jvm.Cond.methodLink "Weaveword$Parts" (34 : Nat) ({ cls := "Weaveword$Content", name := "row", desc := "()LWeaveword$Row;" } : Jvm.MethodName)) ∈ lw_all := lw_g (lw_at lw_m6 83 rfl) rfl
theorem q1402 : (Jvm.Cond.instanceMethod ({ cls := "Weaveword$Parts", name := "number", desc := "(I)I" } : Jvm.MethodName)) ∈ lw_all := lw_g (lw_at lw_m6 103 rfl) rfl
theorem q1403 : (Jvm.Cond.selects "Weaveword$Parts" ({ cls := "Weaveword$Parts", name := "number", desc := "(I)I" } : Jvm.MethodName) ({ cls := "Weaveword$Parts", name := "number", desc := "(I)I" } : Jvm.MethodName)) ∈ lw_all := lw_g (lw_at lw_m6 104 rfl) rfl
theorem q1404 : (Jvm.Cond.code ({ cls := "Weaveword$Parts", name := "number", desc := "(I)I" } : Jvm.MethodName) prog_7_method_3_code (2 : Nat) (Option.some Jvm.ClassFile.FieldType.int)) ∈ lw_all := lw_g (lw_at lw_m6 105 rfl) rfl
theorem q1405 : (Jvm.Cond.methodLink "Weaveword$Parts" (38 : Nat) ({ cls := "Weaveword$Row", name := "number", desc := "()I" } : Jvm.MethodName)) ∈ lw_all := lw_g (lw_at lw_m6 106 rfl) rfl
theorem q2306 : (Jvm.Cond.castable "Weaveword$Parts" "java/lang/Object") ∈ lw_tbl := lw_at lw_m10 47 rfl
theorem q138 : (Jvm.Cond.initialized "Weaveword$Content") ∈ lw_all := lw_g (lw_at lw_m1 39 rfl) rfl
theorem q236 : (Jvm.Cond.selects "Weaveword$Content" ({ cls := "java/lang/Object", name := "getClass", desc := "()Ljava/lang/Class;" } : Jvm.MethodName) ({ cls := "java/lang/Object", name := "getClass", desc := "()Ljava/lang/Class;" } : Jvm.MethodName)) ∈ lw_all := lw_g (lw_at lw_m1 137 rfl) rfl
theorem q1232 : (Jvm.Cond.fieldLinkNest "Weaveword$Content" (27 : Nat) "Weaveword$Frame" "rendering" "LWeaveword$Rendering;" "Weaveword") ∈ lw_tbl := lw_at lw_m5 173 rfl
theorem q1326 : (Jvm.Cond.instantiable "Weaveword$Content" (4 : Nat)) ∈ lw_all := lw_g (lw_at lw_m6 27 rfl) rfl
theorem q1328 : (Jvm.Cond.instanceMethod ({ cls := "Weaveword$Content", name := "<init>", desc := "(LWeaveword$Frame;II)V" } : Jvm.MethodName)) ∈ lw_all := lw_g (lw_at lw_m6 29 rfl) rfl
theorem q1329 : (Jvm.Cond.code ({ cls := "Weaveword$Content", name := "<init>", desc := "(LWeaveword$Frame;II)V" } : Jvm.MethodName) prog_3_method_1_code (4 : Nat) (Option.none : Option Jvm.ClassFile.FieldType)) ∈ lw_all := lw_g (lw_at lw_m6 30 rfl) rfl
theorem q1330 : (Jvm.Cond.methodLink "Weaveword$Content" (1 : Nat) ({ cls := "java/lang/Object", name := "<init>", desc := "()V" } : Jvm.MethodName)) ∈ lw_all := lw_g (lw_at lw_m6 31 rfl) rfl
theorem q1331 : (Jvm.Cond.fieldLink "Weaveword$Content" (7 : Nat) "Weaveword$Content" "frame" "LWeaveword$Frame;") ∈ lw_all := lw_g (lw_at lw_m6 32 rfl) rfl
theorem q1332 : (Jvm.Cond.fieldLink "Weaveword$Content" (13 : Nat) "Weaveword$Content" "from" "I") ∈ lw_all := lw_g (lw_at lw_m6 33 rfl) rfl
theorem q1334 : (Jvm.Cond.fieldLink "Weaveword$Content" (17 : Nat) "Weaveword$Content" "to" "I") ∈ lw_all := lw_g (lw_at lw_m6 35 rfl) rfl
theorem q1335 : (Jvm.Cond.fieldLink "Weaveword$Content" (20 : Nat) "Weaveword$Content" "row" "LWeaveword$Row;") ∈ lw_all := lw_g (lw_at lw_m6 36 rfl) rfl
theorem q1336 : (Jvm.Cond.laysFinal "Weaveword$Content" "Weaveword$Content" "frame" "LWeaveword$Frame;") ∈ lw_all := lw_g (lw_at lw_m6 37 rfl) rfl
theorem q1337 : (Jvm.Cond.soleField "Weaveword$Content" "frame") ∈ lw_all := lw_g (lw_at lw_m6 38 rfl) rfl
theorem q1338 : (Jvm.Cond.laysFinal "Weaveword$Content" "Weaveword$Content" "from" "I") ∈ lw_all := lw_g (lw_at lw_m6 39 rfl) rfl
theorem q1339 : (Jvm.Cond.soleField "Weaveword$Content" "from") ∈ lw_all := lw_g (lw_at lw_m6 40 rfl) rfl
theorem q1340 : (Jvm.Cond.laysFinal "Weaveword$Content" "Weaveword$Content" "to" "I") ∈ lw_all := lw_g (lw_at lw_m6 41 rfl) rfl
theorem q1341 : (Jvm.Cond.soleField "Weaveword$Content" "to") ∈ lw_all := lw_g (lw_at lw_m6 42 rfl) rfl
theorem q1342 : (Jvm.Cond.lays "Weaveword$Content" "Weaveword$Content" "row" "LWeaveword$Row;") ∈ lw_all := lw_g (lw_at lw_m6 43 rfl) rfl
theorem q1343 : (Jvm.Cond.soleField "Weaveword$Content" "row") ∈ lw_all := lw_g (lw_at lw_m6 44 rfl) rfl
theorem q1344 : (Jvm.Cond.superclass "Weaveword$Content" "java/lang/Object") ∈ lw_all := lw_g (lw_at lw_m6 45 rfl) rfl
theorem q1358 : (Jvm.Cond.instanceMethod ({ cls := "Weaveword$Content", name := "row", desc := "()LWeaveword$Row;" } : Jvm.MethodName)) ∈ lw_all := lw_g (lw_at lw_m6 59 rfl) rfl
theorem q1359 : (Jvm.Cond.selects "Weaveword$Content" ({ cls := "Weaveword$Content", name := "row", desc := "()LWeaveword$Row;" } : Jvm.MethodName) ({ cls := "Weaveword$Content", name := "row", desc := "()LWeaveword$Row;" } : Jvm.MethodName)) ∈ lw_all := lw_g (lw_at lw_m6 60 rfl) rfl
theorem q1360 : (Jvm.Cond.code ({ cls := "Weaveword$Content", name := "row", desc := "()LWeaveword$Row;" } : Jvm.MethodName) prog_3_method_2_code (2 : Nat) (Option.some (Jvm.ClassFile.FieldType.object "Weaveword$Row"))) ∈ lw_all := lw_g (lw_at lw_m6 61 rfl) rfl
theorem q1361 : (Jvm.Cond.classLink "Weaveword$Content" (24 : Nat) "Weaveword$Row") ∈ lw_all := lw_g (lw_at lw_m6 62 rfl) rfl
theorem q1362 : (Jvm.Cond.methodLinkNest "Weaveword$Content" (26 : Nat) ({ cls := "Weaveword$Row", name := "<init>", desc := "()V" } : Jvm.MethodName) "Weaveword") ∈ lw_tbl := lw_at lw_m6 63 rfl
theorem q1363 : (Jvm.Cond.methodLink "Weaveword$Content" (33 : Nat) ({ cls := "Weaveword$Rendering", name := "expands", desc := "(LWeaveword$Frame;IILWeaveword$Row;)V" } : Jvm.MethodName)) ∈ lw_all := lw_g (lw_at lw_m6 64 rfl) rfl
theorem q2287 : (Jvm.Cond.castable "Weaveword$Content" "java/lang/Object") ∈ lw_tbl := lw_at lw_m10 28 rfl
theorem q104 : (Jvm.Cond.initialized "Weaveword$Module") ∈ lw_all := lw_g (lw_at lw_m1 5 rfl) rfl
theorem q183 : (Jvm.Cond.instantiable "Weaveword$Module" (1 : Nat)) ∈ lw_all := lw_g (lw_at lw_m1 84 rfl) rfl
theorem q185 : (Jvm.Cond.instanceMethod ({ cls := "Weaveword$Module", name := "<init>", desc := "()V" } : Jvm.MethodName)) ∈ lw_all := lw_g (lw_at lw_m1 86 rfl) rfl
theorem q186 : (Jvm.Cond.code ({ cls := "Weaveword$Module", name := "<init>", desc := "()V" } : Jvm.MethodName) prog_5_method_1_code (1 : Nat) (Option.none : Option Jvm.ClassFile.FieldType)) ∈ lw_all := lw_g (lw_at lw_m1 87 rfl) rfl
theorem q187 : (Jvm.Cond.methodLink "Weaveword$Module" (3 : Nat) ({ cls := "java/lang/Object", name := "<init>", desc := "()V" } : Jvm.MethodName)) ∈ lw_all := lw_g (lw_at lw_m1 88 rfl) rfl
theorem q188 : (Jvm.Cond.classLink "Weaveword$Module" (9 : Nat) "java/util/ArrayList") ∈ lw_all := lw_g (lw_at lw_m1 89 rfl) rfl
theorem q189 : (Jvm.Cond.methodLink "Weaveword$Module" (11 : Nat) ({ cls := "java/util/ArrayList", name := "<init>", desc := "()V" } : Jvm.MethodName)) ∈ lw_all := lw_g (lw_at lw_m1 90 rfl) rfl
theorem q190 : (Jvm.Cond.fieldLink "Weaveword$Module" (12 : Nat) "Weaveword$Module" "instructions" "Ljava/util/List;") ∈ lw_all := lw_g (lw_at lw_m1 91 rfl) rfl
theorem q192 : (Jvm.Cond.laysFinal "Weaveword$Module" "Weaveword$Module" "instructions" "Ljava/util/List;") ∈ lw_all := lw_g (lw_at lw_m1 93 rfl) rfl
theorem q193 : (Jvm.Cond.soleField "Weaveword$Module" "instructions") ∈ lw_all := lw_g (lw_at lw_m1 94 rfl) rfl
theorem q194 : (Jvm.Cond.superclass "Weaveword$Module" "java/lang/Object") ∈ lw_all := lw_g (lw_at lw_m1 95 rfl) rfl
theorem q238 : (Jvm.Cond.selects "Weaveword$Module" ({ cls := "java/lang/Object", name := "getClass", desc := "()Ljava/lang/Class;" } : Jvm.MethodName) ({ cls := "java/lang/Object", name := "getClass", desc := "()Ljava/lang/Class;" } : Jvm.MethodName)) ∈ lw_all := lw_g (lw_at lw_m1 139 rfl) rfl
theorem q1440 : (Jvm.Cond.instanceMethod ({ cls := "Weaveword$Module", name := "gives", desc := "(LWeaveword$Parts;)I" } : Jvm.MethodName)) ∈ lw_all := lw_g (lw_at lw_m6 141 rfl) rfl
theorem q1441 : (Jvm.Cond.selects "Weaveword$Module" ({ cls := "Weaveword$Module", name := "gives", desc := "(LWeaveword$Parts;)I" } : Jvm.MethodName) ({ cls := "Weaveword$Module", name := "gives", desc := "(LWeaveword$Parts;)I" } : Jvm.MethodName)) ∈ lw_all := lw_g (lw_at lw_m6 142 rfl) rfl
theorem q1442 : (Jvm.Cond.code ({ cls := "Weaveword$Module", name := "gives", desc := "(LWeaveword$Parts;)I" } : Jvm.MethodName) prog_5_method_3_code (10 : Nat) (Option.some Jvm.ClassFile.FieldType.int)) ∈ lw_all := lw_g (lw_at lw_m6 143 rfl) rfl
theorem q1443 : (Jvm.Cond.interfaceEntry "Weaveword$Module" (24 : Nat)) ∈ lw_tbl := lw_at lw_m6 144 rfl
theorem q1444 : (Jvm.Cond.methodLink "Weaveword$Module" (24 : Nat) ({ cls := "java/util/List", name := "size", desc := "()I" } : Jvm.MethodName)) ∈ lw_all := lw_g (lw_at lw_m6 145 rfl) rfl
theorem q1445 : (Jvm.Cond.interfaceEntry "Weaveword$Module" (30 : Nat)) ∈ lw_tbl := lw_at lw_m6 146 rfl
theorem q1446 : (Jvm.Cond.methodLink "Weaveword$Module" (30 : Nat) ({ cls := "java/util/List", name := "get", desc := "(I)Ljava/lang/Object;" } : Jvm.MethodName)) ∈ lw_all := lw_g (lw_at lw_m6 147 rfl) rfl
theorem q1447 : (Jvm.Cond.classLink "Weaveword$Module" (34 : Nat) "[I") ∈ lw_all := lw_g (lw_at lw_m6 148 rfl) rfl
theorem q1448 : (Jvm.Cond.methodLink "Weaveword$Module" (36 : Nat) ({ cls := "Weaveword$Parts", name := "number", desc := "(I)I" } : Jvm.MethodName)) ∈ lw_all := lw_g (lw_at lw_m6 149 rfl) rfl
theorem q1449 : (Jvm.Cond.methodLink "Weaveword$Module" (42 : Nat) ({ cls := "java/lang/Math", name := "max", desc := "(II)I" } : Jvm.MethodName)) ∈ lw_all := lw_g (lw_at lw_m6 150 rfl) rfl
theorem q1450 : (Jvm.Cond.methodLink "Weaveword$Module" (45 : Nat) ({ cls := "Weaveword$Module", name := "result", desc := "(III)I" } : Jvm.MethodName)) ∈ lw_all := lw_g (lw_at lw_m6 151 rfl) rfl
theorem q1451 : (Jvm.Cond.static ({ cls := "Weaveword$Module", name := "result", desc := "(III)I" } : Jvm.MethodName)) ∈ lw_all := lw_g (lw_at lw_m6 152 rfl) rfl
theorem q1452 : (Jvm.Cond.code ({ cls := "Weaveword$Module", name := "result", desc := "(III)I" } : Jvm.MethodName) prog_5_method_2_code (4 : Nat) (Option.some Jvm.ClassFile.FieldType.int)) ∈ lw_all := lw_g (lw_at lw_m6 153 rfl) rfl
theorem q1453 : (Jvm.Cond.methodLink "Weaveword$Module" (18 : Nat) ({ cls := "java/lang/Math", name := "floorMod", desc := "(II)I" } : Jvm.MethodName)) ∈ lw_all := lw_g (lw_at lw_m6 154 rfl) rfl
theorem q2290 : (Jvm.Cond.castable "Weaveword$Module" "java/lang/Object") ∈ lw_tbl := lw_at lw_m10 31 rfl
theorem q126 : (Jvm.Cond.initialized "Weaveword$Text") ∈ lw_all := lw_g (lw_at lw_m1 27 rfl) rfl
theorem q244 : (Jvm.Cond.selects "Weaveword$Text" ({ cls := "java/lang/Object", name := "getClass", desc := "()Ljava/lang/Class;" } : Jvm.MethodName) ({ cls := "java/lang/Object", name := "getClass", desc := "()Ljava/lang/Class;" } : Jvm.MethodName)) ∈ lw_all := lw_g (lw_at lw_m1 145 rfl) rfl
theorem q697 : (Jvm.Cond.instanceMethod ({ cls := "Weaveword$Text", name := "isRedirect", desc := "()Z" } : Jvm.MethodName)) ∈ lw_all := lw_g (lw_at lw_m3 118 rfl) rfl
theorem q698 : (Jvm.Cond.selects "Weaveword$Text" ({ cls := "Weaveword$Text", name := "isRedirect", desc := "()Z" } : Jvm.MethodName) ({ cls := "Weaveword$Text", name := "isRedirect", desc := "()Z" } : Jvm.MethodName)) ∈ lw_all := lw_g (lw_at lw_m3 119 rfl) rfl
theorem q699 : (Jvm.Cond.code ({ cls := "Weaveword$Text", name := "isRedirect", desc := "()Z" } : Jvm.MethodName) prog_11_method_11_code (1 : Nat) (Option.some Jvm.ClassFile.FieldType.boolean)) ∈ lw_all := lw_g (lw_at lw_m3 120 rfl) rfl
theorem q700 : (Jvm.Cond.methodLink "Weaveword$Text" (34 : Nat) ({ cls := "Weaveword$Text", name := "kind", desc := "(I)I" } : Jvm.MethodName)) ∈ lw_all := lw_g (lw_at lw_m3 121 rfl) rfl
theorem q701 : (Jvm.Cond.instanceMethod ({ cls := "Weaveword$Text", name := "kind", desc := "(I)I" } : Jvm.MethodName)) ∈ lw_all := lw_g (lw_at lw_m3 122 rfl) rfl
theorem q702 : (Jvm.Cond.selects "Weaveword$Text" ({ cls := "Weaveword$Text", name := "kind", desc := "(I)I" } : Jvm.MethodName) ({ cls := "Weaveword$Text", name := "kind", desc := "(I)I" } : Jvm.MethodName)) ∈ lw_all := lw_g (lw_at lw_m3 123 rfl) rfl
theorem q703 : (Jvm.Cond.code ({ cls := "Weaveword$Text", name := "kind", desc := "(I)I" } : Jvm.MethodName) prog_11_method_4_code (2 : Nat) (Option.some Jvm.ClassFile.FieldType.int)) ∈ lw_all := lw_g (lw_at lw_m3 124 rfl) rfl
theorem q705 : (Jvm.Cond.instanceMethod ({ cls := "Weaveword$Text", name := "value", desc := "(I)I" } : Jvm.MethodName)) ∈ lw_all := lw_g (lw_at lw_m3 126 rfl) rfl
theorem q706 : (Jvm.Cond.selects "Weaveword$Text" ({ cls := "Weaveword$Text", name := "value", desc := "(I)I" } : Jvm.MethodName) ({ cls := "Weaveword$Text", name := "value", desc := "(I)I" } : Jvm.MethodName)) ∈ lw_all := lw_g (lw_at lw_m3 127 rfl) rfl
theorem q707 : (Jvm.Cond.code ({ cls := "Weaveword$Text", name := "value", desc := "(I)I" } : Jvm.MethodName) prog_11_method_5_code (2 : Nat) (Option.some Jvm.ClassFile.FieldType.int)) ∈ lw_all := lw_g (lw_at lw_m3 128 rfl) rfl
theorem q808 : (Jvm.Cond.static ({ cls := "Weaveword$Text", name := "of", desc := "(Ljava/util/List;)LWeaveword$Text;" } : Jvm.MethodName)) ∈ lw_all := lw_g (lw_at lw_m3 229 rfl) rfl
theorem q809 : (Jvm.Cond.code ({ cls := "Weaveword$Text", name := "of", desc := "(Ljava/util/List;)LWeaveword$Text;" } : Jvm.MethodName) prog_11_method_2_code (3 : Nat) (Option.some (Jvm.ClassFile.FieldType.object "Weaveword$Text"))) ∈ lw_all := lw_g (lw_at lw_m3 230 rfl) rfl
theorem q810 : (Jvm.Cond.interfaceEntry "Weaveword$Text" (15 : Nat)) ∈ lw_tbl := lw_at lw_m3 231 rfl
theorem q811 : (Jvm.Cond.methodLink "Weaveword$Text" (15 : Nat) ({ cls := "java/util/List", name := "size", desc := "()I" } : Jvm.MethodName)) ∈ lw_all := lw_g (lw_at lw_m3 232 rfl) rfl
theorem q812 : (Jvm.Cond.interfaceEntry "Weaveword$Text" (21 : Nat)) ∈ lw_tbl := lw_at lw_m3 233 rfl
theorem q813 : (Jvm.Cond.methodLink "Weaveword$Text" (21 : Nat) ({ cls := "java/util/List", name := "get", desc := "(I)Ljava/lang/Object;" } : Jvm.MethodName)) ∈ lw_all := lw_g (lw_at lw_m3 234 rfl) rfl
theorem q814 : (Jvm.Cond.classLink "Weaveword$Text" (25 : Nat) "java/lang/Integer") ∈ lw_all := lw_g (lw_at lw_m3 235 rfl) rfl
theorem q815 : (Jvm.Cond.methodLink "Weaveword$Text" (27 : Nat) ({ cls := "java/lang/Integer", name := "intValue", desc := "()I" } : Jvm.MethodName)) ∈ lw_all := lw_g (lw_at lw_m3 236 rfl) rfl
theorem q819 : (Jvm.Cond.classLink "Weaveword$Text" (10 : Nat) "Weaveword$Text") ∈ lw_all := lw_g (lw_at lw_m4 0 rfl) rfl
theorem q820 : (Jvm.Cond.instantiable "Weaveword$Text" (1 : Nat)) ∈ lw_all := lw_g (lw_at lw_m4 1 rfl) rfl
theorem q821 : (Jvm.Cond.methodLink "Weaveword$Text" (30 : Nat) ({ cls := "Weaveword$Text", name := "<init>", desc := "([I)V" } : Jvm.MethodName)) ∈ lw_all := lw_g (lw_at lw_m4 2 rfl) rfl
theorem q822 : (Jvm.Cond.instanceMethod ({ cls := "Weaveword$Text", name := "<init>", desc := "([I)V" } : Jvm.MethodName)) ∈ lw_all := lw_g (lw_at lw_m4 3 rfl) rfl
theorem q823 : (Jvm.Cond.code ({ cls := "Weaveword$Text", name := "<init>", desc := "([I)V" } : Jvm.MethodName) prog_11_method_1_code (2 : Nat) (Option.none : Option Jvm.ClassFile.FieldType)) ∈ lw_all := lw_g (lw_at lw_m4 4 rfl) rfl
theorem q824 : (Jvm.Cond.methodLink "Weaveword$Text" (3 : Nat) ({ cls := "java/lang/Object", name := "<init>", desc := "()V" } : Jvm.MethodName)) ∈ lw_all := lw_g (lw_at lw_m4 5 rfl) rfl
theorem q825 : (Jvm.Cond.fieldLink "Weaveword$Text" (9 : Nat) "Weaveword$Text" "tokens" "[I") ∈ lw_all := lw_g (lw_at lw_m4 6 rfl) rfl
theorem q827 : (Jvm.Cond.laysFinal "Weaveword$Text" "Weaveword$Text" "tokens" "[I") ∈ lw_all := lw_g (lw_at lw_m4 8 rfl) rfl
theorem q828 : (Jvm.Cond.soleField "Weaveword$Text" "tokens") ∈ lw_all := lw_g (lw_at lw_m4 9 rfl) rfl
theorem q829 : (Jvm.Cond.superclass "Weaveword$Text" "java/lang/Object") ∈ lw_all := lw_g (lw_at lw_m4 10 rfl) rfl
theorem q831 : (Jvm.Cond.instanceMethod ({ cls := "Weaveword$Text", name := "isText", desc := "()Z" } : Jvm.MethodName)) ∈ lw_all := lw_g (lw_at lw_m4 12 rfl) rfl
theorem q832 : (Jvm.Cond.selects "Weaveword$Text" ({ cls := "Weaveword$Text", name := "isText", desc := "()Z" } : Jvm.MethodName) ({ cls := "Weaveword$Text", name := "isText", desc := "()Z" } : Jvm.MethodName)) ∈ lw_all := lw_g (lw_at lw_m4 13 rfl) rfl
theorem q833 : (Jvm.Cond.code ({ cls := "Weaveword$Text", name := "isText", desc := "()Z" } : Jvm.MethodName) prog_11_method_9_code (7 : Nat) (Option.some Jvm.ClassFile.FieldType.boolean)) ∈ lw_all := lw_g (lw_at lw_m4 14 rfl) rfl
theorem q834 : (Jvm.Cond.methodLink "Weaveword$Text" (33 : Nat) ({ cls := "Weaveword$Text", name := "size", desc := "()I" } : Jvm.MethodName)) ∈ lw_all := lw_g (lw_at lw_m4 15 rfl) rfl
theorem q835 : (Jvm.Cond.instanceMethod ({ cls := "Weaveword$Text", name := "size", desc := "()I" } : Jvm.MethodName)) ∈ lw_all := lw_g (lw_at lw_m4 16 rfl) rfl
theorem q836 : (Jvm.Cond.selects "Weaveword$Text" ({ cls := "Weaveword$Text", name := "size", desc := "()I" } : Jvm.MethodName) ({ cls := "Weaveword$Text", name := "size", desc := "()I" } : Jvm.MethodName)) ∈ lw_all := lw_g (lw_at lw_m4 17 rfl) rfl
theorem q837 : (Jvm.Cond.code ({ cls := "Weaveword$Text", name := "size", desc := "()I" } : Jvm.MethodName) prog_11_method_3_code (1 : Nat) (Option.some Jvm.ClassFile.FieldType.int)) ∈ lw_all := lw_g (lw_at lw_m4 18 rfl) rfl
theorem q838 : (Jvm.Cond.methodLink "Weaveword$Text" (38 : Nat) ({ cls := "Weaveword$Text", name := "isOpening", desc := "(I)Z" } : Jvm.MethodName)) ∈ lw_all := lw_g (lw_at lw_m4 19 rfl) rfl
theorem q839 : (Jvm.Cond.static ({ cls := "Weaveword$Text", name := "isOpening", desc := "(I)Z" } : Jvm.MethodName)) ∈ lw_all := lw_g (lw_at lw_m4 20 rfl) rfl
theorem q840 : (Jvm.Cond.code ({ cls := "Weaveword$Text", name := "isOpening", desc := "(I)Z" } : Jvm.MethodName) prog_11_method_6_code (1 : Nat) (Option.some Jvm.ClassFile.FieldType.boolean)) ∈ lw_all := lw_g (lw_at lw_m4 21 rfl) rfl
theorem q841 : (Jvm.Cond.methodLink "Weaveword$Text" (42 : Nat) ({ cls := "Weaveword$Text", name := "canBe", desc := "(III)Z" } : Jvm.MethodName)) ∈ lw_all := lw_g (lw_at lw_m4 22 rfl) rfl
theorem q842 : (Jvm.Cond.privateMethod ({ cls := "Weaveword$Text", name := "canBe", desc := "(III)Z" } : Jvm.MethodName)) ∈ lw_tbl := lw_at lw_m4 23 rfl
theorem q843 : (Jvm.Cond.instanceMethod ({ cls := "Weaveword$Text", name := "canBe", desc := "(III)Z" } : Jvm.MethodName)) ∈ lw_all := lw_g (lw_at lw_m4 24 rfl) rfl
theorem q844 : (Jvm.Cond.code ({ cls := "Weaveword$Text", name := "canBe", desc := "(III)Z" } : Jvm.MethodName) prog_11_method_8_code (8 : Nat) (Option.some Jvm.ClassFile.FieldType.boolean)) ∈ lw_all := lw_g (lw_at lw_m4 25 rfl) rfl
theorem q955 : (Jvm.Cond.instanceMethod ({ cls := "Weaveword$Text", name := "sections", desc := "()Ljava/util/List;" } : Jvm.MethodName)) ∈ lw_all := lw_g (lw_at lw_m4 136 rfl) rfl
theorem q956 : (Jvm.Cond.selects "Weaveword$Text" ({ cls := "Weaveword$Text", name := "sections", desc := "()Ljava/util/List;" } : Jvm.MethodName) ({ cls := "Weaveword$Text", name := "sections", desc := "()Ljava/util/List;" } : Jvm.MethodName)) ∈ lw_all := lw_g (lw_at lw_m4 137 rfl) rfl
theorem q957 : (Jvm.Cond.code ({ cls := "Weaveword$Text", name := "sections", desc := "()Ljava/util/List;" } : Jvm.MethodName) prog_11_method_12_code (7 : Nat) (Option.some (Jvm.ClassFile.FieldType.object "java/util/List"))) ∈ lw_all := lw_g (lw_at lw_m4 138 rfl) rfl
theorem q958 : (Jvm.Cond.classLink "Weaveword$Text" (46 : Nat) "java/util/ArrayList") ∈ lw_all := lw_g (lw_at lw_m4 139 rfl) rfl
theorem q959 : (Jvm.Cond.methodLink "Weaveword$Text" (48 : Nat) ({ cls := "java/util/ArrayList", name := "<init>", desc := "()V" } : Jvm.MethodName)) ∈ lw_all := lw_g (lw_at lw_m4 140 rfl) rfl
theorem q960 : (Jvm.Cond.methodLink "Weaveword$Text" (49 : Nat) ({ cls := "Weaveword$Text", name := "of", desc := "(Ljava/util/List;)LWeaveword$Text;" } : Jvm.MethodName)) ∈ lw_all := lw_g (lw_at lw_m4 141 rfl) rfl
theorem q961 : (Jvm.Cond.interfaceEntry "Weaveword$Text" (53 : Nat)) ∈ lw_tbl := lw_at lw_m4 142 rfl
theorem q962 : (Jvm.Cond.methodLink "Weaveword$Text" (53 : Nat) ({ cls := "java/util/List", name := "add", desc := "(Ljava/lang/Object;)Z" } : Jvm.MethodName)) ∈ lw_all := lw_g (lw_at lw_m4 143 rfl) rfl
theorem q963 : (Jvm.Cond.interfaceEntry "Weaveword$Text" (57 : Nat)) ∈ lw_tbl := lw_at lw_m4 144 rfl
theorem q964 : (Jvm.Cond.methodLink "Weaveword$Text" (57 : Nat) ({ cls := "java/util/List", name := "clear", desc := "()V" } : Jvm.MethodName)) ∈ lw_all := lw_g (lw_at lw_m4 145 rfl) rfl
theorem q965 : (Jvm.Cond.methodLink "Weaveword$Text" (60 : Nat) ({ cls := "java/lang/Integer", name := "valueOf", desc := "(I)Ljava/lang/Integer;" } : Jvm.MethodName)) ∈ lw_all := lw_g (lw_at lw_m4 146 rfl) rfl
theorem q977 : (Jvm.Cond.static ({ cls := "Weaveword$Text", name := "joined", desc := "(Ljava/util/List;)LWeaveword$Text;" } : Jvm.MethodName)) ∈ lw_all := lw_g (lw_at lw_m4 158 rfl) rfl
theorem q978 : (Jvm.Cond.code ({ cls := "Weaveword$Text", name := "joined", desc := "(Ljava/util/List;)LWeaveword$Text;" } : Jvm.MethodName) prog_11_method_13_code (8 : Nat) (Option.some (Jvm.ClassFile.FieldType.object "Weaveword$Text"))) ∈ lw_all := lw_g (lw_at lw_m4 159 rfl) rfl
theorem q979 : (Jvm.Cond.interfaceEntry "Weaveword$Text" (64 : Nat)) ∈ lw_tbl := lw_at lw_m4 160 rfl
theorem q980 : (Jvm.Cond.methodLink "Weaveword$Text" (64 : Nat) ({ cls := "java/util/List", name := "iterator", desc := "()Ljava/util/Iterator;" } : Jvm.MethodName)) ∈ lw_all := lw_g (lw_at lw_m4 161 rfl) rfl
theorem q1007 : (Jvm.Cond.interfaceEntry "Weaveword$Text" (68 : Nat)) ∈ lw_tbl := lw_at lw_m4 188 rfl
theorem q1008 : (Jvm.Cond.methodLink "Weaveword$Text" (68 : Nat) ({ cls := "java/util/Iterator", name := "hasNext", desc := "()Z" } : Jvm.MethodName)) ∈ lw_all := lw_g (lw_at lw_m4 189 rfl) rfl
theorem q1017 : (Jvm.Cond.interfaceEntry "Weaveword$Text" (74 : Nat)) ∈ lw_tbl := lw_at lw_m4 198 rfl
theorem q1018 : (Jvm.Cond.methodLink "Weaveword$Text" (74 : Nat) ({ cls := "java/util/Iterator", name := "next", desc := "()Ljava/lang/Object;" } : Jvm.MethodName)) ∈ lw_all := lw_g (lw_at lw_m4 199 rfl) rfl
theorem q1035 : (Jvm.Cond.instanceMethod ({ cls := "Weaveword$Text", name := "isSame", desc := "(LWeaveword$Text;)Z" } : Jvm.MethodName)) ∈ lw_all := lw_g (lw_at lw_m4 216 rfl) rfl
theorem q1036 : (Jvm.Cond.selects "Weaveword$Text" ({ cls := "Weaveword$Text", name := "isSame", desc := "(LWeaveword$Text;)Z" } : Jvm.MethodName) ({ cls := "Weaveword$Text", name := "isSame", desc := "(LWeaveword$Text;)Z" } : Jvm.MethodName)) ∈ lw_all := lw_g (lw_at lw_m4 217 rfl) rfl
theorem q1037 : (Jvm.Cond.code ({ cls := "Weaveword$Text", name := "isSame", desc := "(LWeaveword$Text;)Z" } : Jvm.MethodName) prog_11_method_10_code (4 : Nat) (Option.some Jvm.ClassFile.FieldType.boolean)) ∈ lw_all := lw_g (lw_at lw_m4 218 rfl) rfl
theorem q1099 : (Jvm.Cond.instanceMethod ({ cls := "Weaveword$Text", name := "leadsTo", desc := "([Z)Z" } : Jvm.MethodName)) ∈ lw_all := lw_g (lw_at lw_m5 40 rfl) rfl
theorem q1100 : (Jvm.Cond.selects "Weaveword$Text" ({ cls := "Weaveword$Text", name := "leadsTo", desc := "([Z)Z" } : Jvm.MethodName) ({ cls := "Weaveword$Text", name := "leadsTo", desc := "([Z)Z" } : Jvm.MethodName)) ∈ lw_all := lw_g (lw_at lw_m5 41 rfl) rfl
theorem q1101 : (Jvm.Cond.code ({ cls := "Weaveword$Text", name := "leadsTo", desc := "([Z)Z" } : Jvm.MethodName) prog_11_method_14_code (4 : Nat) (Option.some Jvm.ClassFile.FieldType.boolean)) ∈ lw_all := lw_g (lw_at lw_m5 42 rfl) rfl
theorem q1102 : (Jvm.Cond.methodLink "Weaveword$Text" (78 : Nat) ({ cls := "Weaveword$Text", name := "value", desc := "(I)I" } : Jvm.MethodName)) ∈ lw_all := lw_g (lw_at lw_m5 43 rfl) rfl
theorem q1105 : (Jvm.Cond.instanceMethod ({ cls := "Weaveword$Text", name := "moved", desc := "([ZI)LWeaveword$Text;" } : Jvm.MethodName)) ∈ lw_all := lw_g (lw_at lw_m5 46 rfl) rfl
theorem q1106 : (Jvm.Cond.selects "Weaveword$Text" ({ cls := "Weaveword$Text", name := "moved", desc := "([ZI)LWeaveword$Text;" } : Jvm.MethodName) ({ cls := "Weaveword$Text", name := "moved", desc := "([ZI)LWeaveword$Text;" } : Jvm.MethodName)) ∈ lw_all := lw_g (lw_at lw_m5 47 rfl) rfl
theorem q1107 : (Jvm.Cond.code ({ cls := "Weaveword$Text", name := "moved", desc := "([ZI)LWeaveword$Text;" } : Jvm.MethodName) prog_11_method_15_code (6 : Nat) (Option.some (Jvm.ClassFile.FieldType.object "Weaveword$Text"))) ∈ lw_all := lw_g (lw_at lw_m5 48 rfl) rfl
theorem q1263 : (Jvm.Cond.instanceMethod ({ cls := "Weaveword$Text", name := "closing", desc := "(I)I" } : Jvm.MethodName)) ∈ lw_all := lw_g (lw_at lw_m5 204 rfl) rfl
theorem q1264 : (Jvm.Cond.selects "Weaveword$Text" ({ cls := "Weaveword$Text", name := "closing", desc := "(I)I" } : Jvm.MethodName) ({ cls := "Weaveword$Text", name := "closing", desc := "(I)I" } : Jvm.MethodName)) ∈ lw_all := lw_g (lw_at lw_m5 205 rfl) rfl
theorem q1265 : (Jvm.Cond.code ({ cls := "Weaveword$Text", name := "closing", desc := "(I)I" } : Jvm.MethodName) prog_11_method_7_code (4 : Nat) (Option.some Jvm.ClassFile.FieldType.int)) ∈ lw_all := lw_g (lw_at lw_m5 206 rfl) rfl
theorem q2299 : (Jvm.Cond.castable "Weaveword$Text" "java/lang/Object") ∈ lw_tbl := lw_at lw_m10 40 rfl
theorem q128 : (Jvm.Cond.initialized "Weaveword$Page") ∈ lw_all := lw_g (lw_at lw_m1 29 rfl) rfl
theorem q239 : (Jvm.Cond.selects "Weaveword$Page" ({ cls := "java/lang/Object", name := "getClass", desc := "()Ljava/lang/Class;" } : Jvm.MethodName) ({ cls := "java/lang/Object", name := "getClass", desc := "()Ljava/lang/Class;" } : Jvm.MethodName)) ∈ lw_all := lw_g (lw_at lw_m1 140 rfl) rfl
theorem q671 : (Jvm.Cond.instanceMethod ({ cls := "Weaveword$Page", name := "present", desc := "()LWeaveword$Version;" } : Jvm.MethodName)) ∈ lw_all := lw_g (lw_at lw_m3 92 rfl) rfl
theorem q672 : (Jvm.Cond.selects "Weaveword$Page" ({ cls := "Weaveword$Page", name := "present", desc := "()LWeaveword$Version;" } : Jvm.MethodName) ({ cls := "Weaveword$Page", name := "present", desc := "()LWeaveword$Version;" } : Jvm.MethodName)) ∈ lw_all := lw_g (lw_at lw_m3 93 rfl) rfl
theorem q673 : (Jvm.Cond.code ({ cls := "Weaveword$Page", name := "present", desc := "()LWeaveword$Version;" } : Jvm.MethodName) prog_6_method_2_code (1 : Nat) (Option.some (Jvm.ClassFile.FieldType.object "Weaveword$Version"))) ∈ lw_all := lw_g (lw_at lw_m3 94 rfl) rfl
theorem q674 : (Jvm.Cond.interfaceEntry "Weaveword$Page" (21 : Nat)) ∈ lw_tbl := lw_at lw_m3 95 rfl
theorem q675 : (Jvm.Cond.methodLink "Weaveword$Page" (21 : Nat) ({ cls := "java/util/List", name := "size", desc := "()I" } : Jvm.MethodName)) ∈ lw_all := lw_g (lw_at lw_m3 96 rfl) rfl
theorem q676 : (Jvm.Cond.interfaceEntry "Weaveword$Page" (27 : Nat)) ∈ lw_tbl := lw_at lw_m3 97 rfl
theorem q677 : (Jvm.Cond.methodLink "Weaveword$Page" (27 : Nat) ({ cls := "java/util/List", name := "get", desc := "(I)Ljava/lang/Object;" } : Jvm.MethodName)) ∈ lw_all := lw_g (lw_at lw_m3 98 rfl) rfl
theorem q695 : (Jvm.Cond.classLink "Weaveword$Page" (31 : Nat) "Weaveword$Version") ∈ lw_all := lw_g (lw_at lw_m3 116 rfl) rfl
theorem q846 : (Jvm.Cond.instantiable "Weaveword$Page" (2 : Nat)) ∈ lw_all := lw_g (lw_at lw_m4 27 rfl) rfl
theorem q848 : (Jvm.Cond.instanceMethod ({ cls := "Weaveword$Page", name := "<init>", desc := "()V" } : Jvm.MethodName)) ∈ lw_all := lw_g (lw_at lw_m4 29 rfl) rfl
theorem q849 : (Jvm.Cond.code ({ cls := "Weaveword$Page", name := "<init>", desc := "()V" } : Jvm.MethodName) prog_6_method_1_code (1 : Nat) (Option.none : Option Jvm.ClassFile.FieldType)) ∈ lw_all := lw_g (lw_at lw_m4 30 rfl) rfl
theorem q850 : (Jvm.Cond.methodLink "Weaveword$Page" (3 : Nat) ({ cls := "java/lang/Object", name := "<init>", desc := "()V" } : Jvm.MethodName)) ∈ lw_all := lw_g (lw_at lw_m4 31 rfl) rfl
theorem q851 : (Jvm.Cond.classLink "Weaveword$Page" (9 : Nat) "java/util/ArrayList") ∈ lw_all := lw_g (lw_at lw_m4 32 rfl) rfl
theorem q852 : (Jvm.Cond.methodLink "Weaveword$Page" (11 : Nat) ({ cls := "java/util/ArrayList", name := "<init>", desc := "()V" } : Jvm.MethodName)) ∈ lw_all := lw_g (lw_at lw_m4 33 rfl) rfl
theorem q853 : (Jvm.Cond.fieldLink "Weaveword$Page" (12 : Nat) "Weaveword$Page" "versions" "Ljava/util/List;") ∈ lw_all := lw_g (lw_at lw_m4 34 rfl) rfl
theorem q855 : (Jvm.Cond.fieldLink "Weaveword$Page" (18 : Nat) "Weaveword$Page" "approvals" "Ljava/util/List;") ∈ lw_all := lw_g (lw_at lw_m4 36 rfl) rfl
theorem q857 : (Jvm.Cond.laysFinal "Weaveword$Page" "Weaveword$Page" "versions" "Ljava/util/List;") ∈ lw_all := lw_g (lw_at lw_m4 38 rfl) rfl
theorem q858 : (Jvm.Cond.soleField "Weaveword$Page" "versions") ∈ lw_all := lw_g (lw_at lw_m4 39 rfl) rfl
theorem q859 : (Jvm.Cond.laysFinal "Weaveword$Page" "Weaveword$Page" "approvals" "Ljava/util/List;") ∈ lw_all := lw_g (lw_at lw_m4 40 rfl) rfl
theorem q860 : (Jvm.Cond.soleField "Weaveword$Page" "approvals") ∈ lw_all := lw_g (lw_at lw_m4 41 rfl) rfl
theorem q861 : (Jvm.Cond.superclass "Weaveword$Page" "java/lang/Object") ∈ lw_all := lw_g (lw_at lw_m4 42 rfl) rfl
theorem q877 : (Jvm.Cond.fieldLinkNest "Weaveword$Page" (45 : Nat) "Weaveword$Version" "number" "I" "Weaveword") ∈ lw_tbl := lw_at lw_m4 58 rfl
theorem q880 : (Jvm.Cond.fieldLinkNest "Weaveword$Page" (33 : Nat) "Weaveword$Version" "time" "I" "Weaveword") ∈ lw_tbl := lw_at lw_m4 61 rfl
theorem q892 : (Jvm.Cond.instanceMethod ({ cls := "Weaveword$Page", name := "gets", desc := "(LWeaveword$Version;)Z" } : Jvm.MethodName)) ∈ lw_all := lw_g (lw_at lw_m4 73 rfl) rfl
theorem q893 : (Jvm.Cond.selects "Weaveword$Page" ({ cls := "Weaveword$Page", name := "gets", desc := "(LWeaveword$Version;)Z" } : Jvm.MethodName) ({ cls := "Weaveword$Page", name := "gets", desc := "(LWeaveword$Version;)Z" } : Jvm.MethodName)) ∈ lw_all := lw_g (lw_at lw_m4 74 rfl) rfl
theorem q894 : (Jvm.Cond.code ({ cls := "Weaveword$Page", name := "gets", desc := "(LWeaveword$Version;)Z" } : Jvm.MethodName) prog_6_method_3_code (3 : Nat) (Option.some Jvm.ClassFile.FieldType.boolean)) ∈ lw_all := lw_g (lw_at lw_m4 75 rfl) rfl
theorem q895 : (Jvm.Cond.interfaceEntry "Weaveword$Page" (37 : Nat)) ∈ lw_tbl := lw_at lw_m4 76 rfl
theorem q896 : (Jvm.Cond.methodLink "Weaveword$Page" (37 : Nat) ({ cls := "java/util/List", name := "add", desc := "(ILjava/lang/Object;)V" } : Jvm.MethodName)) ∈ lw_all := lw_g (lw_at lw_m4 77 rfl) rfl
theorem q922 : (Jvm.Cond.methodLink "Weaveword$Page" (41 : Nat) ({ cls := "Weaveword$Page", name := "present", desc := "()LWeaveword$Version;" } : Jvm.MethodName)) ∈ lw_all := lw_g (lw_at lw_m4 103 rfl) rfl
theorem q947 : (Jvm.Cond.instanceMethod ({ cls := "Weaveword$Page", name := "placeOf", desc := "(I)I" } : Jvm.MethodName)) ∈ lw_all := lw_g (lw_at lw_m4 128 rfl) rfl
theorem q948 : (Jvm.Cond.selects "Weaveword$Page" ({ cls := "Weaveword$Page", name := "placeOf", desc := "(I)I" } : Jvm.MethodName) ({ cls := "Weaveword$Page", name := "placeOf", desc := "(I)I" } : Jvm.MethodName)) ∈ lw_all := lw_g (lw_at lw_m4 129 rfl) rfl
theorem q949 : (Jvm.Cond.code ({ cls := "Weaveword$Page", name := "placeOf", desc := "(I)I" } : Jvm.MethodName) prog_6_method_4_code (3 : Nat) (Option.some Jvm.ClassFile.FieldType.int)) ∈ lw_all := lw_g (lw_at lw_m4 130 rfl) rfl
theorem q1123 : (Jvm.Cond.fieldLinkNest "Weaveword$Page" (65 : Nat) "Weaveword$Approval" "version" "LWeaveword$Version;" "Weaveword") ∈ lw_tbl := lw_at lw_m5 64 rfl
theorem q1126 : (Jvm.Cond.fieldLinkNest "Weaveword$Page" (64 : Nat) "Weaveword$Approval" "time" "I" "Weaveword") ∈ lw_tbl := lw_at lw_m5 67 rfl
theorem q1290 : (Jvm.Cond.instanceMethod ({ cls := "Weaveword$Page", name := "approved", desc := "(I)LWeaveword$Version;" } : Jvm.MethodName)) ∈ lw_all := lw_g (lw_at lw_m5 231 rfl) rfl
theorem q1291 : (Jvm.Cond.selects "Weaveword$Page" ({ cls := "Weaveword$Page", name := "approved", desc := "(I)LWeaveword$Version;" } : Jvm.MethodName) ({ cls := "Weaveword$Page", name := "approved", desc := "(I)LWeaveword$Version;" } : Jvm.MethodName)) ∈ lw_all := lw_g (lw_at lw_m5 232 rfl) rfl
theorem q1292 : (Jvm.Cond.code ({ cls := "Weaveword$Page", name := "approved", desc := "(I)LWeaveword$Version;" } : Jvm.MethodName) prog_6_method_5_code (5 : Nat) (Option.some (Jvm.ClassFile.FieldType.object "Weaveword$Version"))) ∈ lw_all := lw_g (lw_at lw_m5 233 rfl) rfl
theorem q1293 : (Jvm.Cond.interfaceEntry "Weaveword$Page" (48 : Nat)) ∈ lw_tbl := lw_at lw_m5 234 rfl
theorem q1294 : (Jvm.Cond.methodLink "Weaveword$Page" (48 : Nat) ({ cls := "java/util/List", name := "iterator", desc := "()Ljava/util/Iterator;" } : Jvm.MethodName)) ∈ lw_all := lw_g (lw_at lw_m5 235 rfl) rfl
theorem q1295 : (Jvm.Cond.interfaceEntry "Weaveword$Page" (52 : Nat)) ∈ lw_tbl := lw_at lw_m5 236 rfl
theorem q1296 : (Jvm.Cond.methodLink "Weaveword$Page" (52 : Nat) ({ cls := "java/util/Iterator", name := "hasNext", desc := "()Z" } : Jvm.MethodName)) ∈ lw_all := lw_g (lw_at lw_m5 237 rfl) rfl
theorem q1297 : (Jvm.Cond.interfaceEntry "Weaveword$Page" (58 : Nat)) ∈ lw_tbl := lw_at lw_m5 238 rfl
theorem q1298 : (Jvm.Cond.methodLink "Weaveword$Page" (58 : Nat) ({ cls := "java/util/Iterator", name := "next", desc := "()Ljava/lang/Object;" } : Jvm.MethodName)) ∈ lw_all := lw_g (lw_at lw_m5 239 rfl) rfl
theorem q1299 : (Jvm.Cond.classLink "Weaveword$Page" (62 : Nat) "Weaveword$Approval") ∈ lw_all := lw_g (lw_at lw_m6 0 rfl) rfl
theorem q2284 : (Jvm.Cond.castable "Weaveword$Page" "java/lang/Object") ∈ lw_tbl := lw_at lw_m10 25 rfl
theorem q129 : (Jvm.Cond.initialized "Weaveword$Version") ∈ lw_all := lw_g (lw_at lw_m1 30 rfl) rfl
theorem q246 : (Jvm.Cond.selects "Weaveword$Version" ({ cls := "java/lang/Object", name := "getClass", desc := "()Ljava/lang/Class;" } : Jvm.MethodName) ({ cls := "java/lang/Object", name := "getClass", desc := "()Ljava/lang/Class;" } : Jvm.MethodName)) ∈ lw_all := lw_g (lw_at lw_m1 147 rfl) rfl
theorem q871 : (Jvm.Cond.instantiable "Weaveword$Version" (3 : Nat)) ∈ lw_all := lw_g (lw_at lw_m4 52 rfl) rfl
theorem q873 : (Jvm.Cond.instanceMethod ({ cls := "Weaveword$Version", name := "<init>", desc := "(IILWeaveword$Text;)V" } : Jvm.MethodName)) ∈ lw_all := lw_g (lw_at lw_m4 54 rfl) rfl
theorem q874 : (Jvm.Cond.code ({ cls := "Weaveword$Version", name := "<init>", desc := "(IILWeaveword$Text;)V" } : Jvm.MethodName) prog_13_method_1_code (4 : Nat) (Option.none : Option Jvm.ClassFile.FieldType)) ∈ lw_all := lw_g (lw_at lw_m4 55 rfl) rfl
theorem q875 : (Jvm.Cond.methodLink "Weaveword$Version" (1 : Nat) ({ cls := "java/lang/Object", name := "<init>", desc := "()V" } : Jvm.MethodName)) ∈ lw_all := lw_g (lw_at lw_m4 56 rfl) rfl
theorem q876 : (Jvm.Cond.fieldLink "Weaveword$Version" (7 : Nat) "Weaveword$Version" "number" "I") ∈ lw_all := lw_g (lw_at lw_m4 57 rfl) rfl
theorem q879 : (Jvm.Cond.fieldLink "Weaveword$Version" (13 : Nat) "Weaveword$Version" "time" "I") ∈ lw_all := lw_g (lw_at lw_m4 60 rfl) rfl
theorem q881 : (Jvm.Cond.fieldLink "Weaveword$Version" (16 : Nat) "Weaveword$Version" "text" "LWeaveword$Text;") ∈ lw_all := lw_g (lw_at lw_m4 62 rfl) rfl
theorem q884 : (Jvm.Cond.laysFinal "Weaveword$Version" "Weaveword$Version" "number" "I") ∈ lw_all := lw_g (lw_at lw_m4 65 rfl) rfl
theorem q885 : (Jvm.Cond.soleField "Weaveword$Version" "number") ∈ lw_all := lw_g (lw_at lw_m4 66 rfl) rfl
theorem q886 : (Jvm.Cond.laysFinal "Weaveword$Version" "Weaveword$Version" "time" "I") ∈ lw_all := lw_g (lw_at lw_m4 67 rfl) rfl
theorem q887 : (Jvm.Cond.soleField "Weaveword$Version" "time") ∈ lw_all := lw_g (lw_at lw_m4 68 rfl) rfl
theorem q888 : (Jvm.Cond.laysFinal "Weaveword$Version" "Weaveword$Version" "text" "LWeaveword$Text;") ∈ lw_all := lw_g (lw_at lw_m4 69 rfl) rfl
theorem q889 : (Jvm.Cond.soleField "Weaveword$Version" "text") ∈ lw_all := lw_g (lw_at lw_m4 70 rfl) rfl
theorem q890 : (Jvm.Cond.superclass "Weaveword$Version" "java/lang/Object") ∈ lw_all := lw_g (lw_at lw_m4 71 rfl) rfl
theorem q2300 : (Jvm.Cond.castable "Weaveword$Version" "java/lang/Object") ∈ lw_tbl := lw_at lw_m10 41 rfl
theorem q131 : (Jvm.Cond.initialized "Weaveword$Approval") ∈ lw_all := lw_g (lw_at lw_m1 32 rfl) rfl
theorem q235 : (Jvm.Cond.selects "Weaveword$Approval" ({ cls := "java/lang/Object", name := "getClass", desc := "()Ljava/lang/Class;" } : Jvm.MethodName) ({ cls := "java/lang/Object", name := "getClass", desc := "()Ljava/lang/Class;" } : Jvm.MethodName)) ∈ lw_all := lw_g (lw_at lw_m1 136 rfl) rfl
theorem q1117 : (Jvm.Cond.instantiable "Weaveword$Approval" (2 : Nat)) ∈ lw_all := lw_g (lw_at lw_m5 58 rfl) rfl
theorem q1119 : (Jvm.Cond.instanceMethod ({ cls := "Weaveword$Approval", name := "<init>", desc := "(LWeaveword$Version;I)V" } : Jvm.MethodName)) ∈ lw_all := lw_g (lw_at lw_m5 60 rfl) rfl
theorem q1120 : (Jvm.Cond.code ({ cls := "Weaveword$Approval", name := "<init>", desc := "(LWeaveword$Version;I)V" } : Jvm.MethodName) prog_2_method_1_code (3 : Nat) (Option.none : Option Jvm.ClassFile.FieldType)) ∈ lw_all := lw_g (lw_at lw_m5 61 rfl) rfl
theorem q1121 : (Jvm.Cond.methodLink "Weaveword$Approval" (1 : Nat) ({ cls := "java/lang/Object", name := "<init>", desc := "()V" } : Jvm.MethodName)) ∈ lw_all := lw_g (lw_at lw_m5 62 rfl) rfl
theorem q1122 : (Jvm.Cond.fieldLink "Weaveword$Approval" (7 : Nat) "Weaveword$Approval" "version" "LWeaveword$Version;") ∈ lw_all := lw_g (lw_at lw_m5 63 rfl) rfl
theorem q1125 : (Jvm.Cond.fieldLink "Weaveword$Approval" (13 : Nat) "Weaveword$Approval" "time" "I") ∈ lw_all := lw_g (lw_at lw_m5 66 rfl) rfl
theorem q1128 : (Jvm.Cond.laysFinal "Weaveword$Approval" "Weaveword$Approval" "version" "LWeaveword$Version;") ∈ lw_all := lw_g (lw_at lw_m5 69 rfl) rfl
theorem q1129 : (Jvm.Cond.soleField "Weaveword$Approval" "version") ∈ lw_all := lw_g (lw_at lw_m5 70 rfl) rfl
theorem q1130 : (Jvm.Cond.laysFinal "Weaveword$Approval" "Weaveword$Approval" "time" "I") ∈ lw_all := lw_g (lw_at lw_m5 71 rfl) rfl
theorem q1131 : (Jvm.Cond.soleField "Weaveword$Approval" "time") ∈ lw_all := lw_g (lw_at lw_m5 72 rfl) rfl
theorem q1132 : (Jvm.Cond.superclass "Weaveword$Approval" "java/lang/Object") ∈ lw_all := lw_g (lw_at lw_m5 73 rfl) rfl
theorem q2302 : (Jvm.Cond.castable "Weaveword$Approval" "java/lang/Object") ∈ lw_tbl := lw_at lw_m10 43 rfl
theorem q132 : (Jvm.Cond.initialized "Weaveword$Translation") ∈ lw_all := lw_g (lw_at lw_m1 33 rfl) rfl
theorem q245 : (Jvm.Cond.selects "Weaveword$Translation" ({ cls := "java/lang/Object", name := "getClass", desc := "()Ljava/lang/Class;" } : Jvm.MethodName) ({ cls := "java/lang/Object", name := "getClass", desc := "()Ljava/lang/Class;" } : Jvm.MethodName)) ∈ lw_all := lw_g (lw_at lw_m1 146 rfl) rfl
theorem q1144 : (Jvm.Cond.instantiable "Weaveword$Translation" (2 : Nat)) ∈ lw_all := lw_g (lw_at lw_m5 85 rfl) rfl
theorem q1146 : (Jvm.Cond.instanceMethod ({ cls := "Weaveword$Translation", name := "<init>", desc := "(II)V" } : Jvm.MethodName)) ∈ lw_all := lw_g (lw_at lw_m5 87 rfl) rfl
theorem q1147 : (Jvm.Cond.code ({ cls := "Weaveword$Translation", name := "<init>", desc := "(II)V" } : Jvm.MethodName) prog_12_method_1_code (3 : Nat) (Option.none : Option Jvm.ClassFile.FieldType)) ∈ lw_all := lw_g (lw_at lw_m5 88 rfl) rfl
theorem q1148 : (Jvm.Cond.methodLink "Weaveword$Translation" (1 : Nat) ({ cls := "java/lang/Object", name := "<init>", desc := "()V" } : Jvm.MethodName)) ∈ lw_all := lw_g (lw_at lw_m5 89 rfl) rfl
theorem q1149 : (Jvm.Cond.fieldLink "Weaveword$Translation" (7 : Nat) "Weaveword$Translation" "title" "I") ∈ lw_all := lw_g (lw_at lw_m5 90 rfl) rfl
theorem q1151 : (Jvm.Cond.fieldLink "Weaveword$Translation" (13 : Nat) "Weaveword$Translation" "base" "I") ∈ lw_all := lw_g (lw_at lw_m5 92 rfl) rfl
theorem q1153 : (Jvm.Cond.laysFinal "Weaveword$Translation" "Weaveword$Translation" "title" "I") ∈ lw_all := lw_g (lw_at lw_m5 94 rfl) rfl
theorem q1154 : (Jvm.Cond.soleField "Weaveword$Translation" "title") ∈ lw_all := lw_g (lw_at lw_m5 95 rfl) rfl
theorem q1155 : (Jvm.Cond.laysFinal "Weaveword$Translation" "Weaveword$Translation" "base" "I") ∈ lw_all := lw_g (lw_at lw_m5 96 rfl) rfl
theorem q1156 : (Jvm.Cond.soleField "Weaveword$Translation" "base") ∈ lw_all := lw_g (lw_at lw_m5 97 rfl) rfl
theorem q1157 : (Jvm.Cond.superclass "Weaveword$Translation" "java/lang/Object") ∈ lw_all := lw_g (lw_at lw_m5 98 rfl) rfl
theorem q2286 : (Jvm.Cond.castable "Weaveword$Translation" "java/lang/Object") ∈ lw_tbl := lw_at lw_m10 27 rfl
theorem q133 : (Jvm.Cond.initialized "Weaveword$Stored") ∈ lw_all := lw_g (lw_at lw_m1 34 rfl) rfl
theorem q243 : (Jvm.Cond.selects "Weaveword$Stored" ({ cls := "java/lang/Object", name := "getClass", desc := "()Ljava/lang/Class;" } : Jvm.MethodName) ({ cls := "java/lang/Object", name := "getClass", desc := "()Ljava/lang/Class;" } : Jvm.MethodName)) ∈ lw_all := lw_g (lw_at lw_m1 144 rfl) rfl
theorem q1198 : (Jvm.Cond.instantiable "Weaveword$Stored" (2 : Nat)) ∈ lw_all := lw_g (lw_at lw_m5 139 rfl) rfl
theorem q1494 : (Jvm.Cond.instanceMethod ({ cls := "Weaveword$Stored", name := "<init>", desc := "(LWeaveword$Rendering;)V" } : Jvm.MethodName)) ∈ lw_all := lw_g (lw_at lw_m6 195 rfl) rfl
theorem q1495 : (Jvm.Cond.code ({ cls := "Weaveword$Stored", name := "<init>", desc := "(LWeaveword$Rendering;)V" } : Jvm.MethodName) prog_10_method_1_code (2 : Nat) (Option.none : Option Jvm.ClassFile.FieldType)) ∈ lw_all := lw_g (lw_at lw_m6 196 rfl) rfl
theorem q1496 : (Jvm.Cond.methodLink "Weaveword$Stored" (1 : Nat) ({ cls := "java/lang/Object", name := "<init>", desc := "()V" } : Jvm.MethodName)) ∈ lw_all := lw_g (lw_at lw_m6 197 rfl) rfl
theorem q1497 : (Jvm.Cond.fieldLink "Weaveword$Stored" (7 : Nat) "Weaveword$Stored" "rendering" "LWeaveword$Rendering;") ∈ lw_all := lw_g (lw_at lw_m6 198 rfl) rfl
theorem q1500 : (Jvm.Cond.laysFinal "Weaveword$Stored" "Weaveword$Stored" "rendering" "LWeaveword$Rendering;") ∈ lw_all := lw_g (lw_at lw_m6 201 rfl) rfl
theorem q1501 : (Jvm.Cond.soleField "Weaveword$Stored" "rendering") ∈ lw_all := lw_g (lw_at lw_m6 202 rfl) rfl
theorem q1502 : (Jvm.Cond.lays "Weaveword$Stored" "Weaveword$Stored" "isStale" "Z") ∈ lw_all := lw_g (lw_at lw_m6 203 rfl) rfl
theorem q1503 : (Jvm.Cond.soleField "Weaveword$Stored" "isStale") ∈ lw_all := lw_g (lw_at lw_m6 204 rfl) rfl
theorem q1504 : (Jvm.Cond.superclass "Weaveword$Stored" "java/lang/Object") ∈ lw_all := lw_g (lw_at lw_m6 205 rfl) rfl
theorem q2285 : (Jvm.Cond.castable "Weaveword$Stored" "java/lang/Object") ∈ lw_tbl := lw_at lw_m10 26 rfl
theorem q99 : (Jvm.Cond.initialized "WeavewordLaw") ∈ lw_all := lw_g (lw_at lw_m1 0 rfl) rfl
theorem q139 : (Jvm.Cond.classLink "WeavewordLaw" (8 : Nat) "Weaveword") ∈ lw_all := lw_g (lw_at lw_m1 40 rfl) rfl
theorem q141 : (Jvm.Cond.methodLink "WeavewordLaw" (105 : Nat) ({ cls := "Weaveword", name := "<init>", desc := "()V" } : Jvm.MethodName)) ∈ lw_all := lw_g (lw_at lw_m1 42 rfl) rfl
theorem q305 : (Jvm.Cond.methodLink "WeavewordLaw" (119 : Nat) ({ cls := "Weaveword", name := "wipe", desc := "()I" } : Jvm.MethodName)) ∈ lw_all := lw_g (lw_at lw_m1 206 rfl) rfl
theorem q327 : (Jvm.Cond.methodLink "WeavewordLaw" (171 : Nat) ({ cls := "Weaveword", name := "clock", desc := "()I" } : Jvm.MethodName)) ∈ lw_all := lw_g (lw_at lw_m1 228 rfl) rfl
theorem q331 : (Jvm.Cond.methodLink "WeavewordLaw" (190 : Nat) ({ cls := "Weaveword", name := "queued", desc := "()I" } : Jvm.MethodName)) ∈ lw_all := lw_g (lw_at lw_m1 232 rfl) rfl
theorem q339 : (Jvm.Cond.methodLink "WeavewordLaw" (209 : Nat) ({ cls := "Weaveword", name := "odd", desc := "(Z)I" } : Jvm.MethodName)) ∈ lw_all := lw_g (lw_at lw_m2 0 rfl) rfl
theorem q708 : (Jvm.Cond.methodLink "WeavewordLaw" (109 : Nat) ({ cls := "WeavewordLaw", name := "token", desc := "(LWeaveword;II[J)I" } : Jvm.MethodName)) ∈ lw_all := lw_g (lw_at lw_m3 129 rfl) rfl
theorem q709 : (Jvm.Cond.static ({ cls := "WeavewordLaw", name := "token", desc := "(LWeaveword;II[J)I" } : Jvm.MethodName)) ∈ lw_all := lw_g (lw_at lw_m3 130 rfl) rfl
theorem q710 : (Jvm.Cond.codeWith ({ cls := "WeavewordLaw", name := "token", desc := "(LWeaveword;II[J)I" } : Jvm.MethodName) method_3_code (5 : Nat) (Option.some Jvm.ClassFile.FieldType.int) [((0 : Nat), (10 : Nat), (13 : Nat), (13 : Nat)), ((0 : Nat), (10 : Nat), (17 : Nat), (15 : Nat))]) ∈ lw_all := lw_g (lw_at lw_m3 131 rfl) rfl
theorem q711 : (Jvm.Cond.classLink "WeavewordLaw" (13 : Nat) "java/lang/IllegalArgumentException") ∈ lw_all := lw_g (lw_at lw_m3 132 rfl) rfl
theorem q712 : (Jvm.Cond.classLink "WeavewordLaw" (15 : Nat) "java/lang/IllegalStateException") ∈ lw_all := lw_g (lw_at lw_m3 133 rfl) rfl
theorem q713 : (Jvm.Cond.methodLink "WeavewordLaw" (7 : Nat) ({ cls := "Weaveword", name := "token", desc := "(II)I" } : Jvm.MethodName)) ∈ lw_all := lw_g (lw_at lw_m3 134 rfl) rfl
theorem q765 : (Jvm.Cond.methodLink "WeavewordLaw" (123 : Nat) ({ cls := "WeavewordLaw", name := "act", desc := "(LWeaveword;I[J)I" } : Jvm.MethodName)) ∈ lw_all := lw_g (lw_at lw_m3 186 rfl) rfl
theorem q766 : (Jvm.Cond.static ({ cls := "WeavewordLaw", name := "act", desc := "(LWeaveword;I[J)I" } : Jvm.MethodName)) ∈ lw_all := lw_g (lw_at lw_m3 187 rfl) rfl
theorem q767 : (Jvm.Cond.codeWith ({ cls := "WeavewordLaw", name := "act", desc := "(LWeaveword;I[J)I" } : Jvm.MethodName) method_4_code (4 : Nat) (Option.some Jvm.ClassFile.FieldType.int) [((0 : Nat), (9 : Nat), (12 : Nat), (13 : Nat))]) ∈ lw_all := lw_g (lw_at lw_m3 188 rfl) rfl
theorem q768 : (Jvm.Cond.methodLink "WeavewordLaw" (17 : Nat) ({ cls := "Weaveword", name := "act", desc := "(I)I" } : Jvm.MethodName)) ∈ lw_all := lw_g (lw_at lw_m3 189 rfl) rfl
theorem q772 : (Jvm.Cond.methodLink "WeavewordLaw" (127 : Nat) ({ cls := "WeavewordLaw", name := "protect", desc := "(LWeaveword;II[J)I" } : Jvm.MethodName)) ∈ lw_all := lw_g (lw_at lw_m3 193 rfl) rfl
theorem q773 : (Jvm.Cond.static ({ cls := "WeavewordLaw", name := "protect", desc := "(LWeaveword;II[J)I" } : Jvm.MethodName)) ∈ lw_all := lw_g (lw_at lw_m3 194 rfl) rfl
theorem q774 : (Jvm.Cond.codeWith ({ cls := "WeavewordLaw", name := "protect", desc := "(LWeaveword;II[J)I" } : Jvm.MethodName) method_5_code (5 : Nat) (Option.some Jvm.ClassFile.FieldType.int) [((0 : Nat), (10 : Nat), (13 : Nat), (24 : Nat)), ((0 : Nat), (10 : Nat), (17 : Nat), (13 : Nat)), ((0 : Nat), (10 : Nat), (21 : Nat), (15 : Nat))]) ∈ lw_all := lw_g (lw_at lw_m3 195 rfl) rfl
theorem q775 : (Jvm.Cond.classLink "WeavewordLaw" (24 : Nat) "java/lang/IndexOutOfBoundsException") ∈ lw_all := lw_g (lw_at lw_m3 196 rfl) rfl
theorem q791 : (Jvm.Cond.methodLink "WeavewordLaw" (21 : Nat) ({ cls := "Weaveword", name := "protect", desc := "(II)I" } : Jvm.MethodName)) ∈ lw_all := lw_g (lw_at lw_m3 212 rfl) rfl
theorem q800 : (Jvm.Cond.methodLink "WeavewordLaw" (130 : Nat) ({ cls := "WeavewordLaw", name := "create", desc := "(LWeaveword;I[J)I" } : Jvm.MethodName)) ∈ lw_all := lw_g (lw_at lw_m3 221 rfl) rfl
theorem q801 : (Jvm.Cond.static ({ cls := "WeavewordLaw", name := "create", desc := "(LWeaveword;I[J)I" } : Jvm.MethodName)) ∈ lw_all := lw_g (lw_at lw_m3 222 rfl) rfl
theorem q802 : (Jvm.Cond.codeWith ({ cls := "WeavewordLaw", name := "create", desc := "(LWeaveword;I[J)I" } : Jvm.MethodName) method_6_code (4 : Nat) (Option.some Jvm.ClassFile.FieldType.int) [((0 : Nat), (9 : Nat), (12 : Nat), (24 : Nat)), ((0 : Nat), (9 : Nat), (15 : Nat), (15 : Nat))]) ∈ lw_all := lw_g (lw_at lw_m3 223 rfl) rfl
theorem q803 : (Jvm.Cond.methodLink "WeavewordLaw" (26 : Nat) ({ cls := "Weaveword", name := "create", desc := "(I)I" } : Jvm.MethodName)) ∈ lw_all := lw_g (lw_at lw_m3 224 rfl) rfl
theorem q931 : (Jvm.Cond.methodLink "WeavewordLaw" (133 : Nat) ({ cls := "WeavewordLaw", name := "edit", desc := "(LWeaveword;III[J)I" } : Jvm.MethodName)) ∈ lw_all := lw_g (lw_at lw_m4 112 rfl) rfl
theorem q932 : (Jvm.Cond.static ({ cls := "WeavewordLaw", name := "edit", desc := "(LWeaveword;III[J)I" } : Jvm.MethodName)) ∈ lw_all := lw_g (lw_at lw_m4 113 rfl) rfl
theorem q933 : (Jvm.Cond.codeWith ({ cls := "WeavewordLaw", name := "edit", desc := "(LWeaveword;III[J)I" } : Jvm.MethodName) method_7_code (6 : Nat) (Option.some Jvm.ClassFile.FieldType.int) [((0 : Nat), (12 : Nat), (15 : Nat), (24 : Nat)), ((0 : Nat), (12 : Nat), (19 : Nat), (15 : Nat))]) ∈ lw_all := lw_g (lw_at lw_m4 114 rfl) rfl
theorem q934 : (Jvm.Cond.methodLink "WeavewordLaw" (29 : Nat) ({ cls := "Weaveword", name := "edit", desc := "(III)I" } : Jvm.MethodName)) ∈ lw_all := lw_g (lw_at lw_m4 115 rfl) rfl
theorem q1043 : (Jvm.Cond.methodLink "WeavewordLaw" (137 : Nat) ({ cls := "WeavewordLaw", name := "undo", desc := "(LWeaveword;II[J)I" } : Jvm.MethodName)) ∈ lw_all := lw_g (lw_at lw_m4 224 rfl) rfl
theorem q1044 : (Jvm.Cond.static ({ cls := "WeavewordLaw", name := "undo", desc := "(LWeaveword;II[J)I" } : Jvm.MethodName)) ∈ lw_all := lw_g (lw_at lw_m4 225 rfl) rfl
theorem q1045 : (Jvm.Cond.codeWith ({ cls := "WeavewordLaw", name := "undo", desc := "(LWeaveword;II[J)I" } : Jvm.MethodName) method_8_code (5 : Nat) (Option.some Jvm.ClassFile.FieldType.int) [((0 : Nat), (10 : Nat), (13 : Nat), (24 : Nat)), ((0 : Nat), (10 : Nat), (17 : Nat), (15 : Nat))]) ∈ lw_all := lw_g (lw_at lw_m4 226 rfl) rfl
theorem q1046 : (Jvm.Cond.methodLink "WeavewordLaw" (33 : Nat) ({ cls := "Weaveword", name := "undo", desc := "(II)I" } : Jvm.MethodName)) ∈ lw_all := lw_g (lw_at lw_m4 227 rfl) rfl
theorem q1052 : (Jvm.Cond.methodLink "WeavewordLaw" (140 : Nat) ({ cls := "WeavewordLaw", name := "bringIn", desc := "(LWeaveword;II[J)I" } : Jvm.MethodName)) ∈ lw_all := lw_g (lw_at lw_m4 233 rfl) rfl
theorem q1053 : (Jvm.Cond.static ({ cls := "WeavewordLaw", name := "bringIn", desc := "(LWeaveword;II[J)I" } : Jvm.MethodName)) ∈ lw_all := lw_g (lw_at lw_m4 234 rfl) rfl
theorem q1054 : (Jvm.Cond.codeWith ({ cls := "WeavewordLaw", name := "bringIn", desc := "(LWeaveword;II[J)I" } : Jvm.MethodName) method_9_code (5 : Nat) (Option.some Jvm.ClassFile.FieldType.int) [((0 : Nat), (10 : Nat), (13 : Nat), (24 : Nat)), ((0 : Nat), (10 : Nat), (17 : Nat), (13 : Nat)), ((0 : Nat), (10 : Nat), (21 : Nat), (15 : Nat))]) ∈ lw_all := lw_g (lw_at lw_m4 235 rfl) rfl
theorem q1055 : (Jvm.Cond.methodLink "WeavewordLaw" (36 : Nat) ({ cls := "Weaveword", name := "bringIn", desc := "(II)I" } : Jvm.MethodName)) ∈ lw_all := lw_g (lw_at lw_m4 236 rfl) rfl
theorem q1060 : (Jvm.Cond.methodLink "WeavewordLaw" (143 : Nat) ({ cls := "WeavewordLaw", name := "move", desc := "(LWeaveword;II[J)I" } : Jvm.MethodName)) ∈ lw_all := lw_g (lw_at lw_m5 1 rfl) rfl
theorem q1061 : (Jvm.Cond.static ({ cls := "WeavewordLaw", name := "move", desc := "(LWeaveword;II[J)I" } : Jvm.MethodName)) ∈ lw_all := lw_g (lw_at lw_m5 2 rfl) rfl
theorem q1062 : (Jvm.Cond.codeWith ({ cls := "WeavewordLaw", name := "move", desc := "(LWeaveword;II[J)I" } : Jvm.MethodName) method_10_code (5 : Nat) (Option.some Jvm.ClassFile.FieldType.int) [((0 : Nat), (10 : Nat), (13 : Nat), (24 : Nat)), ((0 : Nat), (10 : Nat), (17 : Nat), (15 : Nat))]) ∈ lw_all := lw_g (lw_at lw_m5 3 rfl) rfl
theorem q1063 : (Jvm.Cond.methodLink "WeavewordLaw" (39 : Nat) ({ cls := "Weaveword", name := "move", desc := "(II)I" } : Jvm.MethodName)) ∈ lw_all := lw_g (lw_at lw_m5 4 rfl) rfl
theorem q1085 : (Jvm.Cond.methodLink "WeavewordLaw" (146 : Nat) ({ cls := "WeavewordLaw", name := "moveTree", desc := "(LWeaveword;II[J)I" } : Jvm.MethodName)) ∈ lw_all := lw_g (lw_at lw_m5 26 rfl) rfl
theorem q1086 : (Jvm.Cond.static ({ cls := "WeavewordLaw", name := "moveTree", desc := "(LWeaveword;II[J)I" } : Jvm.MethodName)) ∈ lw_all := lw_g (lw_at lw_m5 27 rfl) rfl
theorem q1087 : (Jvm.Cond.codeWith ({ cls := "WeavewordLaw", name := "moveTree", desc := "(LWeaveword;II[J)I" } : Jvm.MethodName) method_11_code (5 : Nat) (Option.some Jvm.ClassFile.FieldType.int) [((0 : Nat), (10 : Nat), (13 : Nat), (24 : Nat)), ((0 : Nat), (10 : Nat), (17 : Nat), (15 : Nat))]) ∈ lw_all := lw_g (lw_at lw_m5 28 rfl) rfl
theorem q1088 : (Jvm.Cond.methodLink "WeavewordLaw" (42 : Nat) ({ cls := "Weaveword", name := "moveTree", desc := "(II)I" } : Jvm.MethodName)) ∈ lw_all := lw_g (lw_at lw_m5 29 rfl) rfl
theorem q1109 : (Jvm.Cond.methodLink "WeavewordLaw" (149 : Nat) ({ cls := "WeavewordLaw", name := "approve", desc := "(LWeaveword;I[J)I" } : Jvm.MethodName)) ∈ lw_all := lw_g (lw_at lw_m5 50 rfl) rfl
theorem q1110 : (Jvm.Cond.static ({ cls := "WeavewordLaw", name := "approve", desc := "(LWeaveword;I[J)I" } : Jvm.MethodName)) ∈ lw_all := lw_g (lw_at lw_m5 51 rfl) rfl
theorem q1111 : (Jvm.Cond.codeWith ({ cls := "WeavewordLaw", name := "approve", desc := "(LWeaveword;I[J)I" } : Jvm.MethodName) method_12_code (4 : Nat) (Option.some Jvm.ClassFile.FieldType.int) [((0 : Nat), (9 : Nat), (12 : Nat), (24 : Nat)), ((0 : Nat), (9 : Nat), (15 : Nat), (15 : Nat))]) ∈ lw_all := lw_g (lw_at lw_m5 52 rfl) rfl
theorem q1112 : (Jvm.Cond.methodLink "WeavewordLaw" (45 : Nat) ({ cls := "Weaveword", name := "approve", desc := "(I)I" } : Jvm.MethodName)) ∈ lw_all := lw_g (lw_at lw_m5 53 rfl) rfl
theorem q1133 : (Jvm.Cond.methodLink "WeavewordLaw" (152 : Nat) ({ cls := "WeavewordLaw", name := "translate", desc := "(LWeaveword;III[J)I" } : Jvm.MethodName)) ∈ lw_all := lw_g (lw_at lw_m5 74 rfl) rfl
theorem q1134 : (Jvm.Cond.static ({ cls := "WeavewordLaw", name := "translate", desc := "(LWeaveword;III[J)I" } : Jvm.MethodName)) ∈ lw_all := lw_g (lw_at lw_m5 75 rfl) rfl
theorem q1135 : (Jvm.Cond.codeWith ({ cls := "WeavewordLaw", name := "translate", desc := "(LWeaveword;III[J)I" } : Jvm.MethodName) method_13_code (6 : Nat) (Option.some Jvm.ClassFile.FieldType.int) [((0 : Nat), (12 : Nat), (15 : Nat), (24 : Nat)), ((0 : Nat), (12 : Nat), (19 : Nat), (13 : Nat))]) ∈ lw_all := lw_g (lw_at lw_m5 76 rfl) rfl
theorem q1136 : (Jvm.Cond.methodLink "WeavewordLaw" (48 : Nat) ({ cls := "Weaveword", name := "translate", desc := "(III)I" } : Jvm.MethodName)) ∈ lw_all := lw_g (lw_at lw_m5 77 rfl) rfl
theorem q1158 : (Jvm.Cond.methodLink "WeavewordLaw" (155 : Nat) ({ cls := "WeavewordLaw", name := "instruct", desc := "(LWeaveword;III[J)I" } : Jvm.MethodName)) ∈ lw_all := lw_g (lw_at lw_m5 99 rfl) rfl
theorem q1159 : (Jvm.Cond.static ({ cls := "WeavewordLaw", name := "instruct", desc := "(LWeaveword;III[J)I" } : Jvm.MethodName)) ∈ lw_all := lw_g (lw_at lw_m5 100 rfl) rfl
theorem q1160 : (Jvm.Cond.codeWith ({ cls := "WeavewordLaw", name := "instruct", desc := "(LWeaveword;III[J)I" } : Jvm.MethodName) method_14_code (6 : Nat) (Option.some Jvm.ClassFile.FieldType.int) [((0 : Nat), (12 : Nat), (15 : Nat), (24 : Nat)), ((0 : Nat), (12 : Nat), (19 : Nat), (13 : Nat)), ((0 : Nat), (12 : Nat), (23 : Nat), (15 : Nat))]) ∈ lw_all := lw_g (lw_at lw_m5 101 rfl) rfl
theorem q1161 : (Jvm.Cond.methodLink "WeavewordLaw" (51 : Nat) ({ cls := "Weaveword", name := "instruct", desc := "(III)I" } : Jvm.MethodName)) ∈ lw_all := lw_g (lw_at lw_m5 102 rfl) rfl
theorem q1177 : (Jvm.Cond.methodLink "WeavewordLaw" (158 : Nat) ({ cls := "WeavewordLaw", name := "empty", desc := "(LWeaveword;I[J)I" } : Jvm.MethodName)) ∈ lw_all := lw_g (lw_at lw_m5 118 rfl) rfl
theorem q1178 : (Jvm.Cond.static ({ cls := "WeavewordLaw", name := "empty", desc := "(LWeaveword;I[J)I" } : Jvm.MethodName)) ∈ lw_all := lw_g (lw_at lw_m5 119 rfl) rfl
theorem q1179 : (Jvm.Cond.codeWith ({ cls := "WeavewordLaw", name := "empty", desc := "(LWeaveword;I[J)I" } : Jvm.MethodName) method_15_code (4 : Nat) (Option.some Jvm.ClassFile.FieldType.int) [((0 : Nat), (9 : Nat), (12 : Nat), (24 : Nat))]) ∈ lw_all := lw_g (lw_at lw_m5 120 rfl) rfl
theorem q1180 : (Jvm.Cond.methodLink "WeavewordLaw" (54 : Nat) ({ cls := "Weaveword", name := "empty", desc := "(I)I" } : Jvm.MethodName)) ∈ lw_all := lw_g (lw_at lw_m5 121 rfl) rfl
theorem q1184 : (Jvm.Cond.methodLink "WeavewordLaw" (161 : Nat) ({ cls := "WeavewordLaw", name := "rank", desc := "(LWeaveword;II[J)I" } : Jvm.MethodName)) ∈ lw_all := lw_g (lw_at lw_m5 125 rfl) rfl
theorem q1185 : (Jvm.Cond.static ({ cls := "WeavewordLaw", name := "rank", desc := "(LWeaveword;II[J)I" } : Jvm.MethodName)) ∈ lw_all := lw_g (lw_at lw_m5 126 rfl) rfl
theorem q1186 : (Jvm.Cond.codeWith ({ cls := "WeavewordLaw", name := "rank", desc := "(LWeaveword;II[J)I" } : Jvm.MethodName) method_16_code (5 : Nat) (Option.some Jvm.ClassFile.FieldType.int) [((0 : Nat), (10 : Nat), (13 : Nat), (24 : Nat)), ((0 : Nat), (10 : Nat), (17 : Nat), (13 : Nat))]) ∈ lw_all := lw_g (lw_at lw_m5 127 rfl) rfl
theorem q1187 : (Jvm.Cond.methodLink "WeavewordLaw" (57 : Nat) ({ cls := "Weaveword", name := "rank", desc := "(II)I" } : Jvm.MethodName)) ∈ lw_all := lw_g (lw_at lw_m5 128 rfl) rfl
theorem q1191 : (Jvm.Cond.methodLink "WeavewordLaw" (164 : Nat) ({ cls := "WeavewordLaw", name := "work", desc := "(LWeaveword;I[J)I" } : Jvm.MethodName)) ∈ lw_all := lw_g (lw_at lw_m5 132 rfl) rfl
theorem q1192 : (Jvm.Cond.static ({ cls := "WeavewordLaw", name := "work", desc := "(LWeaveword;I[J)I" } : Jvm.MethodName)) ∈ lw_all := lw_g (lw_at lw_m5 133 rfl) rfl
theorem q1193 : (Jvm.Cond.codeWith ({ cls := "WeavewordLaw", name := "work", desc := "(LWeaveword;I[J)I" } : Jvm.MethodName) method_17_code (4 : Nat) (Option.some Jvm.ClassFile.FieldType.int) [((0 : Nat), (9 : Nat), (12 : Nat), (13 : Nat))]) ∈ lw_all := lw_g (lw_at lw_m5 134 rfl) rfl
theorem q1194 : (Jvm.Cond.methodLink "WeavewordLaw" (60 : Nat) ({ cls := "Weaveword", name := "work", desc := "(I)I" } : Jvm.MethodName)) ∈ lw_all := lw_g (lw_at lw_m5 135 rfl) rfl
theorem q1505 : (Jvm.Cond.methodLink "WeavewordLaw" (167 : Nat) ({ cls := "WeavewordLaw", name := "read", desc := "(LWeaveword;IZ[J)I" } : Jvm.MethodName)) ∈ lw_all := lw_g (lw_at lw_m6 206 rfl) rfl
theorem q1506 : (Jvm.Cond.static ({ cls := "WeavewordLaw", name := "read", desc := "(LWeaveword;IZ[J)I" } : Jvm.MethodName)) ∈ lw_all := lw_g (lw_at lw_m6 207 rfl) rfl
theorem q1507 : (Jvm.Cond.codeWith ({ cls := "WeavewordLaw", name := "read", desc := "(LWeaveword;IZ[J)I" } : Jvm.MethodName) method_18_code (5 : Nat) (Option.some Jvm.ClassFile.FieldType.int) [((0 : Nat), (10 : Nat), (13 : Nat), (24 : Nat))]) ∈ lw_all := lw_g (lw_at lw_m6 208 rfl) rfl
theorem q1508 : (Jvm.Cond.methodLink "WeavewordLaw" (63 : Nat) ({ cls := "Weaveword", name := "read", desc := "(IZ)I" } : Jvm.MethodName)) ∈ lw_all := lw_g (lw_at lw_m6 209 rfl) rfl
theorem q1512 : (Jvm.Cond.methodLink "WeavewordLaw" (175 : Nat) ({ cls := "WeavewordLaw", name := "versions", desc := "(LWeaveword;I[J)I" } : Jvm.MethodName)) ∈ lw_all := lw_g (lw_at lw_m6 213 rfl) rfl
theorem q1513 : (Jvm.Cond.static ({ cls := "WeavewordLaw", name := "versions", desc := "(LWeaveword;I[J)I" } : Jvm.MethodName)) ∈ lw_all := lw_g (lw_at lw_m6 214 rfl) rfl
theorem q1514 : (Jvm.Cond.codeWith ({ cls := "WeavewordLaw", name := "versions", desc := "(LWeaveword;I[J)I" } : Jvm.MethodName) method_19_code (4 : Nat) (Option.some Jvm.ClassFile.FieldType.int) [((0 : Nat), (9 : Nat), (12 : Nat), (24 : Nat))]) ∈ lw_all := lw_g (lw_at lw_m6 215 rfl) rfl
theorem q1515 : (Jvm.Cond.methodLink "WeavewordLaw" (67 : Nat) ({ cls := "Weaveword", name := "versions", desc := "(I)I" } : Jvm.MethodName)) ∈ lw_all := lw_g (lw_at lw_m6 216 rfl) rfl
theorem q1519 : (Jvm.Cond.methodLink "WeavewordLaw" (178 : Nat) ({ cls := "WeavewordLaw", name := "versionAt", desc := "(LWeaveword;II[J)I" } : Jvm.MethodName)) ∈ lw_all := lw_g (lw_at lw_m6 220 rfl) rfl
theorem q1520 : (Jvm.Cond.static ({ cls := "WeavewordLaw", name := "versionAt", desc := "(LWeaveword;II[J)I" } : Jvm.MethodName)) ∈ lw_all := lw_g (lw_at lw_m6 221 rfl) rfl
theorem q1521 : (Jvm.Cond.codeWith ({ cls := "WeavewordLaw", name := "versionAt", desc := "(LWeaveword;II[J)I" } : Jvm.MethodName) method_20_code (5 : Nat) (Option.some Jvm.ClassFile.FieldType.int) [((0 : Nat), (10 : Nat), (13 : Nat), (24 : Nat))]) ∈ lw_all := lw_g (lw_at lw_m6 222 rfl) rfl
theorem q1522 : (Jvm.Cond.methodLink "WeavewordLaw" (70 : Nat) ({ cls := "Weaveword", name := "versionAt", desc := "(II)I" } : Jvm.MethodName)) ∈ lw_all := lw_g (lw_at lw_m6 223 rfl) rfl
theorem q1528 : (Jvm.Cond.methodLink "WeavewordLaw" (181 : Nat) ({ cls := "WeavewordLaw", name := "tokenAt", desc := "(LWeaveword;II[J)I" } : Jvm.MethodName)) ∈ lw_all := lw_g (lw_at lw_m6 229 rfl) rfl
theorem q1529 : (Jvm.Cond.static ({ cls := "WeavewordLaw", name := "tokenAt", desc := "(LWeaveword;II[J)I" } : Jvm.MethodName)) ∈ lw_all := lw_g (lw_at lw_m6 230 rfl) rfl
theorem q1530 : (Jvm.Cond.codeWith ({ cls := "WeavewordLaw", name := "tokenAt", desc := "(LWeaveword;II[J)I" } : Jvm.MethodName) method_21_code (5 : Nat) (Option.some Jvm.ClassFile.FieldType.int) [((0 : Nat), (10 : Nat), (13 : Nat), (24 : Nat))]) ∈ lw_all := lw_g (lw_at lw_m6 231 rfl) rfl
theorem q1531 : (Jvm.Cond.methodLink "WeavewordLaw" (73 : Nat) ({ cls := "Weaveword", name := "tokenAt", desc := "(II)I" } : Jvm.MethodName)) ∈ lw_all := lw_g (lw_at lw_m6 232 rfl) rfl
theorem q1541 : (Jvm.Cond.methodLink "WeavewordLaw" (184 : Nat) ({ cls := "WeavewordLaw", name := "leads", desc := "(LWeaveword;I[J)I" } : Jvm.MethodName)) ∈ lw_all := lw_g (lw_at lw_m7 2 rfl) rfl
theorem q1542 : (Jvm.Cond.static ({ cls := "WeavewordLaw", name := "leads", desc := "(LWeaveword;I[J)I" } : Jvm.MethodName)) ∈ lw_all := lw_g (lw_at lw_m7 3 rfl) rfl
theorem q1543 : (Jvm.Cond.codeWith ({ cls := "WeavewordLaw", name := "leads", desc := "(LWeaveword;I[J)I" } : Jvm.MethodName) method_22_code (4 : Nat) (Option.some Jvm.ClassFile.FieldType.int) [((0 : Nat), (9 : Nat), (12 : Nat), (24 : Nat))]) ∈ lw_all := lw_g (lw_at lw_m7 4 rfl) rfl
theorem q1544 : (Jvm.Cond.methodLink "WeavewordLaw" (76 : Nat) ({ cls := "Weaveword", name := "leads", desc := "(I)I" } : Jvm.MethodName)) ∈ lw_all := lw_g (lw_at lw_m7 5 rfl) rfl
theorem q1545 : (Jvm.Cond.methodLink "WeavewordLaw" (187 : Nat) ({ cls := "WeavewordLaw", name := "isStale", desc := "(LWeaveword;I[J)I" } : Jvm.MethodName)) ∈ lw_all := lw_g (lw_at lw_m7 6 rfl) rfl
theorem q1546 : (Jvm.Cond.static ({ cls := "WeavewordLaw", name := "isStale", desc := "(LWeaveword;I[J)I" } : Jvm.MethodName)) ∈ lw_all := lw_g (lw_at lw_m7 7 rfl) rfl
theorem q1547 : (Jvm.Cond.codeWith ({ cls := "WeavewordLaw", name := "isStale", desc := "(LWeaveword;I[J)I" } : Jvm.MethodName) method_23_code (4 : Nat) (Option.some Jvm.ClassFile.FieldType.int) [((0 : Nat), (16 : Nat), (19 : Nat), (24 : Nat))]) ∈ lw_all := lw_g (lw_at lw_m7 8 rfl) rfl
theorem q1548 : (Jvm.Cond.methodLink "WeavewordLaw" (79 : Nat) ({ cls := "Weaveword", name := "isStale", desc := "(I)Z" } : Jvm.MethodName)) ∈ lw_all := lw_g (lw_at lw_m7 9 rfl) rfl
theorem q1552 : (Jvm.Cond.methodLink "WeavewordLaw" (194 : Nat) ({ cls := "WeavewordLaw", name := "shown", desc := "(LWeaveword;II[J)I" } : Jvm.MethodName)) ∈ lw_all := lw_g (lw_at lw_m7 13 rfl) rfl
theorem q1553 : (Jvm.Cond.static ({ cls := "WeavewordLaw", name := "shown", desc := "(LWeaveword;II[J)I" } : Jvm.MethodName)) ∈ lw_all := lw_g (lw_at lw_m7 14 rfl) rfl
theorem q1554 : (Jvm.Cond.codeWith ({ cls := "WeavewordLaw", name := "shown", desc := "(LWeaveword;II[J)I" } : Jvm.MethodName) method_24_code (5 : Nat) (Option.some Jvm.ClassFile.FieldType.int) [((0 : Nat), (10 : Nat), (13 : Nat), (24 : Nat))]) ∈ lw_all := lw_g (lw_at lw_m7 15 rfl) rfl
theorem q1555 : (Jvm.Cond.methodLink "WeavewordLaw" (83 : Nat) ({ cls := "Weaveword", name := "shown", desc := "(II)I" } : Jvm.MethodName)) ∈ lw_all := lw_g (lw_at lw_m7 16 rfl) rfl
theorem q1563 : (Jvm.Cond.methodLink "WeavewordLaw" (197 : Nat) ({ cls := "WeavewordLaw", name := "shownAnew", desc := "(LWeaveword;II[J)I" } : Jvm.MethodName)) ∈ lw_all := lw_g (lw_at lw_m7 24 rfl) rfl
theorem q1564 : (Jvm.Cond.static ({ cls := "WeavewordLaw", name := "shownAnew", desc := "(LWeaveword;II[J)I" } : Jvm.MethodName)) ∈ lw_all := lw_g (lw_at lw_m7 25 rfl) rfl
theorem q1565 : (Jvm.Cond.codeWith ({ cls := "WeavewordLaw", name := "shownAnew", desc := "(LWeaveword;II[J)I" } : Jvm.MethodName) method_25_code (5 : Nat) (Option.some Jvm.ClassFile.FieldType.int) [((0 : Nat), (10 : Nat), (13 : Nat), (24 : Nat))]) ∈ lw_all := lw_g (lw_at lw_m7 26 rfl) rfl
theorem q1566 : (Jvm.Cond.methodLink "WeavewordLaw" (86 : Nat) ({ cls := "Weaveword", name := "shownAnew", desc := "(II)I" } : Jvm.MethodName)) ∈ lw_all := lw_g (lw_at lw_m7 27 rfl) rfl
theorem q1570 : (Jvm.Cond.methodLink "WeavewordLaw" (200 : Nat) ({ cls := "WeavewordLaw", name := "approvedAt", desc := "(LWeaveword;II[J)I" } : Jvm.MethodName)) ∈ lw_all := lw_g (lw_at lw_m7 31 rfl) rfl
theorem q1571 : (Jvm.Cond.static ({ cls := "WeavewordLaw", name := "approvedAt", desc := "(LWeaveword;II[J)I" } : Jvm.MethodName)) ∈ lw_all := lw_g (lw_at lw_m7 32 rfl) rfl
theorem q1572 : (Jvm.Cond.codeWith ({ cls := "WeavewordLaw", name := "approvedAt", desc := "(LWeaveword;II[J)I" } : Jvm.MethodName) method_26_code (5 : Nat) (Option.some Jvm.ClassFile.FieldType.int) [((0 : Nat), (10 : Nat), (13 : Nat), (24 : Nat))]) ∈ lw_all := lw_g (lw_at lw_m7 33 rfl) rfl
theorem q1573 : (Jvm.Cond.methodLink "WeavewordLaw" (89 : Nat) ({ cls := "Weaveword", name := "approvedAt", desc := "(II)I" } : Jvm.MethodName)) ∈ lw_all := lw_g (lw_at lw_m7 34 rfl) rfl
theorem q1586 : (Jvm.Cond.methodLink "WeavewordLaw" (203 : Nat) ({ cls := "WeavewordLaw", name := "linked", desc := "(LWeaveword;II[J)I" } : Jvm.MethodName)) ∈ lw_all := lw_g (lw_at lw_m7 47 rfl) rfl
theorem q1587 : (Jvm.Cond.static ({ cls := "WeavewordLaw", name := "linked", desc := "(LWeaveword;II[J)I" } : Jvm.MethodName)) ∈ lw_all := lw_g (lw_at lw_m7 48 rfl) rfl
theorem q1588 : (Jvm.Cond.codeWith ({ cls := "WeavewordLaw", name := "linked", desc := "(LWeaveword;II[J)I" } : Jvm.MethodName) method_27_code (5 : Nat) (Option.some Jvm.ClassFile.FieldType.int) [((0 : Nat), (10 : Nat), (13 : Nat), (24 : Nat))]) ∈ lw_all := lw_g (lw_at lw_m7 49 rfl) rfl
theorem q1589 : (Jvm.Cond.methodLink "WeavewordLaw" (92 : Nat) ({ cls := "Weaveword", name := "linked", desc := "(II)I" } : Jvm.MethodName)) ∈ lw_all := lw_g (lw_at lw_m7 50 rfl) rfl
theorem q1594 : (Jvm.Cond.methodLink "WeavewordLaw" (206 : Nat) ({ cls := "WeavewordLaw", name := "members", desc := "(LWeaveword;I[J)I" } : Jvm.MethodName)) ∈ lw_all := lw_g (lw_at lw_m7 55 rfl) rfl
theorem q1595 : (Jvm.Cond.static ({ cls := "WeavewordLaw", name := "members", desc := "(LWeaveword;I[J)I" } : Jvm.MethodName)) ∈ lw_all := lw_g (lw_at lw_m7 56 rfl) rfl
theorem q1596 : (Jvm.Cond.codeWith ({ cls := "WeavewordLaw", name := "members", desc := "(LWeaveword;I[J)I" } : Jvm.MethodName) method_28_code (4 : Nat) (Option.some Jvm.ClassFile.FieldType.int) [((0 : Nat), (9 : Nat), (12 : Nat), (24 : Nat))]) ∈ lw_all := lw_g (lw_at lw_m7 57 rfl) rfl
theorem q1597 : (Jvm.Cond.methodLink "WeavewordLaw" (95 : Nat) ({ cls := "Weaveword", name := "members", desc := "(I)I" } : Jvm.MethodName)) ∈ lw_all := lw_g (lw_at lw_m7 58 rfl) rfl
theorem q1598 : (Jvm.Cond.methodLink "WeavewordLaw" (214 : Nat) ({ cls := "WeavewordLaw", name := "inLanguage", desc := "(LWeaveword;II[J)I" } : Jvm.MethodName)) ∈ lw_all := lw_g (lw_at lw_m7 59 rfl) rfl
theorem q1599 : (Jvm.Cond.static ({ cls := "WeavewordLaw", name := "inLanguage", desc := "(LWeaveword;II[J)I" } : Jvm.MethodName)) ∈ lw_all := lw_g (lw_at lw_m7 60 rfl) rfl
theorem q1600 : (Jvm.Cond.codeWith ({ cls := "WeavewordLaw", name := "inLanguage", desc := "(LWeaveword;II[J)I" } : Jvm.MethodName) method_29_code (5 : Nat) (Option.some Jvm.ClassFile.FieldType.int) [((0 : Nat), (10 : Nat), (13 : Nat), (24 : Nat)), ((0 : Nat), (10 : Nat), (17 : Nat), (13 : Nat))]) ∈ lw_all := lw_g (lw_at lw_m7 61 rfl) rfl
theorem q1601 : (Jvm.Cond.methodLink "WeavewordLaw" (98 : Nat) ({ cls := "Weaveword", name := "inLanguage", desc := "(II)I" } : Jvm.MethodName)) ∈ lw_all := lw_g (lw_at lw_m7 62 rfl) rfl
theorem q1605 : (Jvm.Cond.methodLink "WeavewordLaw" (217 : Nat) ({ cls := "WeavewordLaw", name := "isOutdated", desc := "(LWeaveword;II[J)I" } : Jvm.MethodName)) ∈ lw_all := lw_g (lw_at lw_m7 66 rfl) rfl
theorem q1606 : (Jvm.Cond.static ({ cls := "WeavewordLaw", name := "isOutdated", desc := "(LWeaveword;II[J)I" } : Jvm.MethodName)) ∈ lw_all := lw_g (lw_at lw_m7 67 rfl) rfl
theorem q1607 : (Jvm.Cond.codeWith ({ cls := "WeavewordLaw", name := "isOutdated", desc := "(LWeaveword;II[J)I" } : Jvm.MethodName) method_30_code (5 : Nat) (Option.some Jvm.ClassFile.FieldType.int) [((0 : Nat), (17 : Nat), (20 : Nat), (24 : Nat)), ((0 : Nat), (17 : Nat), (24 : Nat), (13 : Nat))]) ∈ lw_all := lw_g (lw_at lw_m7 68 rfl) rfl
theorem q1608 : (Jvm.Cond.methodLink "WeavewordLaw" (101 : Nat) ({ cls := "Weaveword", name := "isOutdated", desc := "(II)Z" } : Jvm.MethodName)) ∈ lw_all := lw_g (lw_at lw_m7 69 rfl) rfl
theorem q1612 : (Jvm.Cond.classLink "WeavewordLaw" (106 : Nat) "WeavewordModel") ∈ lw_all := lw_g (lw_at lw_m7 73 rfl) rfl
theorem q1614 : (Jvm.Cond.methodLink "WeavewordLaw" (108 : Nat) ({ cls := "WeavewordModel", name := "<init>", desc := "()V" } : Jvm.MethodName)) ∈ lw_all := lw_g (lw_at lw_m7 75 rfl) rfl
theorem q1857 : (Jvm.Cond.methodLink "WeavewordLaw" (115 : Nat) ({ cls := "WeavewordModel", name := "thrown", desc := "()I" } : Jvm.MethodName)) ∈ lw_all := lw_g (lw_at lw_m8 78 rfl) rfl
theorem q1861 : (Jvm.Cond.methodLink "WeavewordLaw" (166 : Nat) ({ cls := "WeavewordModel", name := "work", desc := "(I)I" } : Jvm.MethodName)) ∈ lw_all := lw_g (lw_at lw_m8 82 rfl) rfl
theorem q2025 : (Jvm.Cond.methodLink "WeavewordLaw" (170 : Nat) ({ cls := "WeavewordModel", name := "read", desc := "(IZ)I" } : Jvm.MethodName)) ∈ lw_all := lw_g (lw_at lw_m9 6 rfl) rfl
theorem q2033 : (Jvm.Cond.methodLink "WeavewordLaw" (114 : Nat) ({ cls := "WeavewordModel", name := "token", desc := "(II)I" } : Jvm.MethodName)) ∈ lw_all := lw_g (lw_at lw_m9 14 rfl) rfl
theorem q2040 : (Jvm.Cond.methodLink "WeavewordLaw" (122 : Nat) ({ cls := "WeavewordModel", name := "wipe", desc := "()I" } : Jvm.MethodName)) ∈ lw_all := lw_g (lw_at lw_m9 21 rfl) rfl
theorem q2044 : (Jvm.Cond.methodLink "WeavewordLaw" (126 : Nat) ({ cls := "WeavewordModel", name := "act", desc := "(I)I" } : Jvm.MethodName)) ∈ lw_all := lw_g (lw_at lw_m9 25 rfl) rfl
theorem q2048 : (Jvm.Cond.methodLink "WeavewordLaw" (129 : Nat) ({ cls := "WeavewordModel", name := "protect", desc := "(II)I" } : Jvm.MethodName)) ∈ lw_all := lw_g (lw_at lw_m9 29 rfl) rfl
theorem q2056 : (Jvm.Cond.methodLink "WeavewordLaw" (132 : Nat) ({ cls := "WeavewordModel", name := "create", desc := "(I)I" } : Jvm.MethodName)) ∈ lw_all := lw_g (lw_at lw_m9 37 rfl) rfl
theorem q2080 : (Jvm.Cond.methodLink "WeavewordLaw" (136 : Nat) ({ cls := "WeavewordModel", name := "edit", desc := "(III)I" } : Jvm.MethodName)) ∈ lw_all := lw_g (lw_at lw_m9 61 rfl) rfl
theorem q2125 : (Jvm.Cond.methodLink "WeavewordLaw" (139 : Nat) ({ cls := "WeavewordModel", name := "undo", desc := "(II)I" } : Jvm.MethodName)) ∈ lw_all := lw_g (lw_at lw_m9 106 rfl) rfl
theorem q2141 : (Jvm.Cond.methodLink "WeavewordLaw" (142 : Nat) ({ cls := "WeavewordModel", name := "bringIn", desc := "(II)I" } : Jvm.MethodName)) ∈ lw_all := lw_g (lw_at lw_m9 122 rfl) rfl
theorem q2145 : (Jvm.Cond.methodLink "WeavewordLaw" (145 : Nat) ({ cls := "WeavewordModel", name := "move", desc := "(II)I" } : Jvm.MethodName)) ∈ lw_all := lw_g (lw_at lw_m9 126 rfl) rfl
theorem q2153 : (Jvm.Cond.methodLink "WeavewordLaw" (148 : Nat) ({ cls := "WeavewordModel", name := "moveTree", desc := "(II)I" } : Jvm.MethodName)) ∈ lw_all := lw_g (lw_at lw_m9 134 rfl) rfl
theorem q2164 : (Jvm.Cond.methodLink "WeavewordLaw" (151 : Nat) ({ cls := "WeavewordModel", name := "approve", desc := "(I)I" } : Jvm.MethodName)) ∈ lw_all := lw_g (lw_at lw_m9 145 rfl) rfl
theorem q2168 : (Jvm.Cond.methodLink "WeavewordLaw" (154 : Nat) ({ cls := "WeavewordModel", name := "translate", desc := "(III)I" } : Jvm.MethodName)) ∈ lw_all := lw_g (lw_at lw_m9 149 rfl) rfl
theorem q2172 : (Jvm.Cond.methodLink "WeavewordLaw" (157 : Nat) ({ cls := "WeavewordModel", name := "instruct", desc := "(III)I" } : Jvm.MethodName)) ∈ lw_all := lw_g (lw_at lw_m9 153 rfl) rfl
theorem q2176 : (Jvm.Cond.methodLink "WeavewordLaw" (160 : Nat) ({ cls := "WeavewordModel", name := "empty", desc := "(I)I" } : Jvm.MethodName)) ∈ lw_all := lw_g (lw_at lw_m9 157 rfl) rfl
theorem q2180 : (Jvm.Cond.methodLink "WeavewordLaw" (163 : Nat) ({ cls := "WeavewordModel", name := "rank", desc := "(II)I" } : Jvm.MethodName)) ∈ lw_all := lw_g (lw_at lw_m9 161 rfl) rfl
theorem q2184 : (Jvm.Cond.methodLink "WeavewordLaw" (174 : Nat) ({ cls := "WeavewordModel", name := "clock", desc := "()I" } : Jvm.MethodName)) ∈ lw_all := lw_g (lw_at lw_m9 165 rfl) rfl
theorem q2188 : (Jvm.Cond.methodLink "WeavewordLaw" (177 : Nat) ({ cls := "WeavewordModel", name := "versions", desc := "(I)I" } : Jvm.MethodName)) ∈ lw_all := lw_g (lw_at lw_m9 169 rfl) rfl
theorem q2200 : (Jvm.Cond.methodLink "WeavewordLaw" (180 : Nat) ({ cls := "WeavewordModel", name := "versionAt", desc := "(II)I" } : Jvm.MethodName)) ∈ lw_all := lw_g (lw_at lw_m9 181 rfl) rfl
theorem q2204 : (Jvm.Cond.methodLink "WeavewordLaw" (183 : Nat) ({ cls := "WeavewordModel", name := "tokenAt", desc := "(II)I" } : Jvm.MethodName)) ∈ lw_all := lw_g (lw_at lw_m9 185 rfl) rfl
theorem q2212 : (Jvm.Cond.methodLink "WeavewordLaw" (186 : Nat) ({ cls := "WeavewordModel", name := "leads", desc := "(I)I" } : Jvm.MethodName)) ∈ lw_all := lw_g (lw_at lw_m9 193 rfl) rfl
theorem q2220 : (Jvm.Cond.methodLink "WeavewordLaw" (189 : Nat) ({ cls := "WeavewordModel", name := "isStale", desc := "(I)Z" } : Jvm.MethodName)) ∈ lw_all := lw_g (lw_at lw_m9 201 rfl) rfl
theorem q2224 : (Jvm.Cond.methodLink "WeavewordLaw" (193 : Nat) ({ cls := "WeavewordModel", name := "queued", desc := "()I" } : Jvm.MethodName)) ∈ lw_all := lw_g (lw_at lw_m9 205 rfl) rfl
theorem q2228 : (Jvm.Cond.methodLink "WeavewordLaw" (196 : Nat) ({ cls := "WeavewordModel", name := "shown", desc := "(II)I" } : Jvm.MethodName)) ∈ lw_all := lw_g (lw_at lw_m9 209 rfl) rfl
theorem q2232 : (Jvm.Cond.methodLink "WeavewordLaw" (199 : Nat) ({ cls := "WeavewordModel", name := "shownAnew", desc := "(II)I" } : Jvm.MethodName)) ∈ lw_all := lw_g (lw_at lw_m9 213 rfl) rfl
theorem q2236 : (Jvm.Cond.methodLink "WeavewordLaw" (202 : Nat) ({ cls := "WeavewordModel", name := "approvedAt", desc := "(II)I" } : Jvm.MethodName)) ∈ lw_all := lw_g (lw_at lw_m9 217 rfl) rfl
theorem q2240 : (Jvm.Cond.methodLink "WeavewordLaw" (205 : Nat) ({ cls := "WeavewordModel", name := "linked", desc := "(II)I" } : Jvm.MethodName)) ∈ lw_all := lw_g (lw_at lw_m9 221 rfl) rfl
theorem q2244 : (Jvm.Cond.methodLink "WeavewordLaw" (208 : Nat) ({ cls := "WeavewordModel", name := "members", desc := "(I)I" } : Jvm.MethodName)) ∈ lw_all := lw_g (lw_at lw_m9 225 rfl) rfl
theorem q2248 : (Jvm.Cond.methodLink "WeavewordLaw" (213 : Nat) ({ cls := "WeavewordModel", name := "odd", desc := "(Z)I" } : Jvm.MethodName)) ∈ lw_all := lw_g (lw_at lw_m9 229 rfl) rfl
theorem q2256 : (Jvm.Cond.methodLink "WeavewordLaw" (216 : Nat) ({ cls := "WeavewordModel", name := "inLanguage", desc := "(II)I" } : Jvm.MethodName)) ∈ lw_all := lw_g (lw_at lw_m9 237 rfl) rfl
theorem q2268 : (Jvm.Cond.methodLink "WeavewordLaw" (219 : Nat) ({ cls := "WeavewordModel", name := "isOutdated", desc := "(II)Z" } : Jvm.MethodName)) ∈ lw_all := lw_g (lw_at lw_m10 9 rfl) rfl
theorem q458 : (Jvm.Cond.sameMethod "[B" "java/lang/Object" "clone" "()Ljava/lang/Object;") ∈ lw_all := lw_g (lw_at lw_m2 119 rfl) rfl
set_option maxRecDepth 100000
theorem q461 : (Jvm.Cond.selects "[B" ({ cls := "[B", name := "clone", desc := "()Ljava/lang/Object;" } : Jvm.MethodName) ({ cls := "java/lang/Object", name := "clone", desc := "()Ljava/lang/Object;" } : Jvm.MethodName)) ∈ lw_all := lw_g (lw_at lw_m2 122 rfl) rfl
theorem q462 : (Jvm.Cond.castable "[B" "java/lang/Cloneable") ∈ lw_tbl := lw_at lw_m2 123 rfl
theorem q2316 : (Jvm.Cond.castable "[B" "java/lang/Object") ∈ lw_tbl := lw_at lw_m10 57 rfl
theorem q2314 : (Jvm.Cond.castable "[I" "java/lang/Object") ∈ lw_tbl := lw_at lw_m10 55 rfl
set_option maxRecDepth 100000
theorem q2319 : (Jvm.Cond.castable "[J" "java/lang/Object") ∈ lw_tbl := lw_at lw_m10 60 rfl
set_option maxRecDepth 100000
theorem q2318 : (Jvm.Cond.castable "[LWeaveword$Content;" "java/lang/Object") ∈ lw_tbl := lw_at lw_m10 59 rfl
set_option maxRecDepth 100000
theorem q2311 : (Jvm.Cond.castable "[LWeaveword$Page;" "java/lang/Object") ∈ lw_tbl := lw_at lw_m10 52 rfl
set_option maxRecDepth 100000
theorem q2312 : (Jvm.Cond.castable "[LWeaveword$Stored;" "java/lang/Object") ∈ lw_tbl := lw_at lw_m10 53 rfl
set_option maxRecDepth 100000
theorem q2313 : (Jvm.Cond.castable "[LWeaveword$Translation;" "java/lang/Object") ∈ lw_tbl := lw_at lw_m10 54 rfl
set_option maxRecDepth 100000
theorem q2308 : (Jvm.Cond.sameMethod "[Ljava/lang/Object;" "java/lang/Object" "getClass" "()Ljava/lang/Class;") ∈ lw_all := lw_g (lw_at lw_m10 49 rfl) rfl
set_option maxRecDepth 100000
theorem q2309 : (Jvm.Cond.selects "[Ljava/lang/Object;" ({ cls := "java/lang/Object", name := "getClass", desc := "()Ljava/lang/Class;" } : Jvm.MethodName) ({ cls := "java/lang/Object", name := "getClass", desc := "()Ljava/lang/Class;" } : Jvm.MethodName)) ∈ lw_all := lw_g (lw_at lw_m10 50 rfl) rfl
theorem q2315 : (Jvm.Cond.castable "[Ljava/lang/Object;" "java/lang/Object") ∈ lw_tbl := lw_at lw_m10 56 rfl
theorem q2317 : (Jvm.Cond.castable "[Z" "java/lang/Object") ∈ lw_tbl := lw_at lw_m10 58 rfl
set_option maxRecDepth 100000
theorem q123 : (Jvm.Cond.initialized "java/lang/Integer$IntegerCache") ∈ lw_all := lw_g (lw_at lw_m1 24 rfl) rfl
set_option maxRecDepth 100000
theorem q749 : (Jvm.Cond.laysStatic "java/lang/Integer$IntegerCache" "high" "I") ∈ lw_tbl := lw_at lw_m3 170 rfl
theorem q751 : (Jvm.Cond.laysStatic "java/lang/Integer$IntegerCache" "cache" "[Ljava/lang/Integer;") ∈ lw_tbl := lw_at lw_m3 172 rfl
theorem q108 : (Jvm.Cond.initialized "java/lang/System") ∈ lw_all := lw_g (lw_at lw_m1 9 rfl) rfl
set_option maxRecDepth 100000
theorem q268 : (Jvm.Cond.static ({ cls := "java/lang/System", name := "arraycopy", desc := "(Ljava/lang/Object;ILjava/lang/Object;II)V" } : Jvm.MethodName)) ∈ lw_all := lw_g (lw_at lw_m1 169 rfl) rfl
theorem q269 : (Jvm.Cond.native ({ cls := "java/lang/System", name := "arraycopy", desc := "(Ljava/lang/Object;ILjava/lang/Object;II)V" } : Jvm.MethodName)) ∈ lw_all := lw_g (lw_at lw_m1 170 rfl) rfl
theorem q1009 : (Jvm.Cond.interfaceMethod "java/util/Iterator" "java/util/Iterator" "hasNext" "()Z") ∈ lw_tbl := lw_at lw_m4 190 rfl
set_option maxRecDepth 100000
theorem q1010 : (Jvm.Cond.declares ({ cls := "java/util/Iterator", name := "hasNext", desc := "()Z" } : Jvm.MethodName)) ∈ lw_tbl := lw_at lw_m4 191 rfl
theorem q1019 : (Jvm.Cond.interfaceMethod "java/util/Iterator" "java/util/Iterator" "next" "()Ljava/lang/Object;") ∈ lw_tbl := lw_at lw_m4 200 rfl
theorem q1020 : (Jvm.Cond.declares ({ cls := "java/util/Iterator", name := "next", desc := "()Ljava/lang/Object;" } : Jvm.MethodName)) ∈ lw_tbl := lw_at lw_m4 201 rfl
theorem q198 : (Jvm.Cond.interfaceMethod "java/util/List" "java/util/List" "add" "(Ljava/lang/Object;)Z") ∈ lw_tbl := lw_at lw_m1 99 rfl
set_option maxRecDepth 100000
theorem q199 : (Jvm.Cond.declares ({ cls := "java/util/List", name := "add", desc := "(Ljava/lang/Object;)Z" } : Jvm.MethodName)) ∈ lw_tbl := lw_at lw_m1 100 rfl
theorem q311 : (Jvm.Cond.interfaceMethod "java/util/List" "java/util/List" "size" "()I") ∈ lw_tbl := lw_at lw_m1 212 rfl
theorem q312 : (Jvm.Cond.declares ({ cls := "java/util/List", name := "size", desc := "()I" } : Jvm.MethodName)) ∈ lw_tbl := lw_at lw_m1 213 rfl
theorem q320 : (Jvm.Cond.interfaceMethod "java/util/List" "java/util/List" "clear" "()V") ∈ lw_tbl := lw_at lw_m1 221 rfl
theorem q321 : (Jvm.Cond.declares ({ cls := "java/util/List", name := "clear", desc := "()V" } : Jvm.MethodName)) ∈ lw_tbl := lw_at lw_m1 222 rfl
theorem q678 : (Jvm.Cond.interfaceMethod "java/util/List" "java/util/List" "get" "(I)Ljava/lang/Object;") ∈ lw_tbl := lw_at lw_m3 99 rfl
theorem q679 : (Jvm.Cond.declares ({ cls := "java/util/List", name := "get", desc := "(I)Ljava/lang/Object;" } : Jvm.MethodName)) ∈ lw_tbl := lw_at lw_m3 100 rfl
theorem q897 : (Jvm.Cond.interfaceMethod "java/util/List" "java/util/List" "add" "(ILjava/lang/Object;)V") ∈ lw_tbl := lw_at lw_m4 78 rfl
theorem q898 : (Jvm.Cond.declares ({ cls := "java/util/List", name := "add", desc := "(ILjava/lang/Object;)V" } : Jvm.MethodName)) ∈ lw_tbl := lw_at lw_m4 79 rfl
theorem q969 : (Jvm.Cond.interfaceMethod "java/util/List" "java/util/List" "set" "(ILjava/lang/Object;)Ljava/lang/Object;") ∈ lw_tbl := lw_at lw_m4 150 rfl
theorem q970 : (Jvm.Cond.declares ({ cls := "java/util/List", name := "set", desc := "(ILjava/lang/Object;)Ljava/lang/Object;" } : Jvm.MethodName)) ∈ lw_tbl := lw_at lw_m4 151 rfl
theorem q981 : (Jvm.Cond.interfaceMethod "java/util/List" "java/util/List" "iterator" "()Ljava/util/Iterator;") ∈ lw_tbl := lw_at lw_m4 162 rfl
theorem q982 : (Jvm.Cond.declares ({ cls := "java/util/List", name := "iterator", desc := "()Ljava/util/Iterator;" } : Jvm.MethodName)) ∈ lw_tbl := lw_at lw_m4 163 rfl
theorem q1579 : (Jvm.Cond.interfaceMethod "java/util/List" "java/util/List" "isEmpty" "()Z") ∈ lw_tbl := lw_at lw_m7 40 rfl
theorem q1580 : (Jvm.Cond.declares ({ cls := "java/util/List", name := "isEmpty", desc := "()Z" } : Jvm.MethodName)) ∈ lw_tbl := lw_at lw_m7 41 rfl
theorem q177 : (Jvm.Cond.arrayOver (Jvm.ClassFile.FieldType.object "Weaveword$Page")) ∈ lw_tbl := lw_at lw_m1 78 rfl
set_option maxRecDepth 100000
theorem q179 : (Jvm.Cond.arrayOver (Jvm.ClassFile.FieldType.object "Weaveword$Stored")) ∈ lw_tbl := lw_at lw_m1 80 rfl
theorem q181 : (Jvm.Cond.arrayOver (Jvm.ClassFile.FieldType.object "Weaveword$Translation")) ∈ lw_tbl := lw_at lw_m1 82 rfl
theorem q195 : (Jvm.Cond.arrayClass Jvm.ClassFile.FieldType.int) ∈ lw_all := lw_g (lw_at lw_m1 96 rfl) rfl
theorem q262 : (Jvm.Cond.arrayOver (Jvm.ClassFile.FieldType.object "java/lang/Object")) ∈ lw_tbl := lw_at lw_m1 163 rfl
theorem q431 : (Jvm.Cond.arrayClass Jvm.ClassFile.FieldType.byte) ∈ lw_all := lw_g (lw_at lw_m2 92 rfl) rfl
theorem q1108 : (Jvm.Cond.arrayClass Jvm.ClassFile.FieldType.boolean) ∈ lw_all := lw_g (lw_at lw_m5 49 rfl) rfl
theorem q1230 : (Jvm.Cond.arrayOver (Jvm.ClassFile.FieldType.object "Weaveword$Content")) ∈ lw_tbl := lw_at lw_m5 171 rfl
theorem q2272 : (Jvm.Cond.arrayClass Jvm.ClassFile.FieldType.long) ∈ lw_all := lw_g (lw_at lw_m10 13 rfl) rfl
def twl : List Cond := [Jvm.Cond.initialized "java/lang/Throwable",
  Jvm.Cond.lays "java/lang/Throwable" "java/lang/Throwable" "cause" "Ljava/lang/Throwable;",
  Jvm.Cond.lays "java/lang/Throwable" "java/lang/Throwable" "stackTrace" "[Ljava/lang/StackTraceElement;",
  Jvm.Cond.lays "java/lang/Throwable" "java/lang/Throwable" "suppressedExceptions" "Ljava/util/List;",
  Jvm.Cond.lays "java/lang/Throwable" "java/lang/Throwable" "detailMessage" "Ljava/lang/String;",
  Jvm.Cond.lays "java/lang/Throwable" "java/lang/Throwable" "backtrace" "Ljava/lang/Object;",
  Jvm.Cond.fieldLink "java/lang/Throwable" (198 : Nat) "java/lang/Throwable" "backtrace" "Ljava/lang/Object;",
  Jvm.Cond.superclass "java/lang/Throwable" "java/lang/Object",
  Jvm.Cond.instanceMethod ({ cls := "java/lang/Throwable", name := "<init>", desc := "()V" } : Jvm.MethodName),
  Jvm.Cond.code ({ cls := "java/lang/Throwable", name := "<init>", desc := "()V" } : Jvm.MethodName) prog_35_method_1_code (1 : Nat) (Option.none : Option Jvm.ClassFile.FieldType),
  Jvm.Cond.methodLink "java/lang/Throwable" (1 : Nat) ({ cls := "java/lang/Object", name := "<init>", desc := "()V" } : Jvm.MethodName),
  Jvm.Cond.fieldLink "java/lang/Throwable" (13 : Nat) "java/lang/Throwable" "UNASSIGNED_STACK" "[Ljava/lang/StackTraceElement;",
  Jvm.Cond.fieldLink "java/lang/Throwable" (20 : Nat) "java/lang/Throwable" "SUPPRESSED_SENTINEL" "Ljava/util/List;",
  Jvm.Cond.methodLink "java/lang/Throwable" (27 : Nat) ({ cls := "java/lang/Throwable", name := "fillInStackTrace", desc := "()Ljava/lang/Throwable;" } : Jvm.MethodName),
  Jvm.Cond.instanceMethod ({ cls := "java/lang/Throwable", name := "fillInStackTrace", desc := "()Ljava/lang/Throwable;" } : Jvm.MethodName),
  Jvm.Cond.sameMethod "java/lang/Throwable" "java/lang/Throwable" "fillInStackTrace" "()Ljava/lang/Throwable;",
  Jvm.Cond.codeSync ({ cls := "java/lang/Throwable", name := "fillInStackTrace", desc := "()Ljava/lang/Throwable;" } : Jvm.MethodName) prog_35_method_18_code (1 : Nat) (Option.some (Jvm.ClassFile.FieldType.object "java/lang/Throwable")),
  Jvm.Cond.methodLink "java/lang/Throwable" (202 : Nat) ({ cls := "java/lang/Throwable", name := "fillInStackTrace", desc := "(I)Ljava/lang/Throwable;" } : Jvm.MethodName),
  Jvm.Cond.instanceMethod ({ cls := "java/lang/Throwable", name := "fillInStackTrace", desc := "(I)Ljava/lang/Throwable;" } : Jvm.MethodName),
  Jvm.Cond.instantiable "java/lang/Throwable" (6 : Nat),
  Jvm.Cond.native ({ cls := "java/lang/Throwable", name := "fillInStackTrace", desc := "(I)Ljava/lang/Throwable;" } : Jvm.MethodName),
  Jvm.Cond.instanceMethod ({ cls := "java/lang/Throwable", name := "<init>", desc := "(Ljava/lang/String;)V" } : Jvm.MethodName),
  Jvm.Cond.code ({ cls := "java/lang/Throwable", name := "<init>", desc := "(Ljava/lang/String;)V" } : Jvm.MethodName) prog_35_method_2_code (2 : Nat) (Option.none : Option Jvm.ClassFile.FieldType),
  Jvm.Cond.fieldLink "java/lang/Throwable" (198 : Nat) "java/lang/Throwable" "backtrace" "Ljava/lang/Object;",
  Jvm.Cond.fieldLink "java/lang/Throwable" (31 : Nat) "java/lang/Throwable" "detailMessage" "Ljava/lang/String;",
  Jvm.Cond.fieldLink "java/lang/Throwable" (7 : Nat) "java/lang/Throwable" "cause" "Ljava/lang/Throwable;",
  Jvm.Cond.fieldLink "java/lang/Throwable" (17 : Nat) "java/lang/Throwable" "stackTrace" "[Ljava/lang/StackTraceElement;",
  Jvm.Cond.fieldLink "java/lang/Throwable" (24 : Nat) "java/lang/Throwable" "suppressedExceptions" "Ljava/util/List;",
  Jvm.Cond.soleField "java/lang/Throwable" "backtrace",
  Jvm.Cond.soleField "java/lang/Throwable" "detailMessage",
  Jvm.Cond.soleField "java/lang/Throwable" "cause",
  Jvm.Cond.soleField "java/lang/Throwable" "stackTrace",
  Jvm.Cond.soleField "java/lang/Throwable" "depth",
  Jvm.Cond.soleField "java/lang/Throwable" "suppressedExceptions",
  Jvm.Cond.sameMethod "java/lang/Throwable" "java/lang/Throwable" "fillInStackTrace" "(I)Ljava/lang/Throwable;",
  Jvm.Cond.initialized "java/lang/Exception",
  Jvm.Cond.instanceMethod ({ cls := "java/lang/Exception", name := "<init>", desc := "(Ljava/lang/String;)V" } : Jvm.MethodName),
  Jvm.Cond.code ({ cls := "java/lang/Exception", name := "<init>", desc := "(Ljava/lang/String;)V" } : Jvm.MethodName) prog_20_method_2_code (2 : Nat) (Option.none : Option Jvm.ClassFile.FieldType),
  Jvm.Cond.methodLink "java/lang/Exception" (7 : Nat) ({ cls := "java/lang/Throwable", name := "<init>", desc := "(Ljava/lang/String;)V" } : Jvm.MethodName),
  Jvm.Cond.initialized "java/lang/RuntimeException",
  Jvm.Cond.instanceMethod ({ cls := "java/lang/RuntimeException", name := "<init>", desc := "(Ljava/lang/String;)V" } : Jvm.MethodName),
  Jvm.Cond.code ({ cls := "java/lang/RuntimeException", name := "<init>", desc := "(Ljava/lang/String;)V" } : Jvm.MethodName) prog_29_method_2_code (2 : Nat) (Option.none : Option Jvm.ClassFile.FieldType),
  Jvm.Cond.methodLink "java/lang/RuntimeException" (7 : Nat) ({ cls := "java/lang/Exception", name := "<init>", desc := "(Ljava/lang/String;)V" } : Jvm.MethodName),
  Jvm.Cond.initialized "java/lang/IllegalArgumentException",
  Jvm.Cond.selects "java/lang/IllegalArgumentException" ({ cls := "java/lang/Object", name := "getClass", desc := "()Ljava/lang/Class;" } : Jvm.MethodName) ({ cls := "java/lang/Object", name := "getClass", desc := "()Ljava/lang/Class;" } : Jvm.MethodName),
  Jvm.Cond.selects "java/lang/IllegalArgumentException" ({ cls := "java/lang/Throwable", name := "fillInStackTrace", desc := "()Ljava/lang/Throwable;" } : Jvm.MethodName) ({ cls := "java/lang/Throwable", name := "fillInStackTrace", desc := "()Ljava/lang/Throwable;" } : Jvm.MethodName),
  Jvm.Cond.instantiable "java/lang/IllegalArgumentException" (6 : Nat),
  Jvm.Cond.selects "java/lang/IllegalArgumentException" ({ cls := "java/lang/Throwable", name := "fillInStackTrace", desc := "(I)Ljava/lang/Throwable;" } : Jvm.MethodName) ({ cls := "java/lang/Throwable", name := "fillInStackTrace", desc := "(I)Ljava/lang/Throwable;" } : Jvm.MethodName),
  Jvm.Cond.lays "java/lang/IllegalArgumentException" "java/lang/Throwable" "cause" "Ljava/lang/Throwable;",
  Jvm.Cond.lays "java/lang/IllegalArgumentException" "java/lang/Throwable" "stackTrace" "[Ljava/lang/StackTraceElement;",
  Jvm.Cond.lays "java/lang/IllegalArgumentException" "java/lang/Throwable" "suppressedExceptions" "Ljava/util/List;",
  Jvm.Cond.lays "java/lang/IllegalArgumentException" "java/lang/Throwable" "detailMessage" "Ljava/lang/String;",
  Jvm.Cond.lays "java/lang/IllegalArgumentException" "java/lang/Throwable" "backtrace" "Ljava/lang/Object;",
  Jvm.Cond.instanceMethod ({ cls := "java/lang/IllegalArgumentException", name := "<init>", desc := "(Ljava/lang/String;)V" } : Jvm.MethodName),
  Jvm.Cond.code ({ cls := "java/lang/IllegalArgumentException", name := "<init>", desc := "(Ljava/lang/String;)V" } : Jvm.MethodName) prog_21_method_2_code (2 : Nat) (Option.none : Option Jvm.ClassFile.FieldType),
  Jvm.Cond.methodLink "java/lang/IllegalArgumentException" (7 : Nat) ({ cls := "java/lang/RuntimeException", name := "<init>", desc := "(Ljava/lang/String;)V" } : Jvm.MethodName),
  Jvm.Cond.lays "java/lang/IllegalArgumentException" "java/lang/Throwable" "depth" "I",
  Jvm.Cond.superclass "java/lang/IllegalArgumentException" "java/lang/RuntimeException",
  Jvm.Cond.initialized "java/lang/IllegalStateException",
  Jvm.Cond.selects "java/lang/IllegalStateException" ({ cls := "java/lang/Object", name := "getClass", desc := "()Ljava/lang/Class;" } : Jvm.MethodName) ({ cls := "java/lang/Object", name := "getClass", desc := "()Ljava/lang/Class;" } : Jvm.MethodName),
  Jvm.Cond.selects "java/lang/IllegalStateException" ({ cls := "java/lang/Throwable", name := "fillInStackTrace", desc := "()Ljava/lang/Throwable;" } : Jvm.MethodName) ({ cls := "java/lang/Throwable", name := "fillInStackTrace", desc := "()Ljava/lang/Throwable;" } : Jvm.MethodName),
  Jvm.Cond.instantiable "java/lang/IllegalStateException" (6 : Nat),
  Jvm.Cond.selects "java/lang/IllegalStateException" ({ cls := "java/lang/Throwable", name := "fillInStackTrace", desc := "(I)Ljava/lang/Throwable;" } : Jvm.MethodName) ({ cls := "java/lang/Throwable", name := "fillInStackTrace", desc := "(I)Ljava/lang/Throwable;" } : Jvm.MethodName),
  Jvm.Cond.lays "java/lang/IllegalStateException" "java/lang/Throwable" "cause" "Ljava/lang/Throwable;",
  Jvm.Cond.lays "java/lang/IllegalStateException" "java/lang/Throwable" "stackTrace" "[Ljava/lang/StackTraceElement;",
  Jvm.Cond.lays "java/lang/IllegalStateException" "java/lang/Throwable" "suppressedExceptions" "Ljava/util/List;",
  Jvm.Cond.lays "java/lang/IllegalStateException" "java/lang/Throwable" "detailMessage" "Ljava/lang/String;",
  Jvm.Cond.lays "java/lang/IllegalStateException" "java/lang/Throwable" "backtrace" "Ljava/lang/Object;",
  Jvm.Cond.instanceMethod ({ cls := "java/lang/IllegalStateException", name := "<init>", desc := "(Ljava/lang/String;)V" } : Jvm.MethodName),
  Jvm.Cond.code ({ cls := "java/lang/IllegalStateException", name := "<init>", desc := "(Ljava/lang/String;)V" } : Jvm.MethodName) prog_22_method_2_code (2 : Nat) (Option.none : Option Jvm.ClassFile.FieldType),
  Jvm.Cond.methodLink "java/lang/IllegalStateException" (7 : Nat) ({ cls := "java/lang/RuntimeException", name := "<init>", desc := "(Ljava/lang/String;)V" } : Jvm.MethodName),
  Jvm.Cond.lays "java/lang/IllegalStateException" "java/lang/Throwable" "depth" "I",
  Jvm.Cond.superclass "java/lang/IllegalStateException" "java/lang/RuntimeException",
  Jvm.Cond.initialized "java/lang/IndexOutOfBoundsException",
  Jvm.Cond.selects "java/lang/IndexOutOfBoundsException" ({ cls := "java/lang/Object", name := "getClass", desc := "()Ljava/lang/Class;" } : Jvm.MethodName) ({ cls := "java/lang/Object", name := "getClass", desc := "()Ljava/lang/Class;" } : Jvm.MethodName),
  Jvm.Cond.instantiable "java/lang/IndexOutOfBoundsException" (6 : Nat),
  Jvm.Cond.selects "java/lang/IndexOutOfBoundsException" ({ cls := "java/lang/Throwable", name := "fillInStackTrace", desc := "(I)Ljava/lang/Throwable;" } : Jvm.MethodName) ({ cls := "java/lang/Throwable", name := "fillInStackTrace", desc := "(I)Ljava/lang/Throwable;" } : Jvm.MethodName),
  Jvm.Cond.selects "java/lang/IndexOutOfBoundsException" ({ cls := "java/lang/Throwable", name := "fillInStackTrace", desc := "()Ljava/lang/Throwable;" } : Jvm.MethodName) ({ cls := "java/lang/Throwable", name := "fillInStackTrace", desc := "()Ljava/lang/Throwable;" } : Jvm.MethodName),
  Jvm.Cond.lays "java/lang/IndexOutOfBoundsException" "java/lang/Throwable" "cause" "Ljava/lang/Throwable;",
  Jvm.Cond.lays "java/lang/IndexOutOfBoundsException" "java/lang/Throwable" "stackTrace" "[Ljava/lang/StackTraceElement;",
  Jvm.Cond.lays "java/lang/IndexOutOfBoundsException" "java/lang/Throwable" "suppressedExceptions" "Ljava/util/List;",
  Jvm.Cond.lays "java/lang/IndexOutOfBoundsException" "java/lang/Throwable" "detailMessage" "Ljava/lang/String;",
  Jvm.Cond.lays "java/lang/IndexOutOfBoundsException" "java/lang/Throwable" "backtrace" "Ljava/lang/Object;",
  Jvm.Cond.instanceMethod ({ cls := "java/lang/IndexOutOfBoundsException", name := "<init>", desc := "(Ljava/lang/String;)V" } : Jvm.MethodName),
  Jvm.Cond.code ({ cls := "java/lang/IndexOutOfBoundsException", name := "<init>", desc := "(Ljava/lang/String;)V" } : Jvm.MethodName) prog_23_method_2_code (2 : Nat) (Option.none : Option Jvm.ClassFile.FieldType),
  Jvm.Cond.methodLink "java/lang/IndexOutOfBoundsException" (7 : Nat) ({ cls := "java/lang/RuntimeException", name := "<init>", desc := "(Ljava/lang/String;)V" } : Jvm.MethodName),
  Jvm.Cond.lays "java/lang/IndexOutOfBoundsException" "java/lang/Throwable" "depth" "I",
  Jvm.Cond.superclass "java/lang/IndexOutOfBoundsException" "java/lang/RuntimeException",
  Jvm.Cond.instanceMethod ({ cls := "java/lang/Object", name := "<init>", desc := "()V" } : Jvm.MethodName),
  Jvm.Cond.code ({ cls := "java/lang/Object", name := "<init>", desc := "()V" } : Jvm.MethodName) object_method_1_code (1 : Nat) (Option.none : Option Jvm.ClassFile.FieldType),
  Jvm.Cond.instanceMethod ({ cls := "java/lang/Object", name := "getClass", desc := "()Ljava/lang/Class;" } : Jvm.MethodName),
  Jvm.Cond.sameMethod "java/lang/Object" "java/lang/Object" "getClass" "()Ljava/lang/Class;",
  Jvm.Cond.native ({ cls := "java/lang/Object", name := "getClass", desc := "()Ljava/lang/Class;" } : Jvm.MethodName),
  Jvm.Cond.native ({ cls := "java/lang/Object", name := "clone", desc := "()Ljava/lang/Object;" } : Jvm.MethodName),
  Jvm.Cond.instanceMethod ({ cls := "java/lang/Object", name := "clone", desc := "()Ljava/lang/Object;" } : Jvm.MethodName),
  Jvm.Cond.initialized "java/lang/Object",
  Jvm.Cond.methodLink "Weaveword" (73 : Nat) ({ cls := "java/lang/IndexOutOfBoundsException", name := "<init>", desc := "(Ljava/lang/String;)V" } : Jvm.MethodName),
  Jvm.Cond.methodLink "Weaveword" (106 : Nat) ({ cls := "java/lang/IllegalArgumentException", name := "<init>", desc := "(Ljava/lang/String;)V" } : Jvm.MethodName),
  Jvm.Cond.methodLink "Weaveword" (109 : Nat) ({ cls := "java/lang/IllegalStateException", name := "<init>", desc := "(Ljava/lang/String;)V" } : Jvm.MethodName)]
theorem twl_ok : ∀ w ∈ twl, w ∈ lw_all := List.forall_mem_cons.mpr ⟨q110, List.forall_mem_cons.mpr ⟨q370, List.forall_mem_cons.mpr ⟨q372, List.forall_mem_cons.mpr ⟨q374, List.forall_mem_cons.mpr ⟨q376, List.forall_mem_cons.mpr ⟨q378, List.forall_mem_cons.mpr ⟨q379, List.forall_mem_cons.mpr ⟨q380, List.forall_mem_cons.mpr ⟨q381, List.forall_mem_cons.mpr ⟨q382, List.forall_mem_cons.mpr ⟨q383, List.forall_mem_cons.mpr ⟨q384, List.forall_mem_cons.mpr ⟨q386, List.forall_mem_cons.mpr ⟨q388, List.forall_mem_cons.mpr ⟨q389, List.forall_mem_cons.mpr ⟨q390, List.forall_mem_cons.mpr ⟨q394, List.forall_mem_cons.mpr ⟨q395, List.forall_mem_cons.mpr ⟨q397, List.forall_mem_cons.mpr ⟨q398, List.forall_mem_cons.mpr ⟨q399, List.forall_mem_cons.mpr ⟨q625, List.forall_mem_cons.mpr ⟨q626, List.forall_mem_cons.mpr ⟨q627, List.forall_mem_cons.mpr ⟨q628, List.forall_mem_cons.mpr ⟨q629, List.forall_mem_cons.mpr ⟨q630, List.forall_mem_cons.mpr ⟨q631, List.forall_mem_cons.mpr ⟨q632, List.forall_mem_cons.mpr ⟨q633, List.forall_mem_cons.mpr ⟨q634, List.forall_mem_cons.mpr ⟨q635, List.forall_mem_cons.mpr ⟨q637, List.forall_mem_cons.mpr ⟨q638, List.forall_mem_cons.mpr ⟨q2273, List.forall_mem_cons.mpr ⟨q111, List.forall_mem_cons.mpr ⟨q622, List.forall_mem_cons.mpr ⟨q623, List.forall_mem_cons.mpr ⟨q624, List.forall_mem_cons.mpr ⟨q112, List.forall_mem_cons.mpr ⟨q619, List.forall_mem_cons.mpr ⟨q620, List.forall_mem_cons.mpr ⟨q621, List.forall_mem_cons.mpr ⟨q113, List.forall_mem_cons.mpr ⟨q249, List.forall_mem_cons.mpr ⟨q392, List.forall_mem_cons.mpr ⟨q601, List.forall_mem_cons.mpr ⟨q603, List.forall_mem_cons.mpr ⟨q604, List.forall_mem_cons.mpr ⟨q605, List.forall_mem_cons.mpr ⟨q606, List.forall_mem_cons.mpr ⟨q607, List.forall_mem_cons.mpr ⟨q608, List.forall_mem_cons.mpr ⟨q616, List.forall_mem_cons.mpr ⟨q617, List.forall_mem_cons.mpr ⟨q618, List.forall_mem_cons.mpr ⟨q636, List.forall_mem_cons.mpr ⟨q639, List.forall_mem_cons.mpr ⟨q122, List.forall_mem_cons.mpr ⟨q250, List.forall_mem_cons.mpr ⟨q393, List.forall_mem_cons.mpr ⟨q731, List.forall_mem_cons.mpr ⟨q733, List.forall_mem_cons.mpr ⟨q734, List.forall_mem_cons.mpr ⟨q735, List.forall_mem_cons.mpr ⟨q736, List.forall_mem_cons.mpr ⟨q737, List.forall_mem_cons.mpr ⟨q738, List.forall_mem_cons.mpr ⟨q740, List.forall_mem_cons.mpr ⟨q741, List.forall_mem_cons.mpr ⟨q742, List.forall_mem_cons.mpr ⟨q743, List.forall_mem_cons.mpr ⟨q744, List.forall_mem_cons.mpr ⟨q124, List.forall_mem_cons.mpr ⟨q251, List.forall_mem_cons.mpr ⟨q359, List.forall_mem_cons.mpr ⟨q367, List.forall_mem_cons.mpr ⟨q368, List.forall_mem_cons.mpr ⟨q369, List.forall_mem_cons.mpr ⟨q371, List.forall_mem_cons.mpr ⟨q373, List.forall_mem_cons.mpr ⟨q375, List.forall_mem_cons.mpr ⟨q377, List.forall_mem_cons.mpr ⟨q665, List.forall_mem_cons.mpr ⟨q666, List.forall_mem_cons.mpr ⟨q667, List.forall_mem_cons.mpr ⟨q668, List.forall_mem_cons.mpr ⟨q669, List.forall_mem_cons.mpr ⟨q145, List.forall_mem_cons.mpr ⟨q146, List.forall_mem_cons.mpr ⟨q232, List.forall_mem_cons.mpr ⟨q233, List.forall_mem_cons.mpr ⟨q257, List.forall_mem_cons.mpr ⟨q459, List.forall_mem_cons.mpr ⟨q460, List.forall_mem_cons.mpr ⟨q2282, List.forall_mem_cons.mpr ⟨q664, List.forall_mem_cons.mpr ⟨q723, List.forall_mem_cons.mpr ⟨q739, (fun _ h => nomatch h)⟩⟩⟩⟩⟩⟩⟩⟩⟩⟩⟩⟩⟩⟩⟩⟩⟩⟩⟩⟩⟩⟩⟩⟩⟩⟩⟩⟩⟩⟩⟩⟩⟩⟩⟩⟩⟩⟩⟩⟩⟩⟩⟩⟩⟩⟩⟩⟩⟩⟩⟩⟩⟩⟩⟩⟩⟩⟩⟩⟩⟩⟩⟩⟩⟩⟩⟩⟩⟩⟩⟩⟩⟩⟩⟩⟩⟩⟩⟩⟩⟩⟩⟩⟩⟩⟩⟩⟩⟩⟩⟩⟩⟩⟩⟩⟩⟩⟩⟩
theorem xw_73 : ∀ w ∈ vx_atS "Weaveword" 73 (xN 10) xNames, w ∈ lw_all ∨ w ∈ gNw := fun w hw => Or.imp (twl_ok w) id ((by decide +kernel : ∀ w ∈ vx_atS "Weaveword" 73 (xN 10) xNames, w ∈ twl ∨ w ∈ gNw) w hw)
theorem xg_73 : ∀ w ∈ vx_atS "Weaveword" 73 (xN 10) xNames, vx_ot w = true := by decide +kernel
theorem xw_106 : ∀ w ∈ vx_atS "Weaveword" 106 (xN 11) xNames, w ∈ lw_all ∨ w ∈ gNw := fun w hw => Or.imp (twl_ok w) id ((by decide +kernel : ∀ w ∈ vx_atS "Weaveword" 106 (xN 11) xNames, w ∈ twl ∨ w ∈ gNw) w hw)
theorem xg_106 : ∀ w ∈ vx_atS "Weaveword" 106 (xN 11) xNames, vx_ot w = true := by decide +kernel
theorem xw_109 : ∀ w ∈ vx_atS "Weaveword" 109 (xN 12) xNames, w ∈ lw_all ∨ w ∈ gNw := fun w hw => Or.imp (twl_ok w) id ((by decide +kernel : ∀ w ∈ vx_atS "Weaveword" 109 (xN 12) xNames, w ∈ twl ∨ w ∈ gNw) w hw)
theorem xg_109 : ∀ w ∈ vx_atS "Weaveword" 109 (xN 12) xNames, vx_ot w = true := by decide +kernel
theorem fd_X3 {k : Nat} (hk : k < 79) : fdOK 0 RX3 TX3 79 k := ⟨rfl, in_X3, hk⟩
theorem gok_X3 : ∀ k, k < 79 → gTok (tyX3 k) = true := by decide +kernel
theorem fd_X1 {k : Nat} (hk : k < 10) : fdOK 1 RX1 TX1 10 k := ⟨rfl, in_X1, hk⟩
theorem gok_X1 : ∀ k, k < 10 → gTok (tyX1 k) = true := by decide +kernel
theorem fd_X4 {k : Nat} (hk : k < 1) : fdOK 2 RX4 TX4 1 k := ⟨rfl, in_X4, hk⟩
theorem gok_X4 : ∀ k, k < 1 → gTok (tyX4 k) = true := by decide +kernel
theorem fd_X5 {k : Nat} (hk : k < 2) : fdOK 3 RX5 TX5 2 k := ⟨rfl, in_X5, hk⟩
theorem gok_X5 : ∀ k, k < 2 → gTok (tyX5 k) = true := by decide +kernel
theorem fd_X6 {k : Nat} (hk : k < 3) : fdOK 4 RX6 TX6 3 k := ⟨rfl, in_X6, hk⟩
theorem gok_X6 : ∀ k, k < 3 → gTok (tyX6 k) = true := by decide +kernel
theorem fd_X7 {k : Nat} (hk : k < 2) : fdOK 5 RX7 TX7 2 k := ⟨rfl, in_X7, hk⟩
theorem gok_X7 : ∀ k, k < 2 → gTok (tyX7 k) = true := by decide +kernel
theorem fd_X8 {k : Nat} (hk : k < 2) : fdOK 6 RX8 TX8 2 k := ⟨rfl, in_X8, hk⟩
theorem gok_X8 : ∀ k, k < 2 → gTok (tyX8 k) = true := by decide +kernel
theorem fd_X9 {k : Nat} (hk : k < 2) : fdOK 7 RX9 TX9 2 k := ⟨rfl, in_X9, hk⟩
theorem gok_X9 : ∀ k, k < 2 → gTok (tyX9 k) = true := by decide +kernel
theorem fd_X10 {k : Nat} (hk : k < 10) : fdOK 8 RX10 TX10 10 k := ⟨rfl, in_X10, hk⟩
theorem gok_X10 : ∀ k, k < 10 → gTok (tyX10 k) = true := by decide +kernel
theorem fd_X11 {k : Nat} (hk : k < 2) : fdOK 9 RX11 TX11 2 k := ⟨rfl, in_X11, hk⟩
theorem gok_X11 : ∀ k, k < 2 → gTok (tyX11 k) = true := by decide +kernel
theorem fd_X12 {k : Nat} (hk : k < 6) : fdOK 10 RX12 TX12 6 k := ⟨rfl, in_X12, hk⟩
theorem gok_X12 : ∀ k, k < 6 → gTok (tyX12 k) = true := by decide +kernel
theorem fd_X13 {k : Nat} (hk : k < 2) : fdOK 11 RX13 TX13 2 k := ⟨rfl, in_X13, hk⟩
theorem gok_X13 : ∀ k, k < 2 → gTok (tyX13 k) = true := by decide +kernel
theorem fd_X14 {k : Nat} (hk : k < 4) : fdOK 12 RX14 TX14 4 k := ⟨rfl, in_X14, hk⟩
theorem gok_X14 : ∀ k, k < 4 → gTok (tyX14 k) = true := by decide +kernel
theorem fd_X2 {k : Nat} (hk : k < 1) : fdOK 13 RX2 TX2 1 k := ⟨rfl, in_X2, hk⟩
theorem gok_X2 : ∀ k, k < 1 → gTok (tyX2 k) = true := by decide +kernel
theorem fd_J2 {k : Nat} (hk : k < 3) : fdOK 14 RJ2 TJ2 3 k := ⟨rfl, in_J2, hk⟩
theorem gok_J2 : ∀ k, k < 3 → gTok (tyJ2 k) = true := by decide +kernel
theorem fd_J22 {k : Nat} (hk : k < 4) : fdOK 15 RJ22 TJ22 4 k := ⟨rfl, in_J22, hk⟩
theorem gok_J22 : ∀ k, k < 4 → gTok (tyJ22 k) = true := by decide +kernel
theorem fd_J15 {k : Nat} (hk : k < 1) : fdOK 16 RJ15 TJ15 1 k := ⟨rfl, in_J15, hk⟩
theorem gok_J15 : ∀ k, k < 1 → gTok (tyJ15 k) = true := by decide +kernel
theorem fd_J12 {k : Nat} (hk : k < 4) : fdOK 17 RJ12 TJ12 4 k := ⟨rfl, in_J12, hk⟩
theorem gok_J12 : ∀ k, k < 4 → gTok (tyJ12 k) = true := by decide +kernel
theorem fd_J11 {k : Nat} (hk : k < 4) : fdOK 18 RJ11 TJ11 4 k := ⟨rfl, in_J11, hk⟩
theorem gok_J11 : ∀ k, k < 4 → gTok (tyJ11 k) = true := by decide +kernel
theorem fd_J19 {k : Nat} (hk : k < 6) : fdOK 19 RJ19 TJ19 6 k := ⟨rfl, in_J19, hk⟩
theorem gok_J19 : ∀ k, k < 6 → gTok (tyJ19 k) = true := by decide +kernel
theorem fd_J9 {k : Nat} (hk : k < 6) : fdOK 20 RJ9 TJ9 6 k := ⟨rfl, in_J9, hk⟩
theorem gok_J9 : ∀ k, k < 6 → gTok (tyJ9 k) = true := by decide +kernel
theorem fd_J18 {k : Nat} (hk : k < 6) : fdOK 21 RJ18 TJ18 6 k := ⟨rfl, in_J18, hk⟩
theorem gok_J18 : ∀ k, k < 6 → gTok (tyJ18 k) = true := by decide +kernel
