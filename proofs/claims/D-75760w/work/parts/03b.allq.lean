/-! the tables' words -/
set_option maxRecDepth 100000
theorem q116 : (Jvm.Cond.initialized "java/util/AbstractCollection") ∈ lw_all := lw_g (lw_at lw_m1 4 rfl) rfl
theorem q212 : (Jvm.Cond.instanceMethod ({ cls := "java/util/AbstractCollection", name := "<init>", desc := "()V" } : Jvm.MethodName)) ∈ lw_all := lw_g (lw_at lw_m1 100 rfl) rfl
theorem q213 : (Jvm.Cond.code ({ cls := "java/util/AbstractCollection", name := "<init>", desc := "()V" } : Jvm.MethodName) prog_52_method_1_code (1 : Nat) (Option.none : Option Jvm.ClassFile.FieldType)) ∈ lw_all := lw_g (lw_at lw_m1 101 rfl) rfl
theorem q214 : (Jvm.Cond.methodLink "java/util/AbstractCollection" (1 : Nat) ({ cls := "java/lang/Object", name := "<init>", desc := "()V" } : Jvm.MethodName)) ∈ lw_all := lw_g (lw_at lw_m1 102 rfl) rfl
theorem q117 : (Jvm.Cond.initialized "java/util/AbstractList") ∈ lw_all := lw_g (lw_at lw_m1 5 rfl) rfl
theorem q209 : (Jvm.Cond.instanceMethod ({ cls := "java/util/AbstractList", name := "<init>", desc := "()V" } : Jvm.MethodName)) ∈ lw_all := lw_g (lw_at lw_m1 97 rfl) rfl
theorem q210 : (Jvm.Cond.code ({ cls := "java/util/AbstractList", name := "<init>", desc := "()V" } : Jvm.MethodName) prog_53_method_1_code (1 : Nat) (Option.none : Option Jvm.ClassFile.FieldType)) ∈ lw_all := lw_g (lw_at lw_m1 98 rfl) rfl
theorem q211 : (Jvm.Cond.methodLink "java/util/AbstractList" (1 : Nat) ({ cls := "java/util/AbstractCollection", name := "<init>", desc := "()V" } : Jvm.MethodName)) ∈ lw_all := lw_g (lw_at lw_m1 99 rfl) rfl
theorem q221 : (Jvm.Cond.fieldLink "java/util/AbstractList" (7 : Nat) "java/util/AbstractList" "modCount" "I") ∈ lw_all := lw_g (lw_at lw_m1 109 rfl) rfl
theorem q230 : (Jvm.Cond.soleField "java/util/AbstractList" "modCount") ∈ lw_all := lw_g (lw_at lw_m1 118 rfl) rfl
theorem q129 : (Jvm.Cond.initialized "java/lang/String") ∈ lw_all := lw_g (lw_at lw_m1 17 rfl) rfl
theorem q516 : (Jvm.Cond.laysStatic "java/lang/String" "COMPACT_STRINGS" "Z") ∈ lw_tbl := lw_at lw_m2 164 rfl
theorem q526 : (Jvm.Cond.fieldLink "java/lang/String" (1048 : Nat) "java/lang/AbstractStringBuilder" "maybeLatin1" "Z") ∈ lw_all := lw_g (lw_at lw_m2 174 rfl) rfl
theorem q600 : (Jvm.Cond.static ({ cls := "java/lang/String", name := "checkBoundsBeginEnd", desc := "(III)V" } : Jvm.MethodName)) ∈ lw_all := lw_g (lw_at lw_m3 8 rfl) rfl
theorem q601 : (Jvm.Cond.code ({ cls := "java/lang/String", name := "checkBoundsBeginEnd", desc := "(III)V" } : Jvm.MethodName) prog_43_method_158_code (3 : Nat) (Option.none : Option Jvm.ClassFile.FieldType)) ∈ lw_all := lw_g (lw_at lw_m3 9 rfl) rfl
theorem q602 : (Jvm.Cond.fieldLink "java/lang/String" (1053 : Nat) "jdk/internal/util/Preconditions" "SIOOBE_FORMATTER" "Ljava/util/function/BiFunction;") ∈ lw_all := lw_g (lw_at lw_m3 10 rfl) rfl
theorem q604 : (Jvm.Cond.methodLink "java/lang/String" (1062 : Nat) ({ cls := "jdk/internal/util/Preconditions", name := "checkFromToIndex", desc := "(IIILjava/util/function/BiFunction;)I" } : Jvm.MethodName)) ∈ lw_all := lw_g (lw_at lw_m3 12 rfl) rfl
theorem q617 : (Jvm.Cond.instanceMethod ({ cls := "java/lang/String", name := "length", desc := "()I" } : Jvm.MethodName)) ∈ lw_all := lw_g (lw_at lw_m3 25 rfl) rfl
theorem q618 : (Jvm.Cond.selects "java/lang/String" ({ cls := "java/lang/String", name := "length", desc := "()I" } : Jvm.MethodName) ({ cls := "java/lang/String", name := "length", desc := "()I" } : Jvm.MethodName)) ∈ lw_all := lw_g (lw_at lw_m3 26 rfl) rfl
theorem q619 : (Jvm.Cond.code ({ cls := "java/lang/String", name := "length", desc := "()I" } : Jvm.MethodName) prog_43_method_54_code (1 : Nat) (Option.some Jvm.ClassFile.FieldType.int)) ∈ lw_all := lw_g (lw_at lw_m3 27 rfl) rfl
theorem q620 : (Jvm.Cond.methodLink "java/lang/String" (335 : Nat) ({ cls := "java/lang/String", name := "coder", desc := "()B" } : Jvm.MethodName)) ∈ lw_all := lw_g (lw_at lw_m3 28 rfl) rfl
theorem q621 : (Jvm.Cond.instanceMethod ({ cls := "java/lang/String", name := "coder", desc := "()B" } : Jvm.MethodName)) ∈ lw_all := lw_g (lw_at lw_m3 29 rfl) rfl
theorem q622 : (Jvm.Cond.selects "java/lang/String" ({ cls := "java/lang/String", name := "coder", desc := "()B" } : Jvm.MethodName) ({ cls := "java/lang/String", name := "coder", desc := "()B" } : Jvm.MethodName)) ∈ lw_all := lw_g (lw_at lw_m3 30 rfl) rfl
theorem q623 : (Jvm.Cond.code ({ cls := "java/lang/String", name := "coder", desc := "()B" } : Jvm.MethodName) prog_43_method_152_code (1 : Nat) (Option.some Jvm.ClassFile.FieldType.byte)) ∈ lw_all := lw_g (lw_at lw_m3 31 rfl) rfl
theorem q624 : (Jvm.Cond.fieldLink "java/lang/String" (38 : Nat) "java/lang/String" "COMPACT_STRINGS" "Z") ∈ lw_all := lw_g (lw_at lw_m3 32 rfl) rfl
theorem q648 : (Jvm.Cond.static ({ cls := "java/lang/String", name := "checkBoundsOffCount", desc := "(III)I" } : Jvm.MethodName)) ∈ lw_all := lw_g (lw_at lw_m3 56 rfl) rfl
theorem q649 : (Jvm.Cond.code ({ cls := "java/lang/String", name := "checkBoundsOffCount", desc := "(III)I" } : Jvm.MethodName) prog_43_method_157_code (3 : Nat) (Option.some Jvm.ClassFile.FieldType.int)) ∈ lw_all := lw_g (lw_at lw_m3 57 rfl) rfl
theorem q650 : (Jvm.Cond.methodLink "java/lang/String" (1065 : Nat) ({ cls := "jdk/internal/util/Preconditions", name := "checkFromIndexSize", desc := "(IIILjava/util/function/BiFunction;)I" } : Jvm.MethodName)) ∈ lw_all := lw_g (lw_at lw_m3 58 rfl) rfl
theorem q654 : (Jvm.Cond.instanceMethod ({ cls := "java/lang/String", name := "getBytes", desc := "([BIB)V" } : Jvm.MethodName)) ∈ lw_all := lw_g (lw_at lw_m3 62 rfl) rfl
theorem q655 : (Jvm.Cond.selects "java/lang/String" ({ cls := "java/lang/String", name := "getBytes", desc := "([BIB)V" } : Jvm.MethodName) ({ cls := "java/lang/String", name := "getBytes", desc := "([BIB)V" } : Jvm.MethodName)) ∈ lw_all := lw_g (lw_at lw_m3 63 rfl) rfl
theorem q656 : (Jvm.Cond.code ({ cls := "java/lang/String", name := "getBytes", desc := "([BIB)V" } : Jvm.MethodName) prog_43_method_147_code (4 : Nat) (Option.none : Option Jvm.ClassFile.FieldType)) ∈ lw_all := lw_g (lw_at lw_m3 64 rfl) rfl
theorem q657 : (Jvm.Cond.methodLink "java/lang/String" (212 : Nat) ({ cls := "java/lang/System", name := "arraycopy", desc := "(Ljava/lang/Object;ILjava/lang/Object;II)V" } : Jvm.MethodName)) ∈ lw_all := lw_g (lw_at lw_m3 65 rfl) rfl
theorem q658 : (Jvm.Cond.methodLink "java/lang/String" (106 : Nat) ({ cls := "java/lang/StringLatin1", name := "inflate", desc := "([BI[BII)V" } : Jvm.MethodName)) ∈ lw_all := lw_g (lw_at lw_m3 66 rfl) rfl
theorem q690 : (Jvm.Cond.instantiable "java/lang/String" (4 : Nat)) ∈ lw_all := lw_g (lw_at lw_m3 98 rfl) rfl
theorem q692 : (Jvm.Cond.instanceMethod ({ cls := "java/lang/String", name := "<init>", desc := "(Ljava/lang/StringBuilder;)V" } : Jvm.MethodName)) ∈ lw_all := lw_g (lw_at lw_m3 100 rfl) rfl
theorem q693 : (Jvm.Cond.code ({ cls := "java/lang/String", name := "<init>", desc := "(Ljava/lang/StringBuilder;)V" } : Jvm.MethodName) prog_43_method_53_code (2 : Nat) (Option.none : Option Jvm.ClassFile.FieldType)) ∈ lw_all := lw_g (lw_at lw_m3 101 rfl) rfl
theorem q694 : (Jvm.Cond.methodLink "java/lang/String" (489 : Nat) ({ cls := "java/lang/String", name := "<init>", desc := "(Ljava/lang/AbstractStringBuilder;Ljava/lang/Void;)V" } : Jvm.MethodName)) ∈ lw_all := lw_g (lw_at lw_m3 102 rfl) rfl
theorem q695 : (Jvm.Cond.instanceMethod ({ cls := "java/lang/String", name := "<init>", desc := "(Ljava/lang/AbstractStringBuilder;Ljava/lang/Void;)V" } : Jvm.MethodName)) ∈ lw_all := lw_g (lw_at lw_m3 103 rfl) rfl
theorem q696 : (Jvm.Cond.code ({ cls := "java/lang/String", name := "<init>", desc := "(Ljava/lang/AbstractStringBuilder;Ljava/lang/Void;)V" } : Jvm.MethodName) prog_43_method_150_code (5 : Nat) (Option.none : Option Jvm.ClassFile.FieldType)) ∈ lw_all := lw_g (lw_at lw_m3 104 rfl) rfl
theorem q697 : (Jvm.Cond.methodLink "java/lang/String" (1 : Nat) ({ cls := "java/lang/Object", name := "<init>", desc := "()V" } : Jvm.MethodName)) ∈ lw_all := lw_g (lw_at lw_m3 105 rfl) rfl
theorem q698 : (Jvm.Cond.methodLink "java/lang/String" (552 : Nat) ({ cls := "java/lang/AbstractStringBuilder", name := "getValue", desc := "()[B" } : Jvm.MethodName)) ∈ lw_all := lw_g (lw_at lw_m3 106 rfl) rfl
theorem q703 : (Jvm.Cond.methodLink "java/lang/String" (549 : Nat) ({ cls := "java/lang/AbstractStringBuilder", name := "length", desc := "()I" } : Jvm.MethodName)) ∈ lw_all := lw_g (lw_at lw_m3 111 rfl) rfl
theorem q711 : (Jvm.Cond.methodLink "java/lang/String" (1047 : Nat) ({ cls := "java/lang/AbstractStringBuilder", name := "isLatin1", desc := "()Z" } : Jvm.MethodName)) ∈ lw_all := lw_g (lw_at lw_m3 119 rfl) rfl
theorem q712 : (Jvm.Cond.methodLink "java/lang/String" (54 : Nat) ({ cls := "java/util/Arrays", name := "copyOfRange", desc := "([BII)[B" } : Jvm.MethodName)) ∈ lw_all := lw_g (lw_at lw_m3 120 rfl) rfl
theorem q750 : (Jvm.Cond.methodLink "java/lang/String" (1051 : Nat) ({ cls := "java/lang/StringUTF16", name := "compress", desc := "([BII)[B" } : Jvm.MethodName)) ∈ lw_all := lw_g (lw_at lw_m3 158 rfl) rfl
theorem q760 : (Jvm.Cond.methodLink "java/lang/String" (47 : Nat) ({ cls := "java/lang/StringUTF16", name := "coderFromArrayLen", desc := "([BI)B" } : Jvm.MethodName)) ∈ lw_all := lw_g (lw_at lw_m3 168 rfl) rfl
theorem q763 : (Jvm.Cond.fieldLink "java/lang/String" (9 : Nat) "java/lang/String" "value" "[B") ∈ lw_all := lw_g (lw_at lw_m3 171 rfl) rfl
theorem q764 : (Jvm.Cond.fieldLink "java/lang/String" (15 : Nat) "java/lang/String" "coder" "B") ∈ lw_all := lw_g (lw_at lw_m3 172 rfl) rfl
theorem q765 : (Jvm.Cond.fieldLink "java/lang/String" (19 : Nat) "java/lang/String" "hash" "I") ∈ lw_all := lw_g (lw_at lw_m3 173 rfl) rfl
theorem q766 : (Jvm.Cond.fieldLink "java/lang/String" (23 : Nat) "java/lang/String" "hashIsZero" "Z") ∈ lw_all := lw_g (lw_at lw_m3 174 rfl) rfl
theorem q767 : (Jvm.Cond.laysFinal "java/lang/String" "java/lang/String" "value" "[B") ∈ lw_all := lw_g (lw_at lw_m3 175 rfl) rfl
theorem q768 : (Jvm.Cond.soleField "java/lang/String" "value") ∈ lw_all := lw_g (lw_at lw_m3 176 rfl) rfl
theorem q769 : (Jvm.Cond.laysFinal "java/lang/String" "java/lang/String" "coder" "B") ∈ lw_all := lw_g (lw_at lw_m3 177 rfl) rfl
theorem q770 : (Jvm.Cond.soleField "java/lang/String" "coder") ∈ lw_all := lw_g (lw_at lw_m3 178 rfl) rfl
theorem q771 : (Jvm.Cond.lays "java/lang/String" "java/lang/String" "hash" "I") ∈ lw_all := lw_g (lw_at lw_m3 179 rfl) rfl
theorem q772 : (Jvm.Cond.soleField "java/lang/String" "hash") ∈ lw_all := lw_g (lw_at lw_m3 180 rfl) rfl
theorem q773 : (Jvm.Cond.lays "java/lang/String" "java/lang/String" "hashIsZero" "Z") ∈ lw_all := lw_g (lw_at lw_m3 181 rfl) rfl
theorem q774 : (Jvm.Cond.soleField "java/lang/String" "hashIsZero") ∈ lw_all := lw_g (lw_at lw_m3 182 rfl) rfl
theorem q775 : (Jvm.Cond.superclass "java/lang/String" "java/lang/Object") ∈ lw_all := lw_g (lw_at lw_m3 183 rfl) rfl
theorem q815 : (Jvm.Cond.instanceMethod ({ cls := "java/lang/String", name := "charAt", desc := "(I)C" } : Jvm.MethodName)) ∈ lw_all := lw_g (lw_at lw_m3 223 rfl) rfl
theorem q816 : (Jvm.Cond.selects "java/lang/String" ({ cls := "java/lang/String", name := "charAt", desc := "(I)C" } : Jvm.MethodName) ({ cls := "java/lang/String", name := "charAt", desc := "(I)C" } : Jvm.MethodName)) ∈ lw_all := lw_g (lw_at lw_m3 224 rfl) rfl
theorem q817 : (Jvm.Cond.code ({ cls := "java/lang/String", name := "charAt", desc := "(I)C" } : Jvm.MethodName) prog_43_method_56_code (2 : Nat) (Option.some Jvm.ClassFile.FieldType.char)) ∈ lw_all := lw_g (lw_at lw_m3 225 rfl) rfl
theorem q818 : (Jvm.Cond.methodLink "java/lang/String" (492 : Nat) ({ cls := "java/lang/String", name := "isLatin1", desc := "()Z" } : Jvm.MethodName)) ∈ lw_all := lw_g (lw_at lw_m3 226 rfl) rfl
theorem q819 : (Jvm.Cond.instanceMethod ({ cls := "java/lang/String", name := "isLatin1", desc := "()Z" } : Jvm.MethodName)) ∈ lw_all := lw_g (lw_at lw_m3 227 rfl) rfl
theorem q820 : (Jvm.Cond.selects "java/lang/String" ({ cls := "java/lang/String", name := "isLatin1", desc := "()Z" } : Jvm.MethodName) ({ cls := "java/lang/String", name := "isLatin1", desc := "()Z" } : Jvm.MethodName)) ∈ lw_all := lw_g (lw_at lw_m3 228 rfl) rfl
theorem q821 : (Jvm.Cond.code ({ cls := "java/lang/String", name := "isLatin1", desc := "()Z" } : Jvm.MethodName) prog_43_method_154_code (1 : Nat) (Option.some Jvm.ClassFile.FieldType.boolean)) ∈ lw_all := lw_g (lw_at lw_m3 229 rfl) rfl
theorem q822 : (Jvm.Cond.methodLink "java/lang/String" (495 : Nat) ({ cls := "java/lang/StringLatin1", name := "charAt", desc := "([BI)C" } : Jvm.MethodName)) ∈ lw_all := lw_g (lw_at lw_m3 230 rfl) rfl
theorem q826 : (Jvm.Cond.static ({ cls := "java/lang/String", name := "checkIndex", desc := "(II)V" } : Jvm.MethodName)) ∈ lw_all := lw_g (lw_at lw_m3 234 rfl) rfl
theorem q827 : (Jvm.Cond.code ({ cls := "java/lang/String", name := "checkIndex", desc := "(II)V" } : Jvm.MethodName) prog_43_method_155_code (2 : Nat) (Option.none : Option Jvm.ClassFile.FieldType)) ∈ lw_all := lw_g (lw_at lw_m3 235 rfl) rfl
theorem q828 : (Jvm.Cond.methodLink "java/lang/String" (1059 : Nat) ({ cls := "jdk/internal/util/Preconditions", name := "checkIndex", desc := "(IILjava/util/function/BiFunction;)I" } : Jvm.MethodName)) ∈ lw_all := lw_g (lw_at lw_m3 236 rfl) rfl
theorem q829 : (Jvm.Cond.methodLink "java/lang/String" (498 : Nat) ({ cls := "java/lang/StringUTF16", name := "charAt", desc := "([BI)C" } : Jvm.MethodName)) ∈ lw_all := lw_g (lw_at lw_m3 237 rfl) rfl
theorem q1053 : (Jvm.Cond.selects "java/lang/String" ({ cls := "java/lang/Object", name := "getClass", desc := "()Ljava/lang/Class;" } : Jvm.MethodName) ({ cls := "java/lang/Object", name := "getClass", desc := "()Ljava/lang/Class;" } : Jvm.MethodName)) ∈ lw_all := lw_g (lw_at lw_m4 221 rfl) rfl
theorem q1256 : (Jvm.Cond.instanceMethod ({ cls := "java/lang/String", name := "indexOf", desc := "(I)I" } : Jvm.MethodName)) ∈ lw_all := lw_g (lw_at lw_m5 184 rfl) rfl
theorem q1257 : (Jvm.Cond.selects "java/lang/String" ({ cls := "java/lang/String", name := "indexOf", desc := "(I)I" } : Jvm.MethodName) ({ cls := "java/lang/String", name := "indexOf", desc := "(I)I" } : Jvm.MethodName)) ∈ lw_all := lw_g (lw_at lw_m5 185 rfl) rfl
theorem q1258 : (Jvm.Cond.code ({ cls := "java/lang/String", name := "indexOf", desc := "(I)I" } : Jvm.MethodName) prog_43_method_79_code (2 : Nat) (Option.some Jvm.ClassFile.FieldType.int)) ∈ lw_all := lw_g (lw_at lw_m5 186 rfl) rfl
theorem q1259 : (Jvm.Cond.methodLink "java/lang/String" (633 : Nat) ({ cls := "java/lang/String", name := "indexOf", desc := "(II)I" } : Jvm.MethodName)) ∈ lw_all := lw_g (lw_at lw_m5 187 rfl) rfl
theorem q1260 : (Jvm.Cond.instanceMethod ({ cls := "java/lang/String", name := "indexOf", desc := "(II)I" } : Jvm.MethodName)) ∈ lw_all := lw_g (lw_at lw_m5 188 rfl) rfl
theorem q1261 : (Jvm.Cond.selects "java/lang/String" ({ cls := "java/lang/String", name := "indexOf", desc := "(II)I" } : Jvm.MethodName) ({ cls := "java/lang/String", name := "indexOf", desc := "(II)I" } : Jvm.MethodName)) ∈ lw_all := lw_g (lw_at lw_m5 189 rfl) rfl
theorem q1262 : (Jvm.Cond.code ({ cls := "java/lang/String", name := "indexOf", desc := "(II)I" } : Jvm.MethodName) prog_43_method_80_code (3 : Nat) (Option.some Jvm.ClassFile.FieldType.int)) ∈ lw_all := lw_g (lw_at lw_m5 190 rfl) rfl
theorem q1263 : (Jvm.Cond.methodLink "java/lang/String" (505 : Nat) ({ cls := "java/lang/String", name := "length", desc := "()I" } : Jvm.MethodName)) ∈ lw_all := lw_g (lw_at lw_m5 191 rfl) rfl
theorem q1264 : (Jvm.Cond.methodLink "java/lang/String" (637 : Nat) ({ cls := "java/lang/StringLatin1", name := "indexOf", desc := "([BIII)I" } : Jvm.MethodName)) ∈ lw_all := lw_g (lw_at lw_m5 192 rfl) rfl
theorem q1275 : (Jvm.Cond.methodLink "java/lang/String" (640 : Nat) ({ cls := "java/lang/StringUTF16", name := "indexOf", desc := "([BIII)I" } : Jvm.MethodName)) ∈ lw_all := lw_g (lw_at lw_m5 203 rfl) rfl
theorem q1360 : (Jvm.Cond.instanceMethod ({ cls := "java/lang/String", name := "equals", desc := "(Ljava/lang/Object;)Z" } : Jvm.MethodName)) ∈ lw_all := lw_g (lw_at lw_m6 48 rfl) rfl
theorem q1361 : (Jvm.Cond.selects "java/lang/String" ({ cls := "java/lang/String", name := "equals", desc := "(Ljava/lang/Object;)Z" } : Jvm.MethodName) ({ cls := "java/lang/String", name := "equals", desc := "(Ljava/lang/Object;)Z" } : Jvm.MethodName)) ∈ lw_all := lw_g (lw_at lw_m6 49 rfl) rfl
theorem q1362 : (Jvm.Cond.code ({ cls := "java/lang/String", name := "equals", desc := "(Ljava/lang/Object;)Z" } : Jvm.MethodName) prog_43_method_66_code (3 : Nat) (Option.some Jvm.ClassFile.FieldType.boolean)) ∈ lw_all := lw_g (lw_at lw_m6 50 rfl) rfl
theorem q1363 : (Jvm.Cond.classLink "java/lang/String" (10 : Nat) "java/lang/String") ∈ lw_all := lw_g (lw_at lw_m6 51 rfl) rfl
theorem q1364 : (Jvm.Cond.methodLink "java/lang/String" (541 : Nat) ({ cls := "java/lang/StringLatin1", name := "equals", desc := "([B[B)Z" } : Jvm.MethodName)) ∈ lw_all := lw_g (lw_at lw_m6 52 rfl) rfl
theorem q1985 : (Jvm.Cond.selects "java/lang/String" ({ cls := "java/lang/Object", name := "equals", desc := "(Ljava/lang/Object;)Z" } : Jvm.MethodName) ({ cls := "java/lang/String", name := "equals", desc := "(Ljava/lang/Object;)Z" } : Jvm.MethodName)) ∈ lw_all := lw_g (lw_at lw_m8 193 rfl) rfl
theorem q2553 : (Jvm.Cond.instanceMethod ({ cls := "java/lang/String", name := "hashCode", desc := "()I" } : Jvm.MethodName)) ∈ lw_all := lw_g (lw_at lw_m11 41 rfl) rfl
theorem q2554 : (Jvm.Cond.selects "java/lang/String" ({ cls := "java/lang/String", name := "hashCode", desc := "()I" } : Jvm.MethodName) ({ cls := "java/lang/String", name := "hashCode", desc := "()I" } : Jvm.MethodName)) ∈ lw_all := lw_g (lw_at lw_m11 42 rfl) rfl
theorem q2555 : (Jvm.Cond.code ({ cls := "java/lang/String", name := "hashCode", desc := "()I" } : Jvm.MethodName) prog_43_method_78_code (2 : Nat) (Option.some Jvm.ClassFile.FieldType.int)) ∈ lw_all := lw_g (lw_at lw_m11 43 rfl) rfl
theorem q2556 : (Jvm.Cond.methodLink "java/lang/String" (628 : Nat) ({ cls := "java/lang/StringLatin1", name := "hashCode", desc := "([B)I" } : Jvm.MethodName)) ∈ lw_all := lw_g (lw_at lw_m11 44 rfl) rfl
theorem q2605 : (Jvm.Cond.methodLink "java/lang/String" (632 : Nat) ({ cls := "java/lang/StringUTF16", name := "hashCode", desc := "([B)I" } : Jvm.MethodName)) ∈ lw_all := lw_g (lw_at lw_m11 93 rfl) rfl
theorem q3363 : (Jvm.Cond.castable "java/lang/String" "java/lang/Object") ∈ lw_tbl := lw_at lw_m14 131 rfl
theorem q130 : (Jvm.Cond.initialized "java/lang/StringUTF16") ∈ lw_all := lw_g (lw_at lw_m1 18 rfl) rfl
theorem q518 : (Jvm.Cond.static ({ cls := "java/lang/StringUTF16", name := "newBytesFor", desc := "(I)[B" } : Jvm.MethodName)) ∈ lw_all := lw_g (lw_at lw_m2 166 rfl) rfl
theorem q519 : (Jvm.Cond.code ({ cls := "java/lang/StringUTF16", name := "newBytesFor", desc := "(I)[B" } : Jvm.MethodName) prog_46_method_2_code (1 : Nat) (Option.some (Jvm.ClassFile.FieldType.array Jvm.ClassFile.FieldType.byte))) ∈ lw_all := lw_g (lw_at lw_m2 167 rfl) rfl
theorem q520 : (Jvm.Cond.methodLink "java/lang/StringUTF16" (11 : Nat) ({ cls := "java/lang/StringUTF16", name := "newBytesLength", desc := "(I)I" } : Jvm.MethodName)) ∈ lw_all := lw_g (lw_at lw_m2 168 rfl) rfl
theorem q521 : (Jvm.Cond.static ({ cls := "java/lang/StringUTF16", name := "newBytesLength", desc := "(I)I" } : Jvm.MethodName)) ∈ lw_all := lw_g (lw_at lw_m2 169 rfl) rfl
theorem q522 : (Jvm.Cond.code ({ cls := "java/lang/StringUTF16", name := "newBytesLength", desc := "(I)I" } : Jvm.MethodName) prog_46_method_3_code (1 : Nat) (Option.some Jvm.ClassFile.FieldType.int)) ∈ lw_all := lw_g (lw_at lw_m2 170 rfl) rfl
theorem q523 : (Jvm.Cond.constant "java/lang/StringUTF16" (20 : Nat) (1073741823 : Int32)) ∈ lw_all := lw_g (lw_at lw_m2 171 rfl) rfl
theorem q591 : (Jvm.Cond.static ({ cls := "java/lang/StringUTF16", name := "putCharsAt", desc := "([BICCCC)I" } : Jvm.MethodName)) ∈ lw_all := lw_g (lw_at lw_m2 239 rfl) rfl
theorem q592 : (Jvm.Cond.code ({ cls := "java/lang/StringUTF16", name := "putCharsAt", desc := "([BICCCC)I" } : Jvm.MethodName) prog_46_method_81_code (7 : Nat) (Option.some Jvm.ClassFile.FieldType.int)) ∈ lw_all := lw_g (lw_at lw_m3 0 rfl) rfl
theorem q593 : (Jvm.Cond.methodLink "java/lang/StringUTF16" (96 : Nat) ({ cls := "java/lang/StringUTF16", name := "checkBoundsBeginEnd", desc := "(II[B)V" } : Jvm.MethodName)) ∈ lw_all := lw_g (lw_at lw_m3 1 rfl) rfl
theorem q594 : (Jvm.Cond.static ({ cls := "java/lang/StringUTF16", name := "checkBoundsBeginEnd", desc := "(II[B)V" } : Jvm.MethodName)) ∈ lw_all := lw_g (lw_at lw_m3 2 rfl) rfl
theorem q595 : (Jvm.Cond.code ({ cls := "java/lang/StringUTF16", name := "checkBoundsBeginEnd", desc := "(II[B)V" } : Jvm.MethodName) prog_46_method_93_code (3 : Nat) (Option.none : Option Jvm.ClassFile.FieldType)) ∈ lw_all := lw_g (lw_at lw_m3 3 rfl) rfl
theorem q596 : (Jvm.Cond.methodLink "java/lang/StringUTF16" (48 : Nat) ({ cls := "java/lang/StringUTF16", name := "length", desc := "([B)I" } : Jvm.MethodName)) ∈ lw_all := lw_g (lw_at lw_m3 4 rfl) rfl
theorem q597 : (Jvm.Cond.static ({ cls := "java/lang/StringUTF16", name := "length", desc := "([B)I" } : Jvm.MethodName)) ∈ lw_all := lw_g (lw_at lw_m3 5 rfl) rfl
theorem q598 : (Jvm.Cond.code ({ cls := "java/lang/StringUTF16", name := "length", desc := "([B)I" } : Jvm.MethodName) prog_46_method_6_code (1 : Nat) (Option.some Jvm.ClassFile.FieldType.int)) ∈ lw_all := lw_g (lw_at lw_m3 6 rfl) rfl
theorem q599 : (Jvm.Cond.methodLink "java/lang/StringUTF16" (241 : Nat) ({ cls := "java/lang/String", name := "checkBoundsBeginEnd", desc := "(III)V" } : Jvm.MethodName)) ∈ lw_all := lw_g (lw_at lw_m3 7 rfl) rfl
theorem q607 : (Jvm.Cond.methodLink "java/lang/StringUTF16" (111 : Nat) ({ cls := "java/lang/StringUTF16", name := "putChar", desc := "([BII)V" } : Jvm.MethodName)) ∈ lw_all := lw_g (lw_at lw_m3 15 rfl) rfl
theorem q608 : (Jvm.Cond.static ({ cls := "java/lang/StringUTF16", name := "putChar", desc := "([BII)V" } : Jvm.MethodName)) ∈ lw_all := lw_g (lw_at lw_m3 16 rfl) rfl
theorem q609 : (Jvm.Cond.code ({ cls := "java/lang/StringUTF16", name := "putChar", desc := "([BII)V" } : Jvm.MethodName) prog_46_method_4_code (3 : Nat) (Option.none : Option Jvm.ClassFile.FieldType)) ∈ lw_all := lw_g (lw_at lw_m3 17 rfl) rfl
theorem q610 : (Jvm.Cond.fieldLink "java/lang/StringUTF16" (44 : Nat) "java/lang/StringUTF16" "$assertionsDisabled" "Z") ∈ lw_all := lw_g (lw_at lw_m3 18 rfl) rfl
theorem q611 : (Jvm.Cond.laysStatic "java/lang/StringUTF16" "$assertionsDisabled" "Z") ∈ lw_tbl := lw_at lw_m3 19 rfl
theorem q612 : (Jvm.Cond.fieldLink "java/lang/StringUTF16" (59 : Nat) "java/lang/StringUTF16" "HI_BYTE_SHIFT" "I") ∈ lw_all := lw_g (lw_at lw_m3 20 rfl) rfl
theorem q613 : (Jvm.Cond.laysStatic "java/lang/StringUTF16" "HI_BYTE_SHIFT" "I") ∈ lw_tbl := lw_at lw_m3 21 rfl
theorem q614 : (Jvm.Cond.fieldLink "java/lang/StringUTF16" (63 : Nat) "java/lang/StringUTF16" "LO_BYTE_SHIFT" "I") ∈ lw_all := lw_g (lw_at lw_m3 22 rfl) rfl
theorem q615 : (Jvm.Cond.laysStatic "java/lang/StringUTF16" "LO_BYTE_SHIFT" "I") ∈ lw_tbl := lw_at lw_m3 23 rfl
theorem q642 : (Jvm.Cond.static ({ cls := "java/lang/StringUTF16", name := "inflate", desc := "([BI[BII)V" } : Jvm.MethodName)) ∈ lw_all := lw_g (lw_at lw_m3 50 rfl) rfl
theorem q643 : (Jvm.Cond.code ({ cls := "java/lang/StringUTF16", name := "inflate", desc := "([BI[BII)V" } : Jvm.MethodName) prog_46_method_86_code (6 : Nat) (Option.none : Option Jvm.ClassFile.FieldType)) ∈ lw_all := lw_g (lw_at lw_m3 51 rfl) rfl
theorem q644 : (Jvm.Cond.methodLink "java/lang/StringUTF16" (173 : Nat) ({ cls := "java/lang/StringUTF16", name := "checkBoundsOffCount", desc := "(II[B)V" } : Jvm.MethodName)) ∈ lw_all := lw_g (lw_at lw_m3 52 rfl) rfl
theorem q645 : (Jvm.Cond.static ({ cls := "java/lang/StringUTF16", name := "checkBoundsOffCount", desc := "(II[B)V" } : Jvm.MethodName)) ∈ lw_all := lw_g (lw_at lw_m3 53 rfl) rfl
theorem q646 : (Jvm.Cond.code ({ cls := "java/lang/StringUTF16", name := "checkBoundsOffCount", desc := "(II[B)V" } : Jvm.MethodName) prog_46_method_94_code (3 : Nat) (Option.none : Option Jvm.ClassFile.FieldType)) ∈ lw_all := lw_g (lw_at lw_m3 54 rfl) rfl
theorem q647 : (Jvm.Cond.methodLink "java/lang/StringUTF16" (419 : Nat) ({ cls := "java/lang/String", name := "checkBoundsOffCount", desc := "(III)I" } : Jvm.MethodName)) ∈ lw_all := lw_g (lw_at lw_m3 55 rfl) rfl
theorem q677 : (Jvm.Cond.static ({ cls := "java/lang/StringUTF16", name := "getChars", desc := "(III[B)I" } : Jvm.MethodName)) ∈ lw_all := lw_g (lw_at lw_m3 85 rfl) rfl
theorem q678 : (Jvm.Cond.code ({ cls := "java/lang/StringUTF16", name := "getChars", desc := "(III[B)I" } : Jvm.MethodName) prog_46_method_77_code (5 : Nat) (Option.some Jvm.ClassFile.FieldType.int)) ∈ lw_all := lw_g (lw_at lw_m3 86 rfl) rfl
theorem q679 : (Jvm.Cond.methodLink "java/lang/StringUTF16" (393 : Nat) ({ cls := "java/lang/StringUTF16", name := "getChars", desc := "(II[B)I" } : Jvm.MethodName)) ∈ lw_all := lw_g (lw_at lw_m3 87 rfl) rfl
theorem q680 : (Jvm.Cond.static ({ cls := "java/lang/StringUTF16", name := "getChars", desc := "(II[B)I" } : Jvm.MethodName)) ∈ lw_all := lw_g (lw_at lw_m3 88 rfl) rfl
theorem q681 : (Jvm.Cond.code ({ cls := "java/lang/StringUTF16", name := "getChars", desc := "(II[B)I" } : Jvm.MethodName) prog_46_method_89_code (7 : Nat) (Option.some Jvm.ClassFile.FieldType.int)) ∈ lw_all := lw_g (lw_at lw_m3 89 rfl) rfl
theorem q682 : (Jvm.Cond.fieldLink "java/lang/StringUTF16" (403 : Nat) "java/lang/Integer" "DigitOnes" "[B") ∈ lw_all := lw_g (lw_at lw_m3 90 rfl) rfl
theorem q683 : (Jvm.Cond.fieldLink "java/lang/StringUTF16" (407 : Nat) "java/lang/Integer" "DigitTens" "[B") ∈ lw_all := lw_g (lw_at lw_m3 91 rfl) rfl
theorem q751 : (Jvm.Cond.static ({ cls := "java/lang/StringUTF16", name := "compress", desc := "([BII)[B" } : Jvm.MethodName)) ∈ lw_all := lw_g (lw_at lw_m3 159 rfl) rfl
theorem q752 : (Jvm.Cond.code ({ cls := "java/lang/StringUTF16", name := "compress", desc := "([BII)[B" } : Jvm.MethodName) prog_46_method_17_code (6 : Nat) (Option.some (Jvm.ClassFile.FieldType.array Jvm.ClassFile.FieldType.byte))) ∈ lw_all := lw_g (lw_at lw_m3 160 rfl) rfl
theorem q753 : (Jvm.Cond.methodLink "java/lang/StringUTF16" (123 : Nat) ({ cls := "java/lang/StringUTF16", name := "compress", desc := "([BI[BII)I" } : Jvm.MethodName)) ∈ lw_all := lw_g (lw_at lw_m3 161 rfl) rfl
theorem q754 : (Jvm.Cond.static ({ cls := "java/lang/StringUTF16", name := "compress", desc := "([BI[BII)I" } : Jvm.MethodName)) ∈ lw_all := lw_g (lw_at lw_m3 162 rfl) rfl
theorem q755 : (Jvm.Cond.code ({ cls := "java/lang/StringUTF16", name := "compress", desc := "([BI[BII)I" } : Jvm.MethodName) prog_46_method_22_code (7 : Nat) (Option.some Jvm.ClassFile.FieldType.int)) ∈ lw_all := lw_g (lw_at lw_m3 163 rfl) rfl
theorem q756 : (Jvm.Cond.methodLink "java/lang/StringUTF16" (71 : Nat) ({ cls := "java/lang/StringUTF16", name := "getChar", desc := "([BI)C" } : Jvm.MethodName)) ∈ lw_all := lw_g (lw_at lw_m3 164 rfl) rfl
theorem q757 : (Jvm.Cond.static ({ cls := "java/lang/StringUTF16", name := "getChar", desc := "([BI)C" } : Jvm.MethodName)) ∈ lw_all := lw_g (lw_at lw_m3 165 rfl) rfl
theorem q758 : (Jvm.Cond.code ({ cls := "java/lang/StringUTF16", name := "getChar", desc := "([BI)C" } : Jvm.MethodName) prog_46_method_5_code (2 : Nat) (Option.some Jvm.ClassFile.FieldType.char)) ∈ lw_all := lw_g (lw_at lw_m3 166 rfl) rfl
theorem q759 : (Jvm.Cond.methodLink "java/lang/StringUTF16" (126 : Nat) ({ cls := "java/util/Arrays", name := "copyOfRange", desc := "([BII)[B" } : Jvm.MethodName)) ∈ lw_all := lw_g (lw_at lw_m3 167 rfl) rfl
theorem q761 : (Jvm.Cond.static ({ cls := "java/lang/StringUTF16", name := "coderFromArrayLen", desc := "([BI)B" } : Jvm.MethodName)) ∈ lw_all := lw_g (lw_at lw_m3 169 rfl) rfl
theorem q762 : (Jvm.Cond.code ({ cls := "java/lang/StringUTF16", name := "coderFromArrayLen", desc := "([BI)B" } : Jvm.MethodName) prog_46_method_15_code (2 : Nat) (Option.some Jvm.ClassFile.FieldType.byte)) ∈ lw_all := lw_g (lw_at lw_m3 170 rfl) rfl
theorem q830 : (Jvm.Cond.static ({ cls := "java/lang/StringUTF16", name := "charAt", desc := "([BI)C" } : Jvm.MethodName)) ∈ lw_all := lw_g (lw_at lw_m3 238 rfl) rfl
theorem q831 : (Jvm.Cond.code ({ cls := "java/lang/StringUTF16", name := "charAt", desc := "([BI)C" } : Jvm.MethodName) prog_46_method_83_code (2 : Nat) (Option.some Jvm.ClassFile.FieldType.char)) ∈ lw_all := lw_g (lw_at lw_m3 239 rfl) rfl
theorem q832 : (Jvm.Cond.methodLink "java/lang/StringUTF16" (67 : Nat) ({ cls := "java/lang/StringUTF16", name := "checkIndex", desc := "(I[B)V" } : Jvm.MethodName)) ∈ lw_all := lw_g (lw_at lw_m4 0 rfl) rfl
theorem q833 : (Jvm.Cond.static ({ cls := "java/lang/StringUTF16", name := "checkIndex", desc := "(I[B)V" } : Jvm.MethodName)) ∈ lw_all := lw_g (lw_at lw_m4 1 rfl) rfl
theorem q834 : (Jvm.Cond.code ({ cls := "java/lang/StringUTF16", name := "checkIndex", desc := "(I[B)V" } : Jvm.MethodName) prog_46_method_91_code (2 : Nat) (Option.none : Option Jvm.ClassFile.FieldType)) ∈ lw_all := lw_g (lw_at lw_m4 2 rfl) rfl
theorem q835 : (Jvm.Cond.methodLink "java/lang/StringUTF16" (414 : Nat) ({ cls := "java/lang/String", name := "checkIndex", desc := "(II)V" } : Jvm.MethodName)) ∈ lw_all := lw_g (lw_at lw_m4 3 rfl) rfl
theorem q1246 : (Jvm.Cond.static ({ cls := "java/lang/StringUTF16", name := "putCharSB", desc := "([BII)V" } : Jvm.MethodName)) ∈ lw_all := lw_g (lw_at lw_m5 174 rfl) rfl
theorem q1247 : (Jvm.Cond.code ({ cls := "java/lang/StringUTF16", name := "putCharSB", desc := "([BII)V" } : Jvm.MethodName) prog_46_method_71_code (3 : Nat) (Option.none : Option Jvm.ClassFile.FieldType)) ∈ lw_all := lw_g (lw_at lw_m5 175 rfl) rfl
theorem q1276 : (Jvm.Cond.static ({ cls := "java/lang/StringUTF16", name := "indexOf", desc := "([BIII)I" } : Jvm.MethodName)) ∈ lw_all := lw_g (lw_at lw_m5 204 rfl) rfl
theorem q1277 : (Jvm.Cond.code ({ cls := "java/lang/StringUTF16", name := "indexOf", desc := "([BIII)I" } : Jvm.MethodName) prog_46_method_40_code (4 : Nat) (Option.some Jvm.ClassFile.FieldType.int)) ∈ lw_all := lw_g (lw_at lw_m5 205 rfl) rfl
theorem q1278 : (Jvm.Cond.methodLink "java/lang/StringUTF16" (224 : Nat) ({ cls := "java/lang/Math", name := "max", desc := "(II)I" } : Jvm.MethodName)) ∈ lw_all := lw_g (lw_at lw_m5 206 rfl) rfl
theorem q1279 : (Jvm.Cond.methodLink "java/lang/StringUTF16" (183 : Nat) ({ cls := "java/lang/Math", name := "min", desc := "(II)I" } : Jvm.MethodName)) ∈ lw_all := lw_g (lw_at lw_m5 207 rfl) rfl
theorem q1280 : (Jvm.Cond.constant "java/lang/StringUTF16" (227 : Nat) (65536 : Int32)) ∈ lw_all := lw_g (lw_at lw_m5 208 rfl) rfl
theorem q1281 : (Jvm.Cond.methodLink "java/lang/StringUTF16" (228 : Nat) ({ cls := "java/lang/StringUTF16", name := "indexOfChar", desc := "([BIII)I" } : Jvm.MethodName)) ∈ lw_all := lw_g (lw_at lw_m5 209 rfl) rfl
theorem q1282 : (Jvm.Cond.static ({ cls := "java/lang/StringUTF16", name := "indexOfChar", desc := "([BIII)I" } : Jvm.MethodName)) ∈ lw_all := lw_g (lw_at lw_m5 210 rfl) rfl
theorem q1283 : (Jvm.Cond.code ({ cls := "java/lang/StringUTF16", name := "indexOfChar", desc := "([BIII)I" } : Jvm.MethodName) prog_46_method_47_code (4 : Nat) (Option.some Jvm.ClassFile.FieldType.int)) ∈ lw_all := lw_g (lw_at lw_m5 211 rfl) rfl
theorem q1284 : (Jvm.Cond.methodLink "java/lang/StringUTF16" (244 : Nat) ({ cls := "java/lang/StringUTF16", name := "indexOfCharUnsafe", desc := "([BIII)I" } : Jvm.MethodName)) ∈ lw_all := lw_g (lw_at lw_m5 212 rfl) rfl
theorem q1285 : (Jvm.Cond.static ({ cls := "java/lang/StringUTF16", name := "indexOfCharUnsafe", desc := "([BIII)I" } : Jvm.MethodName)) ∈ lw_all := lw_g (lw_at lw_m5 213 rfl) rfl
theorem q1286 : (Jvm.Cond.code ({ cls := "java/lang/StringUTF16", name := "indexOfCharUnsafe", desc := "([BIII)I" } : Jvm.MethodName) prog_46_method_48_code (5 : Nat) (Option.some Jvm.ClassFile.FieldType.int)) ∈ lw_all := lw_g (lw_at lw_m5 214 rfl) rfl
theorem q1287 : (Jvm.Cond.methodLink "java/lang/StringUTF16" (232 : Nat) ({ cls := "java/lang/StringUTF16", name := "indexOfSupplementary", desc := "([BIII)I" } : Jvm.MethodName)) ∈ lw_all := lw_g (lw_at lw_m5 215 rfl) rfl
theorem q1288 : (Jvm.Cond.static ({ cls := "java/lang/StringUTF16", name := "indexOfSupplementary", desc := "([BIII)I" } : Jvm.MethodName)) ∈ lw_all := lw_g (lw_at lw_m5 216 rfl) rfl
theorem q1289 : (Jvm.Cond.code ({ cls := "java/lang/StringUTF16", name := "indexOfSupplementary", desc := "([BIII)I" } : Jvm.MethodName) prog_46_method_49_code (7 : Nat) (Option.some Jvm.ClassFile.FieldType.int)) ∈ lw_all := lw_g (lw_at lw_m5 217 rfl) rfl
theorem q1290 : (Jvm.Cond.methodLink "java/lang/StringUTF16" (164 : Nat) ({ cls := "java/lang/Character", name := "isValidCodePoint", desc := "(I)Z" } : Jvm.MethodName)) ∈ lw_all := lw_g (lw_at lw_m5 218 rfl) rfl
theorem q1293 : (Jvm.Cond.methodLink "java/lang/StringUTF16" (157 : Nat) ({ cls := "java/lang/Character", name := "highSurrogate", desc := "(I)C" } : Jvm.MethodName)) ∈ lw_all := lw_g (lw_at lw_m5 221 rfl) rfl
theorem q1297 : (Jvm.Cond.methodLink "java/lang/StringUTF16" (161 : Nat) ({ cls := "java/lang/Character", name := "lowSurrogate", desc := "(I)C" } : Jvm.MethodName)) ∈ lw_all := lw_g (lw_at lw_m5 225 rfl) rfl
theorem q2606 : (Jvm.Cond.static ({ cls := "java/lang/StringUTF16", name := "hashCode", desc := "([B)I" } : Jvm.MethodName)) ∈ lw_all := lw_g (lw_at lw_m11 94 rfl) rfl
theorem q2607 : (Jvm.Cond.code ({ cls := "java/lang/StringUTF16", name := "hashCode", desc := "([B)I" } : Jvm.MethodName) prog_46_method_39_code (1 : Nat) (Option.some Jvm.ClassFile.FieldType.int)) ∈ lw_all := lw_g (lw_at lw_m11 95 rfl) rfl
theorem q2608 : (Jvm.Cond.methodLink "java/lang/StringUTF16" (220 : Nat) ({ cls := "jdk/internal/util/ArraysSupport", name := "vectorizedHashCode", desc := "(Ljava/lang/Object;IIII)I" } : Jvm.MethodName)) ∈ lw_all := lw_g (lw_at lw_m11 96 rfl) rfl
theorem q131 : (Jvm.Cond.initialized "jdk/internal/util/ArraysSupport") ∈ lw_all := lw_g (lw_at lw_m1 19 rfl) rfl
theorem q559 : (Jvm.Cond.static ({ cls := "jdk/internal/util/ArraysSupport", name := "newLength", desc := "(III)I" } : Jvm.MethodName)) ∈ lw_all := lw_g (lw_at lw_m2 207 rfl) rfl
theorem q560 : (Jvm.Cond.code ({ cls := "jdk/internal/util/ArraysSupport", name := "newLength", desc := "(III)I" } : Jvm.MethodName) prog_70_method_27_code (4 : Nat) (Option.some Jvm.ClassFile.FieldType.int)) ∈ lw_all := lw_g (lw_at lw_m2 208 rfl) rfl
theorem q561 : (Jvm.Cond.methodLink "jdk/internal/util/ArraysSupport" (194 : Nat) ({ cls := "java/lang/Math", name := "max", desc := "(II)I" } : Jvm.MethodName)) ∈ lw_all := lw_g (lw_at lw_m2 209 rfl) rfl
theorem q564 : (Jvm.Cond.constant "jdk/internal/util/ArraysSupport" (200 : Nat) (2147483639 : Int32)) ∈ lw_all := lw_g (lw_at lw_m2 212 rfl) rfl
theorem q565 : (Jvm.Cond.methodLink "jdk/internal/util/ArraysSupport" (201 : Nat) ({ cls := "jdk/internal/util/ArraysSupport", name := "hugeLength", desc := "(II)I" } : Jvm.MethodName)) ∈ lw_all := lw_g (lw_at lw_m2 213 rfl) rfl
theorem q566 : (Jvm.Cond.static ({ cls := "jdk/internal/util/ArraysSupport", name := "hugeLength", desc := "(II)I" } : Jvm.MethodName)) ∈ lw_all := lw_g (lw_at lw_m2 214 rfl) rfl
theorem q567 : (Jvm.Cond.code ({ cls := "jdk/internal/util/ArraysSupport", name := "hugeLength", desc := "(II)I" } : Jvm.MethodName) prog_70_method_28_code (3 : Nat) (Option.some Jvm.ClassFile.FieldType.int)) ∈ lw_all := lw_g (lw_at lw_m2 215 rfl) rfl
theorem q2560 : (Jvm.Cond.static ({ cls := "jdk/internal/util/ArraysSupport", name := "vectorizedHashCode", desc := "(Ljava/lang/Object;IIII)I" } : Jvm.MethodName)) ∈ lw_all := lw_g (lw_at lw_m11 48 rfl) rfl
theorem q2561 : (Jvm.Cond.code ({ cls := "jdk/internal/util/ArraysSupport", name := "vectorizedHashCode", desc := "(Ljava/lang/Object;IIII)I" } : Jvm.MethodName) prog_70_method_4_code (5 : Nat) (Option.some Jvm.ClassFile.FieldType.int)) ∈ lw_all := lw_g (lw_at lw_m11 49 rfl) rfl
theorem q2562 : (Jvm.Cond.classLink "jdk/internal/util/ArraysSupport" (60 : Nat) "[B") ∈ lw_all := lw_g (lw_at lw_m11 50 rfl) rfl
theorem q2563 : (Jvm.Cond.methodLink "jdk/internal/util/ArraysSupport" (62 : Nat) ({ cls := "jdk/internal/util/ArraysSupport", name := "signedHashCode", desc := "(I[BII)I" } : Jvm.MethodName)) ∈ lw_all := lw_g (lw_at lw_m11 51 rfl) rfl
theorem q2564 : (Jvm.Cond.static ({ cls := "jdk/internal/util/ArraysSupport", name := "signedHashCode", desc := "(I[BII)I" } : Jvm.MethodName)) ∈ lw_all := lw_g (lw_at lw_m11 52 rfl) rfl
theorem q2565 : (Jvm.Cond.code ({ cls := "jdk/internal/util/ArraysSupport", name := "signedHashCode", desc := "(I[BII)I" } : Jvm.MethodName) prog_70_method_5_code (6 : Nat) (Option.some Jvm.ClassFile.FieldType.int)) ∈ lw_all := lw_g (lw_at lw_m11 53 rfl) rfl
theorem q2566 : (Jvm.Cond.methodLink "jdk/internal/util/ArraysSupport" (66 : Nat) ({ cls := "jdk/internal/util/ArraysSupport", name := "utf16hashCode", desc := "(I[BII)I" } : Jvm.MethodName)) ∈ lw_all := lw_g (lw_at lw_m11 54 rfl) rfl
theorem q2567 : (Jvm.Cond.static ({ cls := "jdk/internal/util/ArraysSupport", name := "utf16hashCode", desc := "(I[BII)I" } : Jvm.MethodName)) ∈ lw_all := lw_g (lw_at lw_m11 55 rfl) rfl
theorem q2568 : (Jvm.Cond.code ({ cls := "jdk/internal/util/ArraysSupport", name := "utf16hashCode", desc := "(I[BII)I" } : Jvm.MethodName) prog_70_method_10_code (6 : Nat) (Option.some Jvm.ClassFile.FieldType.int)) ∈ lw_all := lw_g (lw_at lw_m11 56 rfl) rfl
theorem q2569 : (Jvm.Cond.fieldLink "jdk/internal/util/ArraysSupport" (106 : Nat) "jdk/internal/util/ArraysSupport" "JLA" "Ljdk/internal/access/JavaLangAccess;") ∈ lw_all := lw_g (lw_at lw_m11 57 rfl) rfl
theorem q2570 : (Jvm.Cond.laysStatic "jdk/internal/util/ArraysSupport" "JLA" "Ljdk/internal/access/JavaLangAccess;") ∈ lw_tbl := lw_at lw_m11 58 rfl
theorem q2571 : (Jvm.Cond.interfaceEntry "jdk/internal/util/ArraysSupport" (110 : Nat)) ∈ lw_tbl := lw_at lw_m11 59 rfl
theorem q2572 : (Jvm.Cond.methodLink "jdk/internal/util/ArraysSupport" (110 : Nat) ({ cls := "jdk/internal/access/JavaLangAccess", name := "getUTF16Char", desc := "([BI)C" } : Jvm.MethodName)) ∈ lw_all := lw_g (lw_at lw_m11 60 rfl) rfl
theorem q2582 : (Jvm.Cond.classLink "jdk/internal/util/ArraysSupport" (69 : Nat) "[C") ∈ lw_all := lw_g (lw_at lw_m11 70 rfl) rfl
theorem q2583 : (Jvm.Cond.methodLink "jdk/internal/util/ArraysSupport" (71 : Nat) ({ cls := "jdk/internal/util/ArraysSupport", name := "hashCode", desc := "(I[CII)I" } : Jvm.MethodName)) ∈ lw_all := lw_g (lw_at lw_m11 71 rfl) rfl
theorem q2584 : (Jvm.Cond.static ({ cls := "jdk/internal/util/ArraysSupport", name := "hashCode", desc := "(I[CII)I" } : Jvm.MethodName)) ∈ lw_all := lw_g (lw_at lw_m11 72 rfl) rfl
theorem q2585 : (Jvm.Cond.code ({ cls := "jdk/internal/util/ArraysSupport", name := "hashCode", desc := "(I[CII)I" } : Jvm.MethodName) prog_70_method_7_code (6 : Nat) (Option.some Jvm.ClassFile.FieldType.int)) ∈ lw_all := lw_g (lw_at lw_m11 73 rfl) rfl
theorem q2586 : (Jvm.Cond.methodLink "jdk/internal/util/ArraysSupport" (75 : Nat) ({ cls := "jdk/internal/util/ArraysSupport", name := "hashCode", desc := "(I[BII)I" } : Jvm.MethodName)) ∈ lw_all := lw_g (lw_at lw_m11 74 rfl) rfl
theorem q2587 : (Jvm.Cond.static ({ cls := "jdk/internal/util/ArraysSupport", name := "hashCode", desc := "(I[BII)I" } : Jvm.MethodName)) ∈ lw_all := lw_g (lw_at lw_m11 75 rfl) rfl
theorem q2588 : (Jvm.Cond.code ({ cls := "jdk/internal/util/ArraysSupport", name := "hashCode", desc := "(I[BII)I" } : Jvm.MethodName) prog_70_method_6_code (6 : Nat) (Option.some Jvm.ClassFile.FieldType.int)) ∈ lw_all := lw_g (lw_at lw_m11 76 rfl) rfl
theorem q2589 : (Jvm.Cond.classLink "jdk/internal/util/ArraysSupport" (77 : Nat) "[S") ∈ lw_all := lw_g (lw_at lw_m11 77 rfl) rfl
theorem q2590 : (Jvm.Cond.methodLink "jdk/internal/util/ArraysSupport" (79 : Nat) ({ cls := "jdk/internal/util/ArraysSupport", name := "hashCode", desc := "(I[SII)I" } : Jvm.MethodName)) ∈ lw_all := lw_g (lw_at lw_m11 78 rfl) rfl
theorem q2591 : (Jvm.Cond.static ({ cls := "jdk/internal/util/ArraysSupport", name := "hashCode", desc := "(I[SII)I" } : Jvm.MethodName)) ∈ lw_all := lw_g (lw_at lw_m11 79 rfl) rfl
theorem q2592 : (Jvm.Cond.code ({ cls := "jdk/internal/util/ArraysSupport", name := "hashCode", desc := "(I[SII)I" } : Jvm.MethodName) prog_70_method_8_code (6 : Nat) (Option.some Jvm.ClassFile.FieldType.int)) ∈ lw_all := lw_g (lw_at lw_m11 80 rfl) rfl
theorem q2593 : (Jvm.Cond.classLink "jdk/internal/util/ArraysSupport" (82 : Nat) "[I") ∈ lw_all := lw_g (lw_at lw_m11 81 rfl) rfl
theorem q2594 : (Jvm.Cond.methodLink "jdk/internal/util/ArraysSupport" (84 : Nat) ({ cls := "jdk/internal/util/ArraysSupport", name := "hashCode", desc := "(I[III)I" } : Jvm.MethodName)) ∈ lw_all := lw_g (lw_at lw_m11 82 rfl) rfl
theorem q2595 : (Jvm.Cond.static ({ cls := "jdk/internal/util/ArraysSupport", name := "hashCode", desc := "(I[III)I" } : Jvm.MethodName)) ∈ lw_all := lw_g (lw_at lw_m11 83 rfl) rfl
theorem q2596 : (Jvm.Cond.code ({ cls := "jdk/internal/util/ArraysSupport", name := "hashCode", desc := "(I[III)I" } : Jvm.MethodName) prog_70_method_9_code (6 : Nat) (Option.some Jvm.ClassFile.FieldType.int)) ∈ lw_all := lw_g (lw_at lw_m11 84 rfl) rfl
theorem q2597 : (Jvm.Cond.classLink "jdk/internal/util/ArraysSupport" (87 : Nat) "java/lang/IllegalArgumentException") ∈ lw_all := lw_g (lw_at lw_m11 85 rfl) rfl
theorem q2598 : (Jvm.Cond.classLink "jdk/internal/util/ArraysSupport" (89 : Nat) "java/lang/StringBuilder") ∈ lw_all := lw_g (lw_at lw_m11 86 rfl) rfl
theorem q2599 : (Jvm.Cond.methodLink "jdk/internal/util/ArraysSupport" (91 : Nat) ({ cls := "java/lang/StringBuilder", name := "<init>", desc := "()V" } : Jvm.MethodName)) ∈ lw_all := lw_g (lw_at lw_m11 87 rfl) rfl
theorem q2600 : (Jvm.Cond.stringRef "jdk/internal/util/ArraysSupport" (92 : Nat) "unrecognized basic type: ") ∈ lw_tbl := lw_at lw_m11 88 rfl
theorem q2601 : (Jvm.Cond.methodLink "jdk/internal/util/ArraysSupport" (94 : Nat) ({ cls := "java/lang/StringBuilder", name := "append", desc := "(Ljava/lang/String;)Ljava/lang/StringBuilder;" } : Jvm.MethodName)) ∈ lw_all := lw_g (lw_at lw_m11 89 rfl) rfl
theorem q2602 : (Jvm.Cond.methodLink "jdk/internal/util/ArraysSupport" (98 : Nat) ({ cls := "java/lang/StringBuilder", name := "append", desc := "(I)Ljava/lang/StringBuilder;" } : Jvm.MethodName)) ∈ lw_all := lw_g (lw_at lw_m11 90 rfl) rfl
theorem q2603 : (Jvm.Cond.methodLink "jdk/internal/util/ArraysSupport" (101 : Nat) ({ cls := "java/lang/StringBuilder", name := "toString", desc := "()Ljava/lang/String;" } : Jvm.MethodName)) ∈ lw_all := lw_g (lw_at lw_m11 91 rfl) rfl
theorem q2604 : (Jvm.Cond.methodLink "jdk/internal/util/ArraysSupport" (105 : Nat) ({ cls := "java/lang/IllegalArgumentException", name := "<init>", desc := "(Ljava/lang/String;)V" } : Jvm.MethodName)) ∈ lw_all := lw_g (lw_at lw_m11 92 rfl) rfl
theorem q132 : (Jvm.Cond.initialized "java/lang/Math") ∈ lw_all := lw_g (lw_at lw_m1 20 rfl) rfl
theorem q562 : (Jvm.Cond.static ({ cls := "java/lang/Math", name := "max", desc := "(II)I" } : Jvm.MethodName)) ∈ lw_all := lw_g (lw_at lw_m2 210 rfl) rfl
theorem q563 : (Jvm.Cond.code ({ cls := "java/lang/Math", name := "max", desc := "(II)I" } : Jvm.MethodName) prog_40_method_65_code (2 : Nat) (Option.some Jvm.ClassFile.FieldType.int)) ∈ lw_all := lw_g (lw_at lw_m2 211 rfl) rfl
theorem q580 : (Jvm.Cond.static ({ cls := "java/lang/Math", name := "min", desc := "(II)I" } : Jvm.MethodName)) ∈ lw_all := lw_g (lw_at lw_m2 228 rfl) rfl
theorem q581 : (Jvm.Cond.code ({ cls := "java/lang/Math", name := "min", desc := "(II)I" } : Jvm.MethodName) prog_40_method_69_code (2 : Nat) (Option.some Jvm.ClassFile.FieldType.int)) ∈ lw_all := lw_g (lw_at lw_m2 229 rfl) rfl
theorem q2335 : (Jvm.Cond.static ({ cls := "java/lang/Math", name := "addExact", desc := "(II)I" } : Jvm.MethodName)) ∈ lw_all := lw_g (lw_at lw_m10 63 rfl) rfl
theorem q2336 : (Jvm.Cond.code ({ cls := "java/lang/Math", name := "addExact", desc := "(II)I" } : Jvm.MethodName) prog_40_method_24_code (3 : Nat) (Option.some Jvm.ClassFile.FieldType.int)) ∈ lw_all := lw_g (lw_at lw_m10 64 rfl) rfl
theorem q2337 : (Jvm.Cond.classLink "java/lang/Math" (109 : Nat) "java/lang/ArithmeticException") ∈ lw_all := lw_g (lw_at lw_m10 65 rfl) rfl
theorem q2338 : (Jvm.Cond.stringRef "java/lang/Math" (111 : Nat) "integer overflow") ∈ lw_tbl := lw_at lw_m10 66 rfl
theorem q2339 : (Jvm.Cond.methodLink "java/lang/Math" (113 : Nat) ({ cls := "java/lang/ArithmeticException", name := "<init>", desc := "(Ljava/lang/String;)V" } : Jvm.MethodName)) ∈ lw_all := lw_g (lw_at lw_m10 67 rfl) rfl
theorem q133 : (Jvm.Cond.initialized "java/util/Arrays") ∈ lw_all := lw_g (lw_at lw_m1 21 rfl) rfl
theorem q570 : (Jvm.Cond.static ({ cls := "java/util/Arrays", name := "copyOf", desc := "([BI)[B" } : Jvm.MethodName)) ∈ lw_all := lw_g (lw_at lw_m2 218 rfl) rfl
theorem q571 : (Jvm.Cond.code ({ cls := "java/util/Arrays", name := "copyOf", desc := "([BI)[B" } : Jvm.MethodName) prog_58_method_121_code (3 : Nat) (Option.some (Jvm.ClassFile.FieldType.array Jvm.ClassFile.FieldType.byte))) ∈ lw_all := lw_g (lw_at lw_m2 219 rfl) rfl
theorem q572 : (Jvm.Cond.methodLink "java/util/Arrays" (310 : Nat) ({ cls := "[B", name := "clone", desc := "()Ljava/lang/Object;" } : Jvm.MethodName)) ∈ lw_all := lw_g (lw_at lw_m2 220 rfl) rfl
theorem q578 : (Jvm.Cond.classLink "java/util/Arrays" (311 : Nat) "[B") ∈ lw_all := lw_g (lw_at lw_m2 226 rfl) rfl
theorem q579 : (Jvm.Cond.methodLink "java/util/Arrays" (304 : Nat) ({ cls := "java/lang/Math", name := "min", desc := "(II)I" } : Jvm.MethodName)) ∈ lw_all := lw_g (lw_at lw_m2 227 rfl) rfl
theorem q582 : (Jvm.Cond.methodLink "java/util/Arrays" (150 : Nat) ({ cls := "java/lang/System", name := "arraycopy", desc := "(Ljava/lang/Object;ILjava/lang/Object;II)V" } : Jvm.MethodName)) ∈ lw_all := lw_g (lw_at lw_m2 230 rfl) rfl
theorem q713 : (Jvm.Cond.static ({ cls := "java/util/Arrays", name := "copyOfRange", desc := "([BII)[B" } : Jvm.MethodName)) ∈ lw_all := lw_g (lw_at lw_m3 121 rfl) rfl
theorem q714 : (Jvm.Cond.code ({ cls := "java/util/Arrays", name := "copyOfRange", desc := "([BII)[B" } : Jvm.MethodName) prog_58_method_132_code (3 : Nat) (Option.some (Jvm.ClassFile.FieldType.array Jvm.ClassFile.FieldType.byte))) ∈ lw_all := lw_g (lw_at lw_m3 122 rfl) rfl
theorem q715 : (Jvm.Cond.methodLink "java/util/Arrays" (339 : Nat) ({ cls := "java/util/Arrays", name := "copyOfRangeByte", desc := "([BII)[B" } : Jvm.MethodName)) ∈ lw_all := lw_g (lw_at lw_m3 123 rfl) rfl
theorem q716 : (Jvm.Cond.static ({ cls := "java/util/Arrays", name := "copyOfRangeByte", desc := "([BII)[B" } : Jvm.MethodName)) ∈ lw_all := lw_g (lw_at lw_m3 124 rfl) rfl
theorem q717 : (Jvm.Cond.code ({ cls := "java/util/Arrays", name := "copyOfRangeByte", desc := "([BII)[B" } : Jvm.MethodName) prog_58_method_133_code (5 : Nat) (Option.some (Jvm.ClassFile.FieldType.array Jvm.ClassFile.FieldType.byte))) ∈ lw_all := lw_g (lw_at lw_m3 125 rfl) rfl
theorem q718 : (Jvm.Cond.methodLink "java/util/Arrays" (343 : Nat) ({ cls := "java/util/Arrays", name := "checkLength", desc := "(II)V" } : Jvm.MethodName)) ∈ lw_all := lw_g (lw_at lw_m3 126 rfl) rfl
theorem q719 : (Jvm.Cond.static ({ cls := "java/util/Arrays", name := "checkLength", desc := "(II)V" } : Jvm.MethodName)) ∈ lw_all := lw_g (lw_at lw_m3 127 rfl) rfl
theorem q720 : (Jvm.Cond.code ({ cls := "java/util/Arrays", name := "checkLength", desc := "(II)V" } : Jvm.MethodName) prog_58_method_131_code (2 : Nat) (Option.none : Option Jvm.ClassFile.FieldType)) ∈ lw_all := lw_g (lw_at lw_m3 128 rfl) rfl
theorem q721 : (Jvm.Cond.classLink "java/util/Arrays" (43 : Nat) "java/lang/IllegalArgumentException") ∈ lw_all := lw_g (lw_at lw_m3 129 rfl) rfl
theorem q730 : (Jvm.Cond.classLink "java/util/Arrays" (45 : Nat) "java/lang/StringBuilder") ∈ lw_all := lw_g (lw_at lw_m3 138 rfl) rfl
theorem q731 : (Jvm.Cond.methodLink "java/util/Arrays" (47 : Nat) ({ cls := "java/lang/StringBuilder", name := "<init>", desc := "()V" } : Jvm.MethodName)) ∈ lw_all := lw_g (lw_at lw_m3 139 rfl) rfl
theorem q732 : (Jvm.Cond.methodLink "java/util/Arrays" (54 : Nat) ({ cls := "java/lang/StringBuilder", name := "append", desc := "(I)Ljava/lang/StringBuilder;" } : Jvm.MethodName)) ∈ lw_all := lw_g (lw_at lw_m3 140 rfl) rfl
theorem q733 : (Jvm.Cond.stringRef "java/util/Arrays" (337 : Nat) " > ") ∈ lw_tbl := lw_at lw_m3 141 rfl
theorem q734 : (Jvm.Cond.methodLink "java/util/Arrays" (50 : Nat) ({ cls := "java/lang/StringBuilder", name := "append", desc := "(Ljava/lang/String;)Ljava/lang/StringBuilder;" } : Jvm.MethodName)) ∈ lw_all := lw_g (lw_at lw_m3 142 rfl) rfl
theorem q735 : (Jvm.Cond.methodLink "java/util/Arrays" (61 : Nat) ({ cls := "java/lang/StringBuilder", name := "toString", desc := "()Ljava/lang/String;" } : Jvm.MethodName)) ∈ lw_all := lw_g (lw_at lw_m3 143 rfl) rfl
theorem q736 : (Jvm.Cond.methodLink "java/util/Arrays" (65 : Nat) ({ cls := "java/lang/IllegalArgumentException", name := "<init>", desc := "(Ljava/lang/String;)V" } : Jvm.MethodName)) ∈ lw_all := lw_g (lw_at lw_m3 144 rfl) rfl
theorem q1011 : (Jvm.Cond.static ({ cls := "java/util/Arrays", name := "copyOfRange", desc := "([Ljava/lang/Object;IILjava/lang/Class;)[Ljava/lang/Object;" } : Jvm.MethodName)) ∈ lw_all := lw_g (lw_at lw_m4 179 rfl) rfl
theorem q1012 : (Jvm.Cond.code ({ cls := "java/util/Arrays", name := "copyOfRange", desc := "([Ljava/lang/Object;IILjava/lang/Class;)[Ljava/lang/Object;" } : Jvm.MethodName) prog_58_method_130_code (6 : Nat) (Option.some (Jvm.ClassFile.FieldType.array (Jvm.ClassFile.FieldType.object "java/lang/Object")))) ∈ lw_all := lw_g (lw_at lw_m4 180 rfl) rfl
theorem q1013 : (Jvm.Cond.classLink "java/util/Arrays" (110 : Nat) "[Ljava/lang/Object;") ∈ lw_all := lw_g (lw_at lw_m4 181 rfl) rfl
theorem q1014 : (Jvm.Cond.classLink "java/util/Arrays" (2 : Nat) "java/lang/Object") ∈ lw_all := lw_g (lw_at lw_m4 182 rfl) rfl
theorem q1023 : (Jvm.Cond.static ({ cls := "java/util/Arrays", name := "copyOf", desc := "([Ljava/lang/Object;I)[Ljava/lang/Object;" } : Jvm.MethodName)) ∈ lw_all := lw_g (lw_at lw_m4 191 rfl) rfl
theorem q1024 : (Jvm.Cond.code ({ cls := "java/util/Arrays", name := "copyOf", desc := "([Ljava/lang/Object;I)[Ljava/lang/Object;" } : Jvm.MethodName) prog_58_method_119_code (2 : Nat) (Option.some (Jvm.ClassFile.FieldType.array (Jvm.ClassFile.FieldType.object "java/lang/Object")))) ∈ lw_all := lw_g (lw_at lw_m4 192 rfl) rfl
theorem q1025 : (Jvm.Cond.methodLink "java/util/Arrays" (86 : Nat) ({ cls := "java/lang/Object", name := "getClass", desc := "()Ljava/lang/Class;" } : Jvm.MethodName)) ∈ lw_all := lw_g (lw_at lw_m4 193 rfl) rfl
theorem q1063 : (Jvm.Cond.methodLink "java/util/Arrays" (300 : Nat) ({ cls := "java/util/Arrays", name := "copyOf", desc := "([Ljava/lang/Object;ILjava/lang/Class;)[Ljava/lang/Object;" } : Jvm.MethodName)) ∈ lw_all := lw_g (lw_at lw_m4 231 rfl) rfl
theorem q1064 : (Jvm.Cond.static ({ cls := "java/util/Arrays", name := "copyOf", desc := "([Ljava/lang/Object;ILjava/lang/Class;)[Ljava/lang/Object;" } : Jvm.MethodName)) ∈ lw_all := lw_g (lw_at lw_m4 232 rfl) rfl
theorem q1065 : (Jvm.Cond.code ({ cls := "java/util/Arrays", name := "copyOf", desc := "([Ljava/lang/Object;ILjava/lang/Class;)[Ljava/lang/Object;" } : Jvm.MethodName) prog_58_method_120_code (4 : Nat) (Option.some (Jvm.ClassFile.FieldType.array (Jvm.ClassFile.FieldType.object "java/lang/Object")))) ∈ lw_all := lw_g (lw_at lw_m4 233 rfl) rfl
theorem q135 : (Jvm.Cond.initialized "java/lang/StringLatin1") ∈ lw_all := lw_g (lw_at lw_m1 23 rfl) rfl
theorem q639 : (Jvm.Cond.static ({ cls := "java/lang/StringLatin1", name := "inflate", desc := "([BI[BII)V" } : Jvm.MethodName)) ∈ lw_all := lw_g (lw_at lw_m3 47 rfl) rfl
theorem q640 : (Jvm.Cond.code ({ cls := "java/lang/StringLatin1", name := "inflate", desc := "([BI[BII)V" } : Jvm.MethodName) prog_45_method_50_code (5 : Nat) (Option.none : Option Jvm.ClassFile.FieldType)) ∈ lw_all := lw_g (lw_at lw_m3 48 rfl) rfl
theorem q641 : (Jvm.Cond.methodLink "java/lang/StringLatin1" (240 : Nat) ({ cls := "java/lang/StringUTF16", name := "inflate", desc := "([BI[BII)V" } : Jvm.MethodName)) ∈ lw_all := lw_g (lw_at lw_m3 49 rfl) rfl
theorem q823 : (Jvm.Cond.static ({ cls := "java/lang/StringLatin1", name := "charAt", desc := "([BI)C" } : Jvm.MethodName)) ∈ lw_all := lw_g (lw_at lw_m3 231 rfl) rfl
theorem q824 : (Jvm.Cond.code ({ cls := "java/lang/StringLatin1", name := "charAt", desc := "([BI)C" } : Jvm.MethodName) prog_45_method_2_code (2 : Nat) (Option.some Jvm.ClassFile.FieldType.char)) ∈ lw_all := lw_g (lw_at lw_m3 232 rfl) rfl
theorem q825 : (Jvm.Cond.methodLink "java/lang/StringLatin1" (9 : Nat) ({ cls := "java/lang/String", name := "checkIndex", desc := "(II)V" } : Jvm.MethodName)) ∈ lw_all := lw_g (lw_at lw_m3 233 rfl) rfl
theorem q1243 : (Jvm.Cond.static ({ cls := "java/lang/StringLatin1", name := "canEncode", desc := "(C)Z" } : Jvm.MethodName)) ∈ lw_all := lw_g (lw_at lw_m5 171 rfl) rfl
theorem q1244 : (Jvm.Cond.code ({ cls := "java/lang/StringLatin1", name := "canEncode", desc := "(C)Z" } : Jvm.MethodName) prog_45_method_3_code (1 : Nat) (Option.some Jvm.ClassFile.FieldType.boolean)) ∈ lw_all := lw_g (lw_at lw_m5 172 rfl) rfl
theorem q1265 : (Jvm.Cond.static ({ cls := "java/lang/StringLatin1", name := "indexOf", desc := "([BIII)I" } : Jvm.MethodName)) ∈ lw_all := lw_g (lw_at lw_m5 193 rfl) rfl
theorem q1266 : (Jvm.Cond.code ({ cls := "java/lang/StringLatin1", name := "indexOf", desc := "([BIII)I" } : Jvm.MethodName) prog_45_method_22_code (4 : Nat) (Option.some Jvm.ClassFile.FieldType.int)) ∈ lw_all := lw_g (lw_at lw_m5 194 rfl) rfl
theorem q1267 : (Jvm.Cond.methodLink "java/lang/StringLatin1" (88 : Nat) ({ cls := "java/lang/StringLatin1", name := "canEncode", desc := "(I)Z" } : Jvm.MethodName)) ∈ lw_all := lw_g (lw_at lw_m5 195 rfl) rfl
theorem q1268 : (Jvm.Cond.static ({ cls := "java/lang/StringLatin1", name := "canEncode", desc := "(I)Z" } : Jvm.MethodName)) ∈ lw_all := lw_g (lw_at lw_m5 196 rfl) rfl
theorem q1269 : (Jvm.Cond.code ({ cls := "java/lang/StringLatin1", name := "canEncode", desc := "(I)Z" } : Jvm.MethodName) prog_45_method_4_code (1 : Nat) (Option.some Jvm.ClassFile.FieldType.boolean)) ∈ lw_all := lw_g (lw_at lw_m5 197 rfl) rfl
theorem q1270 : (Jvm.Cond.methodLink "java/lang/StringLatin1" (92 : Nat) ({ cls := "java/lang/Math", name := "max", desc := "(II)I" } : Jvm.MethodName)) ∈ lw_all := lw_g (lw_at lw_m5 198 rfl) rfl
theorem q1271 : (Jvm.Cond.methodLink "java/lang/StringLatin1" (38 : Nat) ({ cls := "java/lang/Math", name := "min", desc := "(II)I" } : Jvm.MethodName)) ∈ lw_all := lw_g (lw_at lw_m5 199 rfl) rfl
theorem q1272 : (Jvm.Cond.methodLink "java/lang/StringLatin1" (95 : Nat) ({ cls := "java/lang/StringLatin1", name := "indexOfChar", desc := "([BIII)I" } : Jvm.MethodName)) ∈ lw_all := lw_g (lw_at lw_m5 200 rfl) rfl
theorem q1273 : (Jvm.Cond.static ({ cls := "java/lang/StringLatin1", name := "indexOfChar", desc := "([BIII)I" } : Jvm.MethodName)) ∈ lw_all := lw_g (lw_at lw_m5 201 rfl) rfl
theorem q1274 : (Jvm.Cond.code ({ cls := "java/lang/StringLatin1", name := "indexOfChar", desc := "([BIII)I" } : Jvm.MethodName) prog_45_method_23_code (6 : Nat) (Option.some Jvm.ClassFile.FieldType.int)) ∈ lw_all := lw_g (lw_at lw_m5 202 rfl) rfl
theorem q1365 : (Jvm.Cond.static ({ cls := "java/lang/StringLatin1", name := "equals", desc := "([B[B)Z" } : Jvm.MethodName)) ∈ lw_all := lw_g (lw_at lw_m6 53 rfl) rfl
theorem q1366 : (Jvm.Cond.code ({ cls := "java/lang/StringLatin1", name := "equals", desc := "([B[B)Z" } : Jvm.MethodName) prog_45_method_13_code (3 : Nat) (Option.some Jvm.ClassFile.FieldType.boolean)) ∈ lw_all := lw_g (lw_at lw_m6 54 rfl) rfl
theorem q2557 : (Jvm.Cond.static ({ cls := "java/lang/StringLatin1", name := "hashCode", desc := "([B)I" } : Jvm.MethodName)) ∈ lw_all := lw_g (lw_at lw_m11 45 rfl) rfl
theorem q2558 : (Jvm.Cond.code ({ cls := "java/lang/StringLatin1", name := "hashCode", desc := "([B)I" } : Jvm.MethodName) prog_45_method_21_code (1 : Nat) (Option.some Jvm.ClassFile.FieldType.int)) ∈ lw_all := lw_g (lw_at lw_m11 46 rfl) rfl
theorem q2559 : (Jvm.Cond.methodLink "java/lang/StringLatin1" (84 : Nat) ({ cls := "jdk/internal/util/ArraysSupport", name := "vectorizedHashCode", desc := "(Ljava/lang/Object;IIII)I" } : Jvm.MethodName)) ∈ lw_all := lw_g (lw_at lw_m11 47 rfl) rfl
theorem q136 : (Jvm.Cond.initialized "jdk/internal/util/Preconditions") ∈ lw_all := lw_g (lw_at lw_m1 24 rfl) rfl
theorem q498 : (Jvm.Cond.static ({ cls := "jdk/internal/util/Preconditions", name := "checkIndex", desc := "(IILjava/util/function/BiFunction;)I" } : Jvm.MethodName)) ∈ lw_all := lw_g (lw_at lw_m2 146 rfl) rfl
theorem q499 : (Jvm.Cond.code ({ cls := "jdk/internal/util/Preconditions", name := "checkIndex", desc := "(IILjava/util/function/BiFunction;)I" } : Jvm.MethodName) prog_71_method_11_code (3 : Nat) (Option.some Jvm.ClassFile.FieldType.int)) ∈ lw_all := lw_g (lw_at lw_m2 147 rfl) rfl
theorem q603 : (Jvm.Cond.laysStatic "jdk/internal/util/Preconditions" "SIOOBE_FORMATTER" "Ljava/util/function/BiFunction;") ∈ lw_tbl := lw_at lw_m3 11 rfl
theorem q605 : (Jvm.Cond.static ({ cls := "jdk/internal/util/Preconditions", name := "checkFromToIndex", desc := "(IIILjava/util/function/BiFunction;)I" } : Jvm.MethodName)) ∈ lw_all := lw_g (lw_at lw_m3 13 rfl) rfl
theorem q606 : (Jvm.Cond.code ({ cls := "jdk/internal/util/Preconditions", name := "checkFromToIndex", desc := "(IIILjava/util/function/BiFunction;)I" } : Jvm.MethodName) prog_71_method_12_code (4 : Nat) (Option.some Jvm.ClassFile.FieldType.int)) ∈ lw_all := lw_g (lw_at lw_m3 14 rfl) rfl
theorem q651 : (Jvm.Cond.static ({ cls := "jdk/internal/util/Preconditions", name := "checkFromIndexSize", desc := "(IIILjava/util/function/BiFunction;)I" } : Jvm.MethodName)) ∈ lw_all := lw_g (lw_at lw_m3 59 rfl) rfl
theorem q652 : (Jvm.Cond.code ({ cls := "jdk/internal/util/Preconditions", name := "checkFromIndexSize", desc := "(IIILjava/util/function/BiFunction;)I" } : Jvm.MethodName) prog_71_method_13_code (4 : Nat) (Option.some Jvm.ClassFile.FieldType.int)) ∈ lw_all := lw_g (lw_at lw_m3 60 rfl) rfl
theorem q137 : (Jvm.Cond.initialized "java/lang/Number") ∈ lw_all := lw_g (lw_at lw_m1 25 rfl) rfl
theorem q1933 : (Jvm.Cond.instanceMethod ({ cls := "java/lang/Number", name := "<init>", desc := "()V" } : Jvm.MethodName)) ∈ lw_all := lw_g (lw_at lw_m8 141 rfl) rfl
theorem q1934 : (Jvm.Cond.code ({ cls := "java/lang/Number", name := "<init>", desc := "()V" } : Jvm.MethodName) prog_41_method_1_code (1 : Nat) (Option.none : Option Jvm.ClassFile.FieldType)) ∈ lw_all := lw_g (lw_at lw_m8 142 rfl) rfl
theorem q1935 : (Jvm.Cond.methodLink "java/lang/Number" (1 : Nat) ({ cls := "java/lang/Object", name := "<init>", desc := "()V" } : Jvm.MethodName)) ∈ lw_all := lw_g (lw_at lw_m8 143 rfl) rfl
theorem q138 : (Jvm.Cond.initialized "java/lang/Integer") ∈ lw_all := lw_g (lw_at lw_m1 26 rfl) rfl
theorem q667 : (Jvm.Cond.static ({ cls := "java/lang/Integer", name := "stringSize", desc := "(I)I" } : Jvm.MethodName)) ∈ lw_all := lw_g (lw_at lw_m3 75 rfl) rfl
theorem q668 : (Jvm.Cond.code ({ cls := "java/lang/Integer", name := "stringSize", desc := "(I)I" } : Jvm.MethodName) prog_37_method_13_code (4 : Nat) (Option.some Jvm.ClassFile.FieldType.int)) ∈ lw_all := lw_g (lw_at lw_m3 76 rfl) rfl
theorem q670 : (Jvm.Cond.static ({ cls := "java/lang/Integer", name := "getChars", desc := "(II[B)I" } : Jvm.MethodName)) ∈ lw_all := lw_g (lw_at lw_m3 78 rfl) rfl
theorem q671 : (Jvm.Cond.code ({ cls := "java/lang/Integer", name := "getChars", desc := "(II[B)I" } : Jvm.MethodName) prog_37_method_12_code (7 : Nat) (Option.some Jvm.ClassFile.FieldType.int)) ∈ lw_all := lw_g (lw_at lw_m3 79 rfl) rfl
theorem q672 : (Jvm.Cond.fieldLink "java/lang/Integer" (83 : Nat) "java/lang/Integer" "DigitOnes" "[B") ∈ lw_all := lw_g (lw_at lw_m3 80 rfl) rfl
theorem q673 : (Jvm.Cond.laysStatic "java/lang/Integer" "DigitOnes" "[B") ∈ lw_tbl := lw_at lw_m3 81 rfl
theorem q674 : (Jvm.Cond.fieldLink "java/lang/Integer" (87 : Nat) "java/lang/Integer" "DigitTens" "[B") ∈ lw_all := lw_g (lw_at lw_m3 82 rfl) rfl
theorem q675 : (Jvm.Cond.laysStatic "java/lang/Integer" "DigitTens" "[B") ∈ lw_tbl := lw_at lw_m3 83 rfl
theorem q1052 : (Jvm.Cond.selects "java/lang/Integer" ({ cls := "java/lang/Object", name := "getClass", desc := "()Ljava/lang/Class;" } : Jvm.MethodName) ({ cls := "java/lang/Object", name := "getClass", desc := "()Ljava/lang/Class;" } : Jvm.MethodName)) ∈ lw_all := lw_g (lw_at lw_m4 220 rfl) rfl
theorem q1610 : (Jvm.Cond.instanceMethod ({ cls := "java/lang/Integer", name := "intValue", desc := "()I" } : Jvm.MethodName)) ∈ lw_all := lw_g (lw_at lw_m7 58 rfl) rfl
theorem q1611 : (Jvm.Cond.selects "java/lang/Integer" ({ cls := "java/lang/Integer", name := "intValue", desc := "()I" } : Jvm.MethodName) ({ cls := "java/lang/Integer", name := "intValue", desc := "()I" } : Jvm.MethodName)) ∈ lw_all := lw_g (lw_at lw_m7 59 rfl) rfl
theorem q1612 : (Jvm.Cond.code ({ cls := "java/lang/Integer", name := "intValue", desc := "()I" } : Jvm.MethodName) prog_37_method_27_code (1 : Nat) (Option.some Jvm.ClassFile.FieldType.int)) ∈ lw_all := lw_g (lw_at lw_m7 60 rfl) rfl
theorem q1921 : (Jvm.Cond.static ({ cls := "java/lang/Integer", name := "valueOf", desc := "(I)Ljava/lang/Integer;" } : Jvm.MethodName)) ∈ lw_all := lw_g (lw_at lw_m8 129 rfl) rfl
theorem q1922 : (Jvm.Cond.code ({ cls := "java/lang/Integer", name := "valueOf", desc := "(I)Ljava/lang/Integer;" } : Jvm.MethodName) prog_37_method_22_code (1 : Nat) (Option.some (Jvm.ClassFile.FieldType.object "java/lang/Integer"))) ∈ lw_all := lw_g (lw_at lw_m8 130 rfl) rfl
theorem q1923 : (Jvm.Cond.fieldLink "java/lang/Integer" (191 : Nat) "java/lang/Integer$IntegerCache" "high" "I") ∈ lw_all := lw_g (lw_at lw_m8 131 rfl) rfl
theorem q1925 : (Jvm.Cond.fieldLink "java/lang/Integer" (195 : Nat) "java/lang/Integer$IntegerCache" "cache" "[Ljava/lang/Integer;") ∈ lw_all := lw_g (lw_at lw_m8 133 rfl) rfl
theorem q1927 : (Jvm.Cond.classLink "java/lang/Integer" (1 : Nat) "java/lang/Integer") ∈ lw_all := lw_g (lw_at lw_m8 135 rfl) rfl
theorem q1928 : (Jvm.Cond.instantiable "java/lang/Integer" (1 : Nat)) ∈ lw_all := lw_g (lw_at lw_m8 136 rfl) rfl
theorem q1929 : (Jvm.Cond.methodLink "java/lang/Integer" (199 : Nat) ({ cls := "java/lang/Integer", name := "<init>", desc := "(I)V" } : Jvm.MethodName)) ∈ lw_all := lw_g (lw_at lw_m8 137 rfl) rfl
theorem q1930 : (Jvm.Cond.instanceMethod ({ cls := "java/lang/Integer", name := "<init>", desc := "(I)V" } : Jvm.MethodName)) ∈ lw_all := lw_g (lw_at lw_m8 138 rfl) rfl
theorem q1931 : (Jvm.Cond.code ({ cls := "java/lang/Integer", name := "<init>", desc := "(I)V" } : Jvm.MethodName) prog_37_method_23_code (2 : Nat) (Option.none : Option Jvm.ClassFile.FieldType)) ∈ lw_all := lw_g (lw_at lw_m8 139 rfl) rfl
theorem q1932 : (Jvm.Cond.methodLink "java/lang/Integer" (202 : Nat) ({ cls := "java/lang/Number", name := "<init>", desc := "()V" } : Jvm.MethodName)) ∈ lw_all := lw_g (lw_at lw_m8 140 rfl) rfl
theorem q1936 : (Jvm.Cond.fieldLink "java/lang/Integer" (205 : Nat) "java/lang/Integer" "value" "I") ∈ lw_all := lw_g (lw_at lw_m8 144 rfl) rfl
theorem q1937 : (Jvm.Cond.laysFinal "java/lang/Integer" "java/lang/Integer" "value" "I") ∈ lw_all := lw_g (lw_at lw_m8 145 rfl) rfl
theorem q1938 : (Jvm.Cond.soleField "java/lang/Integer" "value") ∈ lw_all := lw_g (lw_at lw_m8 146 rfl) rfl
theorem q1939 : (Jvm.Cond.superclass "java/lang/Integer" "java/lang/Number") ∈ lw_all := lw_g (lw_at lw_m8 147 rfl) rfl
theorem q1981 : (Jvm.Cond.selects "java/lang/Integer" ({ cls := "java/lang/Object", name := "equals", desc := "(Ljava/lang/Object;)Z" } : Jvm.MethodName) ({ cls := "java/lang/Integer", name := "equals", desc := "(Ljava/lang/Object;)Z" } : Jvm.MethodName)) ∈ lw_all := lw_g (lw_at lw_m8 189 rfl) rfl
theorem q1982 : (Jvm.Cond.instanceMethod ({ cls := "java/lang/Integer", name := "equals", desc := "(Ljava/lang/Object;)Z" } : Jvm.MethodName)) ∈ lw_all := lw_g (lw_at lw_m8 190 rfl) rfl
theorem q1983 : (Jvm.Cond.code ({ cls := "java/lang/Integer", name := "equals", desc := "(Ljava/lang/Object;)Z" } : Jvm.MethodName) prog_37_method_34_code (2 : Nat) (Option.some Jvm.ClassFile.FieldType.boolean)) ∈ lw_all := lw_g (lw_at lw_m8 191 rfl) rfl
theorem q1984 : (Jvm.Cond.methodLink "java/lang/Integer" (211 : Nat) ({ cls := "java/lang/Integer", name := "intValue", desc := "()I" } : Jvm.MethodName)) ∈ lw_all := lw_g (lw_at lw_m8 192 rfl) rfl
theorem q3374 : (Jvm.Cond.castable "java/lang/Integer" "java/lang/Object") ∈ lw_tbl := lw_at lw_m14 142 rfl
theorem q139 : (Jvm.Cond.initialized "java/lang/Character") ∈ lw_all := lw_g (lw_at lw_m1 27 rfl) rfl
theorem q1291 : (Jvm.Cond.static ({ cls := "java/lang/Character", name := "isValidCodePoint", desc := "(I)Z" } : Jvm.MethodName)) ∈ lw_all := lw_g (lw_at lw_m5 219 rfl) rfl
theorem q1292 : (Jvm.Cond.code ({ cls := "java/lang/Character", name := "isValidCodePoint", desc := "(I)Z" } : Jvm.MethodName) prog_31_method_11_code (2 : Nat) (Option.some Jvm.ClassFile.FieldType.boolean)) ∈ lw_all := lw_g (lw_at lw_m5 220 rfl) rfl
theorem q1294 : (Jvm.Cond.static ({ cls := "java/lang/Character", name := "highSurrogate", desc := "(I)C" } : Jvm.MethodName)) ∈ lw_all := lw_g (lw_at lw_m5 222 rfl) rfl
theorem q1295 : (Jvm.Cond.code ({ cls := "java/lang/Character", name := "highSurrogate", desc := "(I)C" } : Jvm.MethodName) prog_31_method_28_code (1 : Nat) (Option.some Jvm.ClassFile.FieldType.char)) ∈ lw_all := lw_g (lw_at lw_m5 223 rfl) rfl
theorem q1296 : (Jvm.Cond.constant "java/lang/Character" (110 : Nat) (55232 : Int32)) ∈ lw_all := lw_g (lw_at lw_m5 224 rfl) rfl
theorem q1298 : (Jvm.Cond.static ({ cls := "java/lang/Character", name := "lowSurrogate", desc := "(I)C" } : Jvm.MethodName)) ∈ lw_all := lw_g (lw_at lw_m5 226 rfl) rfl
theorem q1299 : (Jvm.Cond.code ({ cls := "java/lang/Character", name := "lowSurrogate", desc := "(I)C" } : Jvm.MethodName) prog_31_method_29_code (1 : Nat) (Option.some Jvm.ClassFile.FieldType.char)) ∈ lw_all := lw_g (lw_at lw_m5 227 rfl) rfl
theorem q1300 : (Jvm.Cond.constant "java/lang/Character" (76 : Nat) (56320 : Int32)) ∈ lw_all := lw_g (lw_at lw_m5 228 rfl) rfl
theorem q118 : (Jvm.Cond.initialized "java/util/ArrayList") ∈ lw_all := lw_g (lw_at lw_m1 6 rfl) rfl
theorem q204 : (Jvm.Cond.instantiable "java/util/ArrayList" (3 : Nat)) ∈ lw_all := lw_g (lw_at lw_m1 92 rfl) rfl
theorem q206 : (Jvm.Cond.instanceMethod ({ cls := "java/util/ArrayList", name := "<init>", desc := "()V" } : Jvm.MethodName)) ∈ lw_all := lw_g (lw_at lw_m1 94 rfl) rfl
theorem q207 : (Jvm.Cond.code ({ cls := "java/util/ArrayList", name := "<init>", desc := "()V" } : Jvm.MethodName) prog_56_method_2_code (1 : Nat) (Option.none : Option Jvm.ClassFile.FieldType)) ∈ lw_all := lw_g (lw_at lw_m1 95 rfl) rfl
theorem q208 : (Jvm.Cond.methodLink "java/util/ArrayList" (1 : Nat) ({ cls := "java/util/AbstractList", name := "<init>", desc := "()V" } : Jvm.MethodName)) ∈ lw_all := lw_g (lw_at lw_m1 96 rfl) rfl
theorem q215 : (Jvm.Cond.fieldLink "java/util/ArrayList" (39 : Nat) "java/util/ArrayList" "DEFAULTCAPACITY_EMPTY_ELEMENTDATA" "[Ljava/lang/Object;") ∈ lw_all := lw_g (lw_at lw_m1 103 rfl) rfl
theorem q216 : (Jvm.Cond.laysStatic "java/util/ArrayList" "DEFAULTCAPACITY_EMPTY_ELEMENTDATA" "[Ljava/lang/Object;") ∈ lw_tbl := lw_at lw_m1 104 rfl
theorem q217 : (Jvm.Cond.fieldLink "java/util/ArrayList" (9 : Nat) "java/util/ArrayList" "elementData" "[Ljava/lang/Object;") ∈ lw_all := lw_g (lw_at lw_m1 105 rfl) rfl
theorem q220 : (Jvm.Cond.fieldLink "java/util/ArrayList" (48 : Nat) "java/util/ArrayList" "size" "I") ∈ lw_all := lw_g (lw_at lw_m1 108 rfl) rfl
theorem q223 : (Jvm.Cond.sameField "java/util/ArrayList" "java/util/AbstractList" "modCount" "I") ∈ lw_all := lw_g (lw_at lw_m1 111 rfl) rfl
theorem q224 : (Jvm.Cond.fieldLink "java/util/ArrayList" (63 : Nat) "java/util/ArrayList" "modCount" "I") ∈ lw_all := lw_g (lw_at lw_m1 112 rfl) rfl
theorem q225 : (Jvm.Cond.lays "java/util/ArrayList" "java/util/ArrayList" "elementData" "[Ljava/lang/Object;") ∈ lw_all := lw_g (lw_at lw_m1 113 rfl) rfl
theorem q226 : (Jvm.Cond.soleField "java/util/ArrayList" "elementData") ∈ lw_all := lw_g (lw_at lw_m1 114 rfl) rfl
theorem q227 : (Jvm.Cond.lays "java/util/ArrayList" "java/util/ArrayList" "size" "I") ∈ lw_all := lw_g (lw_at lw_m1 115 rfl) rfl
theorem q228 : (Jvm.Cond.soleField "java/util/ArrayList" "size") ∈ lw_all := lw_g (lw_at lw_m1 116 rfl) rfl
theorem q229 : (Jvm.Cond.lays "java/util/ArrayList" "java/util/AbstractList" "modCount" "I") ∈ lw_all := lw_g (lw_at lw_m1 117 rfl) rfl
theorem q231 : (Jvm.Cond.superclass "java/util/ArrayList" "java/util/AbstractList") ∈ lw_all := lw_g (lw_at lw_m1 119 rfl) rfl
theorem q342 : (Jvm.Cond.castable "java/util/ArrayList" "java/util/List") ∈ lw_tbl := lw_at lw_m1 230 rfl
theorem q343 : (Jvm.Cond.selects "java/util/ArrayList" ({ cls := "java/util/List", name := "iterator", desc := "()Ljava/util/Iterator;" } : Jvm.MethodName) ({ cls := "java/util/ArrayList", name := "iterator", desc := "()Ljava/util/Iterator;" } : Jvm.MethodName)) ∈ lw_all := lw_g (lw_at lw_m1 231 rfl) rfl
theorem q344 : (Jvm.Cond.unhidden "java/util/ArrayList" "iterator" "()Ljava/util/Iterator;") ∈ lw_tbl := lw_at lw_m1 232 rfl
theorem q345 : (Jvm.Cond.instanceMethod ({ cls := "java/util/ArrayList", name := "iterator", desc := "()Ljava/util/Iterator;" } : Jvm.MethodName)) ∈ lw_all := lw_g (lw_at lw_m1 233 rfl) rfl
theorem q346 : (Jvm.Cond.publicMethod ({ cls := "java/util/ArrayList", name := "iterator", desc := "()Ljava/util/Iterator;" } : Jvm.MethodName)) ∈ lw_tbl := lw_at lw_m1 234 rfl
theorem q347 : (Jvm.Cond.code ({ cls := "java/util/ArrayList", name := "iterator", desc := "()Ljava/util/Iterator;" } : Jvm.MethodName) prog_56_method_55_code (1 : Nat) (Option.some (Jvm.ClassFile.FieldType.object "java/util/Iterator"))) ∈ lw_all := lw_g (lw_at lw_m1 235 rfl) rfl
theorem q348 : (Jvm.Cond.classLink "java/util/ArrayList" (267 : Nat) "java/util/ArrayList$Itr") ∈ lw_all := lw_g (lw_at lw_m1 236 rfl) rfl
theorem q350 : (Jvm.Cond.methodLink "java/util/ArrayList" (269 : Nat) ({ cls := "java/util/ArrayList$Itr", name := "<init>", desc := "(Ljava/util/ArrayList;)V" } : Jvm.MethodName)) ∈ lw_all := lw_g (lw_at lw_m1 238 rfl) rfl
theorem q381 : (Jvm.Cond.selects "java/util/ArrayList" ({ cls := "java/util/List", name := "size", desc := "()I" } : Jvm.MethodName) ({ cls := "java/util/ArrayList", name := "size", desc := "()I" } : Jvm.MethodName)) ∈ lw_all := lw_g (lw_at lw_m2 29 rfl) rfl
theorem q382 : (Jvm.Cond.unhidden "java/util/ArrayList" "size" "()I") ∈ lw_tbl := lw_at lw_m2 30 rfl
theorem q383 : (Jvm.Cond.instanceMethod ({ cls := "java/util/ArrayList", name := "size", desc := "()I" } : Jvm.MethodName)) ∈ lw_all := lw_g (lw_at lw_m2 31 rfl) rfl
theorem q384 : (Jvm.Cond.publicMethod ({ cls := "java/util/ArrayList", name := "size", desc := "()I" } : Jvm.MethodName)) ∈ lw_tbl := lw_at lw_m2 32 rfl
theorem q385 : (Jvm.Cond.code ({ cls := "java/util/ArrayList", name := "size", desc := "()I" } : Jvm.MethodName) prog_56_method_8_code (1 : Nat) (Option.some Jvm.ClassFile.FieldType.int)) ∈ lw_all := lw_g (lw_at lw_m2 33 rfl) rfl
theorem q489 : (Jvm.Cond.selects "java/util/ArrayList" ({ cls := "java/util/List", name := "get", desc := "(I)Ljava/lang/Object;" } : Jvm.MethodName) ({ cls := "java/util/ArrayList", name := "get", desc := "(I)Ljava/lang/Object;" } : Jvm.MethodName)) ∈ lw_all := lw_g (lw_at lw_m2 137 rfl) rfl
theorem q490 : (Jvm.Cond.unhidden "java/util/ArrayList" "get" "(I)Ljava/lang/Object;") ∈ lw_tbl := lw_at lw_m2 138 rfl
theorem q491 : (Jvm.Cond.instanceMethod ({ cls := "java/util/ArrayList", name := "get", desc := "(I)Ljava/lang/Object;" } : Jvm.MethodName)) ∈ lw_all := lw_g (lw_at lw_m2 139 rfl) rfl
theorem q492 : (Jvm.Cond.publicMethod ({ cls := "java/util/ArrayList", name := "get", desc := "(I)Ljava/lang/Object;" } : Jvm.MethodName)) ∈ lw_tbl := lw_at lw_m2 140 rfl
theorem q493 : (Jvm.Cond.code ({ cls := "java/util/ArrayList", name := "get", desc := "(I)Ljava/lang/Object;" } : Jvm.MethodName) prog_56_method_20_code (2 : Nat) (Option.some (Jvm.ClassFile.FieldType.object "java/lang/Object"))) ∈ lw_all := lw_g (lw_at lw_m2 141 rfl) rfl
theorem q494 : (Jvm.Cond.methodLink "java/util/ArrayList" (118 : Nat) ({ cls := "java/util/Objects", name := "checkIndex", desc := "(II)I" } : Jvm.MethodName)) ∈ lw_all := lw_g (lw_at lw_m2 142 rfl) rfl
theorem q500 : (Jvm.Cond.methodLink "java/util/ArrayList" (123 : Nat) ({ cls := "java/util/ArrayList", name := "elementData", desc := "(I)Ljava/lang/Object;" } : Jvm.MethodName)) ∈ lw_all := lw_g (lw_at lw_m2 148 rfl) rfl
theorem q501 : (Jvm.Cond.instanceMethod ({ cls := "java/util/ArrayList", name := "elementData", desc := "(I)Ljava/lang/Object;" } : Jvm.MethodName)) ∈ lw_all := lw_g (lw_at lw_m2 149 rfl) rfl
theorem q502 : (Jvm.Cond.selects "java/util/ArrayList" ({ cls := "java/util/ArrayList", name := "elementData", desc := "(I)Ljava/lang/Object;" } : Jvm.MethodName) ({ cls := "java/util/ArrayList", name := "elementData", desc := "(I)Ljava/lang/Object;" } : Jvm.MethodName)) ∈ lw_all := lw_g (lw_at lw_m2 150 rfl) rfl
theorem q503 : (Jvm.Cond.code ({ cls := "java/util/ArrayList", name := "elementData", desc := "(I)Ljava/lang/Object;" } : Jvm.MethodName) prog_56_method_18_code (2 : Nat) (Option.some (Jvm.ClassFile.FieldType.object "java/lang/Object"))) ∈ lw_all := lw_g (lw_at lw_m2 151 rfl) rfl
theorem q990 : (Jvm.Cond.selects "java/util/ArrayList" ({ cls := "java/util/List", name := "addAll", desc := "(Ljava/util/Collection;)Z" } : Jvm.MethodName) ({ cls := "java/util/ArrayList", name := "addAll", desc := "(Ljava/util/Collection;)Z" } : Jvm.MethodName)) ∈ lw_all := lw_g (lw_at lw_m4 158 rfl) rfl
theorem q991 : (Jvm.Cond.unhidden "java/util/ArrayList" "addAll" "(Ljava/util/Collection;)Z") ∈ lw_tbl := lw_at lw_m4 159 rfl
theorem q992 : (Jvm.Cond.instanceMethod ({ cls := "java/util/ArrayList", name := "addAll", desc := "(Ljava/util/Collection;)Z" } : Jvm.MethodName)) ∈ lw_all := lw_g (lw_at lw_m4 160 rfl) rfl
theorem q993 : (Jvm.Cond.publicMethod ({ cls := "java/util/ArrayList", name := "addAll", desc := "(Ljava/util/Collection;)Z" } : Jvm.MethodName)) ∈ lw_tbl := lw_at lw_m4 161 rfl
theorem q994 : (Jvm.Cond.code ({ cls := "java/util/ArrayList", name := "addAll", desc := "(Ljava/util/Collection;)Z" } : Jvm.MethodName) prog_56_method_41_code (6 : Nat) (Option.some Jvm.ClassFile.FieldType.boolean)) ∈ lw_all := lw_g (lw_at lw_m4 162 rfl) rfl
theorem q995 : (Jvm.Cond.interfaceEntry "java/util/ArrayList" (42 : Nat)) ∈ lw_tbl := lw_at lw_m4 163 rfl
theorem q996 : (Jvm.Cond.methodLink "java/util/ArrayList" (42 : Nat) ({ cls := "java/util/Collection", name := "toArray", desc := "()[Ljava/lang/Object;" } : Jvm.MethodName)) ∈ lw_all := lw_g (lw_at lw_m4 164 rfl) rfl
theorem q1016 : (Jvm.Cond.castable "java/util/ArrayList" "java/util/Collection") ∈ lw_tbl := lw_at lw_m4 184 rfl
theorem q1017 : (Jvm.Cond.selects "java/util/ArrayList" ({ cls := "java/util/Collection", name := "toArray", desc := "()[Ljava/lang/Object;" } : Jvm.MethodName) ({ cls := "java/util/ArrayList", name := "toArray", desc := "()[Ljava/lang/Object;" } : Jvm.MethodName)) ∈ lw_all := lw_g (lw_at lw_m4 185 rfl) rfl
theorem q1018 : (Jvm.Cond.unhidden "java/util/ArrayList" "toArray" "()[Ljava/lang/Object;") ∈ lw_tbl := lw_at lw_m4 186 rfl
theorem q1019 : (Jvm.Cond.instanceMethod ({ cls := "java/util/ArrayList", name := "toArray", desc := "()[Ljava/lang/Object;" } : Jvm.MethodName)) ∈ lw_all := lw_g (lw_at lw_m4 187 rfl) rfl
theorem q1020 : (Jvm.Cond.publicMethod ({ cls := "java/util/ArrayList", name := "toArray", desc := "()[Ljava/lang/Object;" } : Jvm.MethodName)) ∈ lw_tbl := lw_at lw_m4 188 rfl
theorem q1021 : (Jvm.Cond.code ({ cls := "java/util/ArrayList", name := "toArray", desc := "()[Ljava/lang/Object;" } : Jvm.MethodName) prog_56_method_16_code (1 : Nat) (Option.some (Jvm.ClassFile.FieldType.array (Jvm.ClassFile.FieldType.object "java/lang/Object")))) ∈ lw_all := lw_g (lw_at lw_m4 189 rfl) rfl
theorem q1022 : (Jvm.Cond.methodLink "java/util/ArrayList" (66 : Nat) ({ cls := "java/util/Arrays", name := "copyOf", desc := "([Ljava/lang/Object;I)[Ljava/lang/Object;" } : Jvm.MethodName)) ∈ lw_all := lw_g (lw_at lw_m4 190 rfl) rfl
theorem q1058 : (Jvm.Cond.selects "java/util/ArrayList" ({ cls := "java/lang/Object", name := "getClass", desc := "()Ljava/lang/Class;" } : Jvm.MethodName) ({ cls := "java/lang/Object", name := "getClass", desc := "()Ljava/lang/Class;" } : Jvm.MethodName)) ∈ lw_all := lw_g (lw_at lw_m4 226 rfl) rfl
theorem q1066 : (Jvm.Cond.methodLink "java/util/ArrayList" (69 : Nat) ({ cls := "java/util/ArrayList", name := "grow", desc := "(I)[Ljava/lang/Object;" } : Jvm.MethodName)) ∈ lw_all := lw_g (lw_at lw_m4 234 rfl) rfl
theorem q1067 : (Jvm.Cond.privateMethod ({ cls := "java/util/ArrayList", name := "grow", desc := "(I)[Ljava/lang/Object;" } : Jvm.MethodName)) ∈ lw_tbl := lw_at lw_m4 235 rfl
theorem q1068 : (Jvm.Cond.instanceMethod ({ cls := "java/util/ArrayList", name := "grow", desc := "(I)[Ljava/lang/Object;" } : Jvm.MethodName)) ∈ lw_all := lw_g (lw_at lw_m4 236 rfl) rfl
theorem q1069 : (Jvm.Cond.code ({ cls := "java/util/ArrayList", name := "grow", desc := "(I)[Ljava/lang/Object;" } : Jvm.MethodName) prog_56_method_6_code (4 : Nat) (Option.some (Jvm.ClassFile.FieldType.array (Jvm.ClassFile.FieldType.object "java/lang/Object")))) ∈ lw_all := lw_g (lw_at lw_m4 237 rfl) rfl
theorem q1070 : (Jvm.Cond.methodLink "java/util/ArrayList" (73 : Nat) ({ cls := "jdk/internal/util/ArraysSupport", name := "newLength", desc := "(III)I" } : Jvm.MethodName)) ∈ lw_all := lw_g (lw_at lw_m4 238 rfl) rfl
theorem q1071 : (Jvm.Cond.methodLink "java/util/ArrayList" (79 : Nat) ({ cls := "java/lang/Math", name := "max", desc := "(II)I" } : Jvm.MethodName)) ∈ lw_all := lw_g (lw_at lw_m4 239 rfl) rfl
theorem q1072 : (Jvm.Cond.classLink "java/util/ArrayList" (7 : Nat) "java/lang/Object") ∈ lw_all := lw_g (lw_at lw_m5 0 rfl) rfl
theorem q1073 : (Jvm.Cond.methodLink "java/util/ArrayList" (112 : Nat) ({ cls := "java/lang/System", name := "arraycopy", desc := "(Ljava/lang/Object;ILjava/lang/Object;II)V" } : Jvm.MethodName)) ∈ lw_all := lw_g (lw_at lw_m5 1 rfl) rfl
theorem q1078 : (Jvm.Cond.selects "java/util/ArrayList" ({ cls := "java/util/List", name := "add", desc := "(Ljava/lang/Object;)Z" } : Jvm.MethodName) ({ cls := "java/util/ArrayList", name := "add", desc := "(Ljava/lang/Object;)Z" } : Jvm.MethodName)) ∈ lw_all := lw_g (lw_at lw_m5 6 rfl) rfl
theorem q1079 : (Jvm.Cond.unhidden "java/util/ArrayList" "add" "(Ljava/lang/Object;)Z") ∈ lw_tbl := lw_at lw_m5 7 rfl
theorem q1080 : (Jvm.Cond.instanceMethod ({ cls := "java/util/ArrayList", name := "add", desc := "(Ljava/lang/Object;)Z" } : Jvm.MethodName)) ∈ lw_all := lw_g (lw_at lw_m5 8 rfl) rfl
theorem q1081 : (Jvm.Cond.publicMethod ({ cls := "java/util/ArrayList", name := "add", desc := "(Ljava/lang/Object;)Z" } : Jvm.MethodName)) ∈ lw_tbl := lw_at lw_m5 9 rfl
theorem q1082 : (Jvm.Cond.code ({ cls := "java/util/ArrayList", name := "add", desc := "(Ljava/lang/Object;)Z" } : Jvm.MethodName) prog_56_method_25_code (2 : Nat) (Option.some Jvm.ClassFile.FieldType.boolean)) ∈ lw_all := lw_g (lw_at lw_m5 10 rfl) rfl
theorem q1083 : (Jvm.Cond.methodLink "java/util/ArrayList" (131 : Nat) ({ cls := "java/util/ArrayList", name := "add", desc := "(Ljava/lang/Object;[Ljava/lang/Object;I)V" } : Jvm.MethodName)) ∈ lw_all := lw_g (lw_at lw_m5 11 rfl) rfl
theorem q1084 : (Jvm.Cond.privateMethod ({ cls := "java/util/ArrayList", name := "add", desc := "(Ljava/lang/Object;[Ljava/lang/Object;I)V" } : Jvm.MethodName)) ∈ lw_tbl := lw_at lw_m5 12 rfl
theorem q1085 : (Jvm.Cond.instanceMethod ({ cls := "java/util/ArrayList", name := "add", desc := "(Ljava/lang/Object;[Ljava/lang/Object;I)V" } : Jvm.MethodName)) ∈ lw_all := lw_g (lw_at lw_m5 13 rfl) rfl
theorem q1086 : (Jvm.Cond.code ({ cls := "java/util/ArrayList", name := "add", desc := "(Ljava/lang/Object;[Ljava/lang/Object;I)V" } : Jvm.MethodName) prog_56_method_24_code (4 : Nat) (Option.none : Option Jvm.ClassFile.FieldType)) ∈ lw_all := lw_g (lw_at lw_m5 14 rfl) rfl
theorem q1087 : (Jvm.Cond.methodLink "java/util/ArrayList" (129 : Nat) ({ cls := "java/util/ArrayList", name := "grow", desc := "()[Ljava/lang/Object;" } : Jvm.MethodName)) ∈ lw_all := lw_g (lw_at lw_m5 15 rfl) rfl
theorem q1088 : (Jvm.Cond.privateMethod ({ cls := "java/util/ArrayList", name := "grow", desc := "()[Ljava/lang/Object;" } : Jvm.MethodName)) ∈ lw_tbl := lw_at lw_m5 16 rfl
theorem q1089 : (Jvm.Cond.instanceMethod ({ cls := "java/util/ArrayList", name := "grow", desc := "()[Ljava/lang/Object;" } : Jvm.MethodName)) ∈ lw_all := lw_g (lw_at lw_m5 17 rfl) rfl
theorem q1090 : (Jvm.Cond.code ({ cls := "java/util/ArrayList", name := "grow", desc := "()[Ljava/lang/Object;" } : Jvm.MethodName) prog_56_method_7_code (1 : Nat) (Option.some (Jvm.ClassFile.FieldType.array (Jvm.ClassFile.FieldType.object "java/lang/Object")))) ∈ lw_all := lw_g (lw_at lw_m5 18 rfl) rfl
theorem q1851 : (Jvm.Cond.selects "java/util/ArrayList" ({ cls := "java/util/List", name := "clear", desc := "()V" } : Jvm.MethodName) ({ cls := "java/util/ArrayList", name := "clear", desc := "()V" } : Jvm.MethodName)) ∈ lw_all := lw_g (lw_at lw_m8 59 rfl) rfl
theorem q1852 : (Jvm.Cond.unhidden "java/util/ArrayList" "clear" "()V") ∈ lw_tbl := lw_at lw_m8 60 rfl
theorem q1853 : (Jvm.Cond.instanceMethod ({ cls := "java/util/ArrayList", name := "clear", desc := "()V" } : Jvm.MethodName)) ∈ lw_all := lw_g (lw_at lw_m8 61 rfl) rfl
theorem q1854 : (Jvm.Cond.publicMethod ({ cls := "java/util/ArrayList", name := "clear", desc := "()V" } : Jvm.MethodName)) ∈ lw_tbl := lw_at lw_m8 62 rfl
theorem q1855 : (Jvm.Cond.code ({ cls := "java/util/ArrayList", name := "clear", desc := "()V" } : Jvm.MethodName) prog_56_method_40_code (4 : Nat) (Option.none : Option Jvm.ClassFile.FieldType)) ∈ lw_all := lw_g (lw_at lw_m8 63 rfl) rfl
theorem q1881 : (Jvm.Cond.selects "java/util/ArrayList" ({ cls := "java/util/List", name := "isEmpty", desc := "()Z" } : Jvm.MethodName) ({ cls := "java/util/ArrayList", name := "isEmpty", desc := "()Z" } : Jvm.MethodName)) ∈ lw_all := lw_g (lw_at lw_m8 89 rfl) rfl
theorem q1882 : (Jvm.Cond.unhidden "java/util/ArrayList" "isEmpty" "()Z") ∈ lw_tbl := lw_at lw_m8 90 rfl
theorem q1883 : (Jvm.Cond.instanceMethod ({ cls := "java/util/ArrayList", name := "isEmpty", desc := "()Z" } : Jvm.MethodName)) ∈ lw_all := lw_g (lw_at lw_m8 91 rfl) rfl
theorem q1884 : (Jvm.Cond.publicMethod ({ cls := "java/util/ArrayList", name := "isEmpty", desc := "()Z" } : Jvm.MethodName)) ∈ lw_tbl := lw_at lw_m8 92 rfl
theorem q1885 : (Jvm.Cond.code ({ cls := "java/util/ArrayList", name := "isEmpty", desc := "()Z" } : Jvm.MethodName) prog_56_method_9_code (1 : Nat) (Option.some Jvm.ClassFile.FieldType.boolean)) ∈ lw_all := lw_g (lw_at lw_m8 93 rfl) rfl
theorem q1905 : (Jvm.Cond.instanceMethod ({ cls := "java/util/ArrayList", name := "<init>", desc := "(Ljava/util/Collection;)V" } : Jvm.MethodName)) ∈ lw_all := lw_g (lw_at lw_m8 113 rfl) rfl
theorem q1906 : (Jvm.Cond.code ({ cls := "java/util/ArrayList", name := "<init>", desc := "(Ljava/util/Collection;)V" } : Jvm.MethodName) prog_56_method_3_code (3 : Nat) (Option.none : Option Jvm.ClassFile.FieldType)) ∈ lw_all := lw_g (lw_at lw_m8 114 rfl) rfl
theorem q1907 : (Jvm.Cond.interfaceEntry "java/util/ArrayList" (52 : Nat)) ∈ lw_tbl := lw_at lw_m8 115 rfl
theorem q1908 : (Jvm.Cond.methodLink "java/util/ArrayList" (52 : Nat) ({ cls := "java/util/Collection", name := "getClass", desc := "()Ljava/lang/Class;" } : Jvm.MethodName)) ∈ lw_all := lw_g (lw_at lw_m8 116 rfl) rfl
theorem q1913 : (Jvm.Cond.unhidden "java/util/ArrayList" "getClass" "()Ljava/lang/Class;") ∈ lw_tbl := lw_at lw_m8 121 rfl
theorem q1914 : (Jvm.Cond.classLink "java/util/ArrayList" (10 : Nat) "java/util/ArrayList") ∈ lw_all := lw_g (lw_at lw_m8 122 rfl) rfl
theorem q1915 : (Jvm.Cond.classLink "java/util/ArrayList" (56 : Nat) "[Ljava/lang/Object;") ∈ lw_all := lw_g (lw_at lw_m8 123 rfl) rfl
theorem q1916 : (Jvm.Cond.methodLink "java/util/ArrayList" (57 : Nat) ({ cls := "java/util/Arrays", name := "copyOf", desc := "([Ljava/lang/Object;ILjava/lang/Class;)[Ljava/lang/Object;" } : Jvm.MethodName)) ∈ lw_all := lw_g (lw_at lw_m8 124 rfl) rfl
theorem q1917 : (Jvm.Cond.fieldLink "java/util/ArrayList" (15 : Nat) "java/util/ArrayList" "EMPTY_ELEMENTDATA" "[Ljava/lang/Object;") ∈ lw_all := lw_g (lw_at lw_m8 125 rfl) rfl
theorem q1918 : (Jvm.Cond.laysStatic "java/util/ArrayList" "EMPTY_ELEMENTDATA" "[Ljava/lang/Object;") ∈ lw_tbl := lw_at lw_m8 126 rfl
theorem q1944 : (Jvm.Cond.selects "java/util/ArrayList" ({ cls := "java/util/List", name := "indexOf", desc := "(Ljava/lang/Object;)I" } : Jvm.MethodName) ({ cls := "java/util/ArrayList", name := "indexOf", desc := "(Ljava/lang/Object;)I" } : Jvm.MethodName)) ∈ lw_all := lw_g (lw_at lw_m8 152 rfl) rfl
theorem q1945 : (Jvm.Cond.unhidden "java/util/ArrayList" "indexOf" "(Ljava/lang/Object;)I") ∈ lw_tbl := lw_at lw_m8 153 rfl
theorem q1946 : (Jvm.Cond.instanceMethod ({ cls := "java/util/ArrayList", name := "indexOf", desc := "(Ljava/lang/Object;)I" } : Jvm.MethodName)) ∈ lw_all := lw_g (lw_at lw_m8 154 rfl) rfl
theorem q1947 : (Jvm.Cond.publicMethod ({ cls := "java/util/ArrayList", name := "indexOf", desc := "(Ljava/lang/Object;)I" } : Jvm.MethodName)) ∈ lw_tbl := lw_at lw_m8 155 rfl
theorem q1948 : (Jvm.Cond.code ({ cls := "java/util/ArrayList", name := "indexOf", desc := "(Ljava/lang/Object;)I" } : Jvm.MethodName) prog_56_method_11_code (2 : Nat) (Option.some Jvm.ClassFile.FieldType.int)) ∈ lw_all := lw_g (lw_at lw_m8 156 rfl) rfl
theorem q1949 : (Jvm.Cond.methodLink "java/util/ArrayList" (89 : Nat) ({ cls := "java/util/ArrayList", name := "indexOfRange", desc := "(Ljava/lang/Object;II)I" } : Jvm.MethodName)) ∈ lw_all := lw_g (lw_at lw_m8 157 rfl) rfl
theorem q1950 : (Jvm.Cond.instanceMethod ({ cls := "java/util/ArrayList", name := "indexOfRange", desc := "(Ljava/lang/Object;II)I" } : Jvm.MethodName)) ∈ lw_all := lw_g (lw_at lw_m8 158 rfl) rfl
theorem q1951 : (Jvm.Cond.selects "java/util/ArrayList" ({ cls := "java/util/ArrayList", name := "indexOfRange", desc := "(Ljava/lang/Object;II)I" } : Jvm.MethodName) ({ cls := "java/util/ArrayList", name := "indexOfRange", desc := "(Ljava/lang/Object;II)I" } : Jvm.MethodName)) ∈ lw_all := lw_g (lw_at lw_m8 159 rfl) rfl
theorem q1952 : (Jvm.Cond.code ({ cls := "java/util/ArrayList", name := "indexOfRange", desc := "(Ljava/lang/Object;II)I" } : Jvm.MethodName) prog_56_method_12_code (6 : Nat) (Option.some Jvm.ClassFile.FieldType.int)) ∈ lw_all := lw_g (lw_at lw_m8 160 rfl) rfl
theorem q1954 : (Jvm.Cond.methodLink "java/util/ArrayList" (93 : Nat) ({ cls := "java/lang/Object", name := "equals", desc := "(Ljava/lang/Object;)Z" } : Jvm.MethodName)) ∈ lw_all := lw_g (lw_at lw_m8 162 rfl) rfl
theorem q2004 : (Jvm.Cond.selects "java/util/ArrayList" ({ cls := "java/util/List", name := "remove", desc := "(Ljava/lang/Object;)Z" } : Jvm.MethodName) ({ cls := "java/util/ArrayList", name := "remove", desc := "(Ljava/lang/Object;)Z" } : Jvm.MethodName)) ∈ lw_all := lw_g (lw_at lw_m8 212 rfl) rfl
theorem q2005 : (Jvm.Cond.unhidden "java/util/ArrayList" "remove" "(Ljava/lang/Object;)Z") ∈ lw_tbl := lw_at lw_m8 213 rfl
theorem q2006 : (Jvm.Cond.instanceMethod ({ cls := "java/util/ArrayList", name := "remove", desc := "(Ljava/lang/Object;)Z" } : Jvm.MethodName)) ∈ lw_all := lw_g (lw_at lw_m8 214 rfl) rfl
theorem q2007 : (Jvm.Cond.publicMethod ({ cls := "java/util/ArrayList", name := "remove", desc := "(Ljava/lang/Object;)Z" } : Jvm.MethodName)) ∈ lw_tbl := lw_at lw_m8 215 rfl
theorem q2008 : (Jvm.Cond.code ({ cls := "java/util/ArrayList", name := "remove", desc := "(Ljava/lang/Object;)Z" } : Jvm.MethodName) prog_56_method_38_code (5 : Nat) (Option.some Jvm.ClassFile.FieldType.boolean)) ∈ lw_all := lw_g (lw_at lw_m8 216 rfl) rfl
theorem q2009 : (Jvm.Cond.methodLink "java/util/ArrayList" (144 : Nat) ({ cls := "java/util/ArrayList", name := "fastRemove", desc := "([Ljava/lang/Object;I)V" } : Jvm.MethodName)) ∈ lw_all := lw_g (lw_at lw_m8 217 rfl) rfl
theorem q2010 : (Jvm.Cond.privateMethod ({ cls := "java/util/ArrayList", name := "fastRemove", desc := "([Ljava/lang/Object;I)V" } : Jvm.MethodName)) ∈ lw_tbl := lw_at lw_m8 218 rfl
theorem q2011 : (Jvm.Cond.instanceMethod ({ cls := "java/util/ArrayList", name := "fastRemove", desc := "([Ljava/lang/Object;I)V" } : Jvm.MethodName)) ∈ lw_all := lw_g (lw_at lw_m8 219 rfl) rfl
theorem q2012 : (Jvm.Cond.code ({ cls := "java/util/ArrayList", name := "fastRemove", desc := "([Ljava/lang/Object;I)V" } : Jvm.MethodName) prog_56_method_39_code (4 : Nat) (Option.none : Option Jvm.ClassFile.FieldType)) ∈ lw_all := lw_g (lw_at lw_m8 220 rfl) rfl
theorem q2130 : (Jvm.Cond.selects "java/util/ArrayList" ({ cls := "java/util/List", name := "add", desc := "(ILjava/lang/Object;)V" } : Jvm.MethodName) ({ cls := "java/util/ArrayList", name := "add", desc := "(ILjava/lang/Object;)V" } : Jvm.MethodName)) ∈ lw_all := lw_g (lw_at lw_m9 98 rfl) rfl
theorem q2131 : (Jvm.Cond.unhidden "java/util/ArrayList" "add" "(ILjava/lang/Object;)V") ∈ lw_tbl := lw_at lw_m9 99 rfl
theorem q2132 : (Jvm.Cond.instanceMethod ({ cls := "java/util/ArrayList", name := "add", desc := "(ILjava/lang/Object;)V" } : Jvm.MethodName)) ∈ lw_all := lw_g (lw_at lw_m9 100 rfl) rfl
theorem q2133 : (Jvm.Cond.publicMethod ({ cls := "java/util/ArrayList", name := "add", desc := "(ILjava/lang/Object;)V" } : Jvm.MethodName)) ∈ lw_tbl := lw_at lw_m9 101 rfl
theorem q2134 : (Jvm.Cond.code ({ cls := "java/util/ArrayList", name := "add", desc := "(ILjava/lang/Object;)V" } : Jvm.MethodName) prog_56_method_26_code (5 : Nat) (Option.none : Option Jvm.ClassFile.FieldType)) ∈ lw_all := lw_g (lw_at lw_m9 102 rfl) rfl
theorem q2135 : (Jvm.Cond.methodLink "java/util/ArrayList" (135 : Nat) ({ cls := "java/util/ArrayList", name := "rangeCheckForAdd", desc := "(I)V" } : Jvm.MethodName)) ∈ lw_all := lw_g (lw_at lw_m9 103 rfl) rfl
theorem q2136 : (Jvm.Cond.privateMethod ({ cls := "java/util/ArrayList", name := "rangeCheckForAdd", desc := "(I)V" } : Jvm.MethodName)) ∈ lw_tbl := lw_at lw_m9 104 rfl
theorem q2137 : (Jvm.Cond.instanceMethod ({ cls := "java/util/ArrayList", name := "rangeCheckForAdd", desc := "(I)V" } : Jvm.MethodName)) ∈ lw_all := lw_g (lw_at lw_m9 105 rfl) rfl
theorem q2138 : (Jvm.Cond.code ({ cls := "java/util/ArrayList", name := "rangeCheckForAdd", desc := "(I)V" } : Jvm.MethodName) prog_56_method_45_code (2 : Nat) (Option.none : Option Jvm.ClassFile.FieldType)) ∈ lw_all := lw_g (lw_at lw_m9 106 rfl) rfl
theorem q2213 : (Jvm.Cond.instanceMethod ({ cls := "java/util/ArrayList", name := "remove", desc := "(I)Ljava/lang/Object;" } : Jvm.MethodName)) ∈ lw_all := lw_g (lw_at lw_m9 181 rfl) rfl
theorem q2214 : (Jvm.Cond.selects "java/util/ArrayList" ({ cls := "java/util/ArrayList", name := "remove", desc := "(I)Ljava/lang/Object;" } : Jvm.MethodName) ({ cls := "java/util/ArrayList", name := "remove", desc := "(I)Ljava/lang/Object;" } : Jvm.MethodName)) ∈ lw_all := lw_g (lw_at lw_m9 182 rfl) rfl
theorem q2215 : (Jvm.Cond.code ({ cls := "java/util/ArrayList", name := "remove", desc := "(I)Ljava/lang/Object;" } : Jvm.MethodName) prog_56_method_29_code (4 : Nat) (Option.some (Jvm.ClassFile.FieldType.object "java/lang/Object"))) ∈ lw_all := lw_g (lw_at lw_m9 183 rfl) rfl
theorem q2309 : (Jvm.Cond.selects "java/util/ArrayList" ({ cls := "java/util/List", name := "remove", desc := "(I)Ljava/lang/Object;" } : Jvm.MethodName) ({ cls := "java/util/ArrayList", name := "remove", desc := "(I)Ljava/lang/Object;" } : Jvm.MethodName)) ∈ lw_all := lw_g (lw_at lw_m10 37 rfl) rfl
theorem q2310 : (Jvm.Cond.unhidden "java/util/ArrayList" "remove" "(I)Ljava/lang/Object;") ∈ lw_tbl := lw_at lw_m10 38 rfl
theorem q2311 : (Jvm.Cond.publicMethod ({ cls := "java/util/ArrayList", name := "remove", desc := "(I)Ljava/lang/Object;" } : Jvm.MethodName)) ∈ lw_tbl := lw_at lw_m10 39 rfl
theorem q2457 : (Jvm.Cond.castable "java/util/ArrayList" "java/lang/Iterable") ∈ lw_tbl := lw_at lw_m10 185 rfl
theorem q2458 : (Jvm.Cond.selects "java/util/ArrayList" ({ cls := "java/lang/Iterable", name := "iterator", desc := "()Ljava/util/Iterator;" } : Jvm.MethodName) ({ cls := "java/util/ArrayList", name := "iterator", desc := "()Ljava/util/Iterator;" } : Jvm.MethodName)) ∈ lw_all := lw_g (lw_at lw_m10 186 rfl) rfl
theorem q3356 : (Jvm.Cond.castable "java/util/ArrayList" "java/lang/Object") ∈ lw_tbl := lw_at lw_m14 124 rfl
theorem q146 : (Jvm.Cond.initialized "java/util/Objects") ∈ lw_all := lw_g (lw_at lw_m1 34 rfl) rfl
theorem q495 : (Jvm.Cond.static ({ cls := "java/util/Objects", name := "checkIndex", desc := "(II)I" } : Jvm.MethodName)) ∈ lw_all := lw_g (lw_at lw_m2 143 rfl) rfl
theorem q496 : (Jvm.Cond.code ({ cls := "java/util/Objects", name := "checkIndex", desc := "(II)I" } : Jvm.MethodName) prog_65_method_17_code (2 : Nat) (Option.some Jvm.ClassFile.FieldType.int)) ∈ lw_all := lw_g (lw_at lw_m2 144 rfl) rfl
theorem q497 : (Jvm.Cond.methodLink "java/util/Objects" (105 : Nat) ({ cls := "jdk/internal/util/Preconditions", name := "checkIndex", desc := "(IILjava/util/function/BiFunction;)I" } : Jvm.MethodName)) ∈ lw_all := lw_g (lw_at lw_m2 145 rfl) rfl
theorem q147 : (Jvm.Cond.initialized "java/util/ArrayList$Itr") ∈ lw_all := lw_g (lw_at lw_m1 35 rfl) rfl
theorem q218 : (Jvm.Cond.fieldLink "java/util/ArrayList$Itr" (37 : Nat) "java/util/ArrayList" "elementData" "[Ljava/lang/Object;") ∈ lw_all := lw_g (lw_at lw_m1 106 rfl) rfl
theorem q219 : (Jvm.Cond.fieldLinkNest "java/util/ArrayList$Itr" (28 : Nat) "java/util/ArrayList" "size" "I" "java/util/ArrayList") ∈ lw_tbl := lw_at lw_m1 107 rfl
theorem q222 : (Jvm.Cond.fieldLink "java/util/ArrayList$Itr" (17 : Nat) "java/util/ArrayList" "modCount" "I") ∈ lw_all := lw_g (lw_at lw_m1 110 rfl) rfl
theorem q349 : (Jvm.Cond.instantiable "java/util/ArrayList$Itr" (4 : Nat)) ∈ lw_all := lw_g (lw_at lw_m1 237 rfl) rfl
theorem q351 : (Jvm.Cond.instanceMethod ({ cls := "java/util/ArrayList$Itr", name := "<init>", desc := "(Ljava/util/ArrayList;)V" } : Jvm.MethodName)) ∈ lw_all := lw_g (lw_at lw_m1 239 rfl) rfl
theorem q352 : (Jvm.Cond.code ({ cls := "java/util/ArrayList$Itr", name := "<init>", desc := "(Ljava/util/ArrayList;)V" } : Jvm.MethodName) prog_57_method_1_code (2 : Nat) (Option.none : Option Jvm.ClassFile.FieldType)) ∈ lw_all := lw_g (lw_at lw_m2 0 rfl) rfl
theorem q353 : (Jvm.Cond.methodLink "java/util/ArrayList$Itr" (7 : Nat) ({ cls := "java/lang/Object", name := "<init>", desc := "()V" } : Jvm.MethodName)) ∈ lw_all := lw_g (lw_at lw_m2 1 rfl) rfl
theorem q354 : (Jvm.Cond.fieldLink "java/util/ArrayList$Itr" (25 : Nat) "java/util/ArrayList$Itr" "cursor" "I") ∈ lw_all := lw_g (lw_at lw_m2 2 rfl) rfl
theorem q355 : (Jvm.Cond.fieldLink "java/util/ArrayList$Itr" (13 : Nat) "java/util/ArrayList$Itr" "lastRet" "I") ∈ lw_all := lw_g (lw_at lw_m2 3 rfl) rfl
theorem q356 : (Jvm.Cond.fieldLink "java/util/ArrayList$Itr" (22 : Nat) "java/util/ArrayList$Itr" "expectedModCount" "I") ∈ lw_all := lw_g (lw_at lw_m2 4 rfl) rfl
theorem q357 : (Jvm.Cond.fieldLink "java/util/ArrayList$Itr" (1 : Nat) "java/util/ArrayList$Itr" "this$0" "Ljava/util/ArrayList;") ∈ lw_all := lw_g (lw_at lw_m2 5 rfl) rfl
theorem q358 : (Jvm.Cond.lays "java/util/ArrayList$Itr" "java/util/ArrayList$Itr" "cursor" "I") ∈ lw_all := lw_g (lw_at lw_m2 6 rfl) rfl
theorem q359 : (Jvm.Cond.soleField "java/util/ArrayList$Itr" "cursor") ∈ lw_all := lw_g (lw_at lw_m2 7 rfl) rfl
theorem q360 : (Jvm.Cond.lays "java/util/ArrayList$Itr" "java/util/ArrayList$Itr" "lastRet" "I") ∈ lw_all := lw_g (lw_at lw_m2 8 rfl) rfl
theorem q361 : (Jvm.Cond.soleField "java/util/ArrayList$Itr" "lastRet") ∈ lw_all := lw_g (lw_at lw_m2 9 rfl) rfl
theorem q362 : (Jvm.Cond.lays "java/util/ArrayList$Itr" "java/util/ArrayList$Itr" "expectedModCount" "I") ∈ lw_all := lw_g (lw_at lw_m2 10 rfl) rfl
theorem q363 : (Jvm.Cond.soleField "java/util/ArrayList$Itr" "expectedModCount") ∈ lw_all := lw_g (lw_at lw_m2 11 rfl) rfl
theorem q364 : (Jvm.Cond.laysFinal "java/util/ArrayList$Itr" "java/util/ArrayList$Itr" "this$0" "Ljava/util/ArrayList;") ∈ lw_all := lw_g (lw_at lw_m2 12 rfl) rfl
theorem q365 : (Jvm.Cond.soleField "java/util/ArrayList$Itr" "this$0") ∈ lw_all := lw_g (lw_at lw_m2 13 rfl) rfl
theorem q366 : (Jvm.Cond.superclass "java/util/ArrayList$Itr" "java/lang/Object") ∈ lw_all := lw_g (lw_at lw_m2 14 rfl) rfl
theorem q392 : (Jvm.Cond.castable "java/util/ArrayList$Itr" "java/util/Iterator") ∈ lw_tbl := lw_at lw_m2 40 rfl
theorem q393 : (Jvm.Cond.selects "java/util/ArrayList$Itr" ({ cls := "java/util/Iterator", name := "hasNext", desc := "()Z" } : Jvm.MethodName) ({ cls := "java/util/ArrayList$Itr", name := "hasNext", desc := "()Z" } : Jvm.MethodName)) ∈ lw_all := lw_g (lw_at lw_m2 41 rfl) rfl
theorem q394 : (Jvm.Cond.unhidden "java/util/ArrayList$Itr" "hasNext" "()Z") ∈ lw_tbl := lw_at lw_m2 42 rfl
theorem q395 : (Jvm.Cond.instanceMethod ({ cls := "java/util/ArrayList$Itr", name := "hasNext", desc := "()Z" } : Jvm.MethodName)) ∈ lw_all := lw_g (lw_at lw_m2 43 rfl) rfl
theorem q396 : (Jvm.Cond.publicMethod ({ cls := "java/util/ArrayList$Itr", name := "hasNext", desc := "()Z" } : Jvm.MethodName)) ∈ lw_tbl := lw_at lw_m2 44 rfl
theorem q397 : (Jvm.Cond.code ({ cls := "java/util/ArrayList$Itr", name := "hasNext", desc := "()Z" } : Jvm.MethodName) prog_57_method_2_code (1 : Nat) (Option.some Jvm.ClassFile.FieldType.boolean)) ∈ lw_all := lw_g (lw_at lw_m2 45 rfl) rfl
theorem q789 : (Jvm.Cond.selects "java/util/ArrayList$Itr" ({ cls := "java/util/Iterator", name := "next", desc := "()Ljava/lang/Object;" } : Jvm.MethodName) ({ cls := "java/util/ArrayList$Itr", name := "next", desc := "()Ljava/lang/Object;" } : Jvm.MethodName)) ∈ lw_all := lw_g (lw_at lw_m3 197 rfl) rfl
theorem q790 : (Jvm.Cond.unhidden "java/util/ArrayList$Itr" "next" "()Ljava/lang/Object;") ∈ lw_tbl := lw_at lw_m3 198 rfl
theorem q791 : (Jvm.Cond.instanceMethod ({ cls := "java/util/ArrayList$Itr", name := "next", desc := "()Ljava/lang/Object;" } : Jvm.MethodName)) ∈ lw_all := lw_g (lw_at lw_m3 199 rfl) rfl
theorem q792 : (Jvm.Cond.publicMethod ({ cls := "java/util/ArrayList$Itr", name := "next", desc := "()Ljava/lang/Object;" } : Jvm.MethodName)) ∈ lw_tbl := lw_at lw_m3 200 rfl
theorem q793 : (Jvm.Cond.code ({ cls := "java/util/ArrayList$Itr", name := "next", desc := "()Ljava/lang/Object;" } : Jvm.MethodName) prog_57_method_3_code (3 : Nat) (Option.some (Jvm.ClassFile.FieldType.object "java/lang/Object"))) ∈ lw_all := lw_g (lw_at lw_m3 201 rfl) rfl
theorem q794 : (Jvm.Cond.methodLink "java/util/ArrayList$Itr" (31 : Nat) ({ cls := "java/util/ArrayList$Itr", name := "checkForComodification", desc := "()V" } : Jvm.MethodName)) ∈ lw_all := lw_g (lw_at lw_m3 202 rfl) rfl
theorem q795 : (Jvm.Cond.instanceMethod ({ cls := "java/util/ArrayList$Itr", name := "checkForComodification", desc := "()V" } : Jvm.MethodName)) ∈ lw_all := lw_g (lw_at lw_m3 203 rfl) rfl
theorem q796 : (Jvm.Cond.selects "java/util/ArrayList$Itr" ({ cls := "java/util/ArrayList$Itr", name := "checkForComodification", desc := "()V" } : Jvm.MethodName) ({ cls := "java/util/ArrayList$Itr", name := "checkForComodification", desc := "()V" } : Jvm.MethodName)) ∈ lw_all := lw_g (lw_at lw_m3 204 rfl) rfl
theorem q797 : (Jvm.Cond.code ({ cls := "java/util/ArrayList$Itr", name := "checkForComodification", desc := "()V" } : Jvm.MethodName) prog_57_method_6_code (1 : Nat) (Option.none : Option Jvm.ClassFile.FieldType)) ∈ lw_all := lw_g (lw_at lw_m3 205 rfl) rfl
theorem q798 : (Jvm.Cond.classLink "java/util/ArrayList$Itr" (34 : Nat) "java/util/NoSuchElementException") ∈ lw_all := lw_g (lw_at lw_m3 206 rfl) rfl
theorem q799 : (Jvm.Cond.methodLink "java/util/ArrayList$Itr" (36 : Nat) ({ cls := "java/util/NoSuchElementException", name := "<init>", desc := "()V" } : Jvm.MethodName)) ∈ lw_all := lw_g (lw_at lw_m3 207 rfl) rfl
theorem q1059 : (Jvm.Cond.selects "java/util/ArrayList$Itr" ({ cls := "java/lang/Object", name := "getClass", desc := "()Ljava/lang/Class;" } : Jvm.MethodName) ({ cls := "java/lang/Object", name := "getClass", desc := "()Ljava/lang/Class;" } : Jvm.MethodName)) ∈ lw_all := lw_g (lw_at lw_m4 227 rfl) rfl
theorem q2192 : (Jvm.Cond.selects "java/util/ArrayList$Itr" ({ cls := "java/util/Iterator", name := "remove", desc := "()V" } : Jvm.MethodName) ({ cls := "java/util/ArrayList$Itr", name := "remove", desc := "()V" } : Jvm.MethodName)) ∈ lw_all := lw_g (lw_at lw_m9 160 rfl) rfl
theorem q2193 : (Jvm.Cond.unhidden "java/util/ArrayList$Itr" "remove" "()V") ∈ lw_tbl := lw_at lw_m9 161 rfl
theorem q2194 : (Jvm.Cond.instanceMethod ({ cls := "java/util/ArrayList$Itr", name := "remove", desc := "()V" } : Jvm.MethodName)) ∈ lw_all := lw_g (lw_at lw_m9 162 rfl) rfl
theorem q2195 : (Jvm.Cond.publicMethod ({ cls := "java/util/ArrayList$Itr", name := "remove", desc := "()V" } : Jvm.MethodName)) ∈ lw_tbl := lw_at lw_m9 163 rfl
theorem q2196 : (Jvm.Cond.codeWith ({ cls := "java/util/ArrayList$Itr", name := "remove", desc := "()V" } : Jvm.MethodName) prog_57_method_4_code (2 : Nat) (Option.none : Option Jvm.ClassFile.FieldType) [((19 : Nat), (55 : Nat), (58 : Nat), (51 : Nat))]) ∈ lw_all := lw_g (lw_at lw_m9 164 rfl) rfl
theorem q2197 : (Jvm.Cond.classLink "java/util/ArrayList$Itr" (44 : Nat) "java/lang/IllegalStateException") ∈ lw_all := lw_g (lw_at lw_m9 165 rfl) rfl
theorem q2206 : (Jvm.Cond.methodLink "java/util/ArrayList$Itr" (46 : Nat) ({ cls := "java/lang/IllegalStateException", name := "<init>", desc := "()V" } : Jvm.MethodName)) ∈ lw_all := lw_g (lw_at lw_m9 174 rfl) rfl
theorem q2212 : (Jvm.Cond.methodLink "java/util/ArrayList$Itr" (47 : Nat) ({ cls := "java/util/ArrayList", name := "remove", desc := "(I)Ljava/lang/Object;" } : Jvm.MethodName)) ∈ lw_all := lw_g (lw_at lw_m9 180 rfl) rfl
theorem q2216 : (Jvm.Cond.classLink "java/util/ArrayList$Itr" (41 : Nat) "java/util/ConcurrentModificationException") ∈ lw_all := lw_g (lw_at lw_m9 184 rfl) rfl
theorem q2218 : (Jvm.Cond.methodLink "java/util/ArrayList$Itr" (43 : Nat) ({ cls := "java/util/ConcurrentModificationException", name := "<init>", desc := "()V" } : Jvm.MethodName)) ∈ lw_all := lw_g (lw_at lw_m9 186 rfl) rfl
theorem q3369 : (Jvm.Cond.castable "java/util/ArrayList$Itr" "java/lang/Object") ∈ lw_tbl := lw_at lw_m14 137 rfl
theorem q148 : (Jvm.Cond.initialized "java/util/NoSuchElementException") ∈ lw_all := lw_g (lw_at lw_m1 36 rfl) rfl
theorem q416 : (Jvm.Cond.instantiable "java/util/NoSuchElementException" (6 : Nat)) ∈ lw_all := lw_g (lw_at lw_m2 64 rfl) rfl
theorem q417 : (Jvm.Cond.castable "java/util/NoSuchElementException" "java/util/NoSuchElementException") ∈ lw_tbl := lw_at lw_m2 65 rfl
theorem q424 : (Jvm.Cond.selects "java/util/NoSuchElementException" ({ cls := "java/lang/Throwable", name := "fillInStackTrace", desc := "(I)Ljava/lang/Throwable;" } : Jvm.MethodName) ({ cls := "java/lang/Throwable", name := "fillInStackTrace", desc := "(I)Ljava/lang/Throwable;" } : Jvm.MethodName)) ∈ lw_all := lw_g (lw_at lw_m2 72 rfl) rfl
theorem q425 : (Jvm.Cond.selects "java/util/NoSuchElementException" ({ cls := "java/lang/Throwable", name := "fillInStackTrace", desc := "()Ljava/lang/Throwable;" } : Jvm.MethodName) ({ cls := "java/lang/Throwable", name := "fillInStackTrace", desc := "()Ljava/lang/Throwable;" } : Jvm.MethodName)) ∈ lw_all := lw_g (lw_at lw_m2 73 rfl) rfl
theorem q426 : (Jvm.Cond.lays "java/util/NoSuchElementException" "java/lang/Throwable" "cause" "Ljava/lang/Throwable;") ∈ lw_all := lw_g (lw_at lw_m2 74 rfl) rfl
theorem q428 : (Jvm.Cond.lays "java/util/NoSuchElementException" "java/lang/Throwable" "stackTrace" "[Ljava/lang/StackTraceElement;") ∈ lw_all := lw_g (lw_at lw_m2 76 rfl) rfl
theorem q430 : (Jvm.Cond.lays "java/util/NoSuchElementException" "java/lang/Throwable" "suppressedExceptions" "Ljava/util/List;") ∈ lw_all := lw_g (lw_at lw_m2 78 rfl) rfl
theorem q432 : (Jvm.Cond.lays "java/util/NoSuchElementException" "java/lang/Throwable" "detailMessage" "Ljava/lang/String;") ∈ lw_all := lw_g (lw_at lw_m2 80 rfl) rfl
theorem q434 : (Jvm.Cond.lays "java/util/NoSuchElementException" "java/lang/Throwable" "backtrace" "Ljava/lang/Object;") ∈ lw_all := lw_g (lw_at lw_m2 82 rfl) rfl
theorem q463 : (Jvm.Cond.instanceMethod ({ cls := "java/util/NoSuchElementException", name := "<init>", desc := "()V" } : Jvm.MethodName)) ∈ lw_all := lw_g (lw_at lw_m2 111 rfl) rfl
theorem q464 : (Jvm.Cond.code ({ cls := "java/util/NoSuchElementException", name := "<init>", desc := "()V" } : Jvm.MethodName) prog_64_method_1_code (1 : Nat) (Option.none : Option Jvm.ClassFile.FieldType)) ∈ lw_all := lw_g (lw_at lw_m2 112 rfl) rfl
theorem q465 : (Jvm.Cond.methodLink "java/util/NoSuchElementException" (1 : Nat) ({ cls := "java/lang/RuntimeException", name := "<init>", desc := "()V" } : Jvm.MethodName)) ∈ lw_all := lw_g (lw_at lw_m2 113 rfl) rfl
theorem q481 : (Jvm.Cond.lays "java/util/NoSuchElementException" "java/lang/Throwable" "depth" "I") ∈ lw_all := lw_g (lw_at lw_m2 129 rfl) rfl
theorem q484 : (Jvm.Cond.superclass "java/util/NoSuchElementException" "java/lang/RuntimeException") ∈ lw_all := lw_g (lw_at lw_m2 132 rfl) rfl
theorem q1061 : (Jvm.Cond.selects "java/util/NoSuchElementException" ({ cls := "java/lang/Object", name := "getClass", desc := "()Ljava/lang/Class;" } : Jvm.MethodName) ({ cls := "java/lang/Object", name := "getClass", desc := "()Ljava/lang/Class;" } : Jvm.MethodName)) ∈ lw_all := lw_g (lw_at lw_m4 229 rfl) rfl
theorem q3370 : (Jvm.Cond.castable "java/util/NoSuchElementException" "java/lang/Object") ∈ lw_tbl := lw_at lw_m14 138 rfl
theorem q155 : (Jvm.Cond.initialized "java/lang/IllegalStateException") ∈ lw_all := lw_g (lw_at lw_m1 43 rfl) rfl
theorem q454 : (Jvm.Cond.selects "java/lang/IllegalStateException" ({ cls := "java/lang/Throwable", name := "fillInStackTrace", desc := "()Ljava/lang/Throwable;" } : Jvm.MethodName) ({ cls := "java/lang/Throwable", name := "fillInStackTrace", desc := "()Ljava/lang/Throwable;" } : Jvm.MethodName)) ∈ lw_all := lw_g (lw_at lw_m2 102 rfl) rfl
theorem q1051 : (Jvm.Cond.selects "java/lang/IllegalStateException" ({ cls := "java/lang/Object", name := "getClass", desc := "()Ljava/lang/Class;" } : Jvm.MethodName) ({ cls := "java/lang/Object", name := "getClass", desc := "()Ljava/lang/Class;" } : Jvm.MethodName)) ∈ lw_all := lw_g (lw_at lw_m4 219 rfl) rfl
theorem q1980 : (Jvm.Cond.selects "java/lang/IllegalStateException" ({ cls := "java/lang/Object", name := "equals", desc := "(Ljava/lang/Object;)Z" } : Jvm.MethodName) ({ cls := "java/lang/Object", name := "equals", desc := "(Ljava/lang/Object;)Z" } : Jvm.MethodName)) ∈ lw_all := lw_g (lw_at lw_m8 188 rfl) rfl
theorem q2198 : (Jvm.Cond.instantiable "java/lang/IllegalStateException" (6 : Nat)) ∈ lw_all := lw_g (lw_at lw_m9 166 rfl) rfl
theorem q2199 : (Jvm.Cond.castable "java/lang/IllegalStateException" "java/lang/IllegalStateException") ∈ lw_tbl := lw_at lw_m9 167 rfl
theorem q2200 : (Jvm.Cond.selects "java/lang/IllegalStateException" ({ cls := "java/lang/Throwable", name := "fillInStackTrace", desc := "(I)Ljava/lang/Throwable;" } : Jvm.MethodName) ({ cls := "java/lang/Throwable", name := "fillInStackTrace", desc := "(I)Ljava/lang/Throwable;" } : Jvm.MethodName)) ∈ lw_all := lw_g (lw_at lw_m9 168 rfl) rfl
theorem q2201 : (Jvm.Cond.lays "java/lang/IllegalStateException" "java/lang/Throwable" "cause" "Ljava/lang/Throwable;") ∈ lw_all := lw_g (lw_at lw_m9 169 rfl) rfl
theorem q2202 : (Jvm.Cond.lays "java/lang/IllegalStateException" "java/lang/Throwable" "stackTrace" "[Ljava/lang/StackTraceElement;") ∈ lw_all := lw_g (lw_at lw_m9 170 rfl) rfl
theorem q2203 : (Jvm.Cond.lays "java/lang/IllegalStateException" "java/lang/Throwable" "suppressedExceptions" "Ljava/util/List;") ∈ lw_all := lw_g (lw_at lw_m9 171 rfl) rfl
theorem q2204 : (Jvm.Cond.lays "java/lang/IllegalStateException" "java/lang/Throwable" "detailMessage" "Ljava/lang/String;") ∈ lw_all := lw_g (lw_at lw_m9 172 rfl) rfl
theorem q2205 : (Jvm.Cond.lays "java/lang/IllegalStateException" "java/lang/Throwable" "backtrace" "Ljava/lang/Object;") ∈ lw_all := lw_g (lw_at lw_m9 173 rfl) rfl
theorem q2207 : (Jvm.Cond.instanceMethod ({ cls := "java/lang/IllegalStateException", name := "<init>", desc := "()V" } : Jvm.MethodName)) ∈ lw_all := lw_g (lw_at lw_m9 175 rfl) rfl
theorem q2208 : (Jvm.Cond.code ({ cls := "java/lang/IllegalStateException", name := "<init>", desc := "()V" } : Jvm.MethodName) prog_36_method_1_code (1 : Nat) (Option.none : Option Jvm.ClassFile.FieldType)) ∈ lw_all := lw_g (lw_at lw_m9 176 rfl) rfl
theorem q2209 : (Jvm.Cond.methodLink "java/lang/IllegalStateException" (1 : Nat) ({ cls := "java/lang/RuntimeException", name := "<init>", desc := "()V" } : Jvm.MethodName)) ∈ lw_all := lw_g (lw_at lw_m9 177 rfl) rfl
theorem q2210 : (Jvm.Cond.lays "java/lang/IllegalStateException" "java/lang/Throwable" "depth" "I") ∈ lw_all := lw_g (lw_at lw_m9 178 rfl) rfl
theorem q2211 : (Jvm.Cond.superclass "java/lang/IllegalStateException" "java/lang/RuntimeException") ∈ lw_all := lw_g (lw_at lw_m9 179 rfl) rfl
theorem q3377 : (Jvm.Cond.castable "java/lang/IllegalStateException" "java/lang/Object") ∈ lw_tbl := lw_at lw_m14 145 rfl
theorem q156 : (Jvm.Cond.initialized "java/util/ConcurrentModificationException") ∈ lw_all := lw_g (lw_at lw_m1 44 rfl) rfl
theorem q455 : (Jvm.Cond.selects "java/util/ConcurrentModificationException" ({ cls := "java/lang/Throwable", name := "fillInStackTrace", desc := "()Ljava/lang/Throwable;" } : Jvm.MethodName) ({ cls := "java/lang/Throwable", name := "fillInStackTrace", desc := "()Ljava/lang/Throwable;" } : Jvm.MethodName)) ∈ lw_all := lw_g (lw_at lw_m2 103 rfl) rfl
theorem q1060 : (Jvm.Cond.selects "java/util/ConcurrentModificationException" ({ cls := "java/lang/Object", name := "getClass", desc := "()Ljava/lang/Class;" } : Jvm.MethodName) ({ cls := "java/lang/Object", name := "getClass", desc := "()Ljava/lang/Class;" } : Jvm.MethodName)) ∈ lw_all := lw_g (lw_at lw_m4 228 rfl) rfl
theorem q2217 : (Jvm.Cond.instantiable "java/util/ConcurrentModificationException" (6 : Nat)) ∈ lw_all := lw_g (lw_at lw_m9 185 rfl) rfl
theorem q2219 : (Jvm.Cond.instanceMethod ({ cls := "java/util/ConcurrentModificationException", name := "<init>", desc := "()V" } : Jvm.MethodName)) ∈ lw_all := lw_g (lw_at lw_m9 187 rfl) rfl
theorem q2220 : (Jvm.Cond.code ({ cls := "java/util/ConcurrentModificationException", name := "<init>", desc := "()V" } : Jvm.MethodName) prog_60_method_1_code (1 : Nat) (Option.none : Option Jvm.ClassFile.FieldType)) ∈ lw_all := lw_g (lw_at lw_m9 188 rfl) rfl
theorem q2221 : (Jvm.Cond.methodLink "java/util/ConcurrentModificationException" (1 : Nat) ({ cls := "java/lang/RuntimeException", name := "<init>", desc := "()V" } : Jvm.MethodName)) ∈ lw_all := lw_g (lw_at lw_m9 189 rfl) rfl
theorem q2222 : (Jvm.Cond.lays "java/util/ConcurrentModificationException" "java/lang/Throwable" "backtrace" "Ljava/lang/Object;") ∈ lw_all := lw_g (lw_at lw_m9 190 rfl) rfl
theorem q2223 : (Jvm.Cond.lays "java/util/ConcurrentModificationException" "java/lang/Throwable" "detailMessage" "Ljava/lang/String;") ∈ lw_all := lw_g (lw_at lw_m9 191 rfl) rfl
theorem q2224 : (Jvm.Cond.lays "java/util/ConcurrentModificationException" "java/lang/Throwable" "cause" "Ljava/lang/Throwable;") ∈ lw_all := lw_g (lw_at lw_m9 192 rfl) rfl
theorem q2225 : (Jvm.Cond.lays "java/util/ConcurrentModificationException" "java/lang/Throwable" "stackTrace" "[Ljava/lang/StackTraceElement;") ∈ lw_all := lw_g (lw_at lw_m9 193 rfl) rfl
theorem q2226 : (Jvm.Cond.lays "java/util/ConcurrentModificationException" "java/lang/Throwable" "depth" "I") ∈ lw_all := lw_g (lw_at lw_m9 194 rfl) rfl
theorem q2227 : (Jvm.Cond.lays "java/util/ConcurrentModificationException" "java/lang/Throwable" "suppressedExceptions" "Ljava/util/List;") ∈ lw_all := lw_g (lw_at lw_m9 195 rfl) rfl
theorem q2228 : (Jvm.Cond.superclass "java/util/ConcurrentModificationException" "java/lang/RuntimeException") ∈ lw_all := lw_g (lw_at lw_m9 196 rfl) rfl
theorem q3378 : (Jvm.Cond.castable "java/util/ConcurrentModificationException" "java/lang/Object") ∈ lw_tbl := lw_at lw_m14 146 rfl
theorem q158 : (Jvm.Cond.initialized "java/lang/ArithmeticException") ∈ lw_all := lw_g (lw_at lw_m1 46 rfl) rfl
theorem q452 : (Jvm.Cond.selects "java/lang/ArithmeticException" ({ cls := "java/lang/Throwable", name := "fillInStackTrace", desc := "()Ljava/lang/Throwable;" } : Jvm.MethodName) ({ cls := "java/lang/Throwable", name := "fillInStackTrace", desc := "()Ljava/lang/Throwable;" } : Jvm.MethodName)) ∈ lw_all := lw_g (lw_at lw_m2 100 rfl) rfl
theorem q1049 : (Jvm.Cond.selects "java/lang/ArithmeticException" ({ cls := "java/lang/Object", name := "getClass", desc := "()Ljava/lang/Class;" } : Jvm.MethodName) ({ cls := "java/lang/Object", name := "getClass", desc := "()Ljava/lang/Class;" } : Jvm.MethodName)) ∈ lw_all := lw_g (lw_at lw_m4 217 rfl) rfl
theorem q1978 : (Jvm.Cond.selects "java/lang/ArithmeticException" ({ cls := "java/lang/Object", name := "equals", desc := "(Ljava/lang/Object;)Z" } : Jvm.MethodName) ({ cls := "java/lang/Object", name := "equals", desc := "(Ljava/lang/Object;)Z" } : Jvm.MethodName)) ∈ lw_all := lw_g (lw_at lw_m8 186 rfl) rfl
theorem q2320 : (Jvm.Cond.instantiable "java/lang/ArithmeticException" (6 : Nat)) ∈ lw_all := lw_g (lw_at lw_m10 48 rfl) rfl
theorem q2321 : (Jvm.Cond.instanceMethod ({ cls := "java/lang/ArithmeticException", name := "<init>", desc := "(Ljava/lang/String;)V" } : Jvm.MethodName)) ∈ lw_all := lw_g (lw_at lw_m10 49 rfl) rfl
theorem q2322 : (Jvm.Cond.code ({ cls := "java/lang/ArithmeticException", name := "<init>", desc := "(Ljava/lang/String;)V" } : Jvm.MethodName) prog_29_method_2_code (2 : Nat) (Option.none : Option Jvm.ClassFile.FieldType)) ∈ lw_all := lw_g (lw_at lw_m10 50 rfl) rfl
theorem q2323 : (Jvm.Cond.methodLink "java/lang/ArithmeticException" (7 : Nat) ({ cls := "java/lang/RuntimeException", name := "<init>", desc := "(Ljava/lang/String;)V" } : Jvm.MethodName)) ∈ lw_all := lw_g (lw_at lw_m10 51 rfl) rfl
theorem q2324 : (Jvm.Cond.lays "java/lang/ArithmeticException" "java/lang/Throwable" "backtrace" "Ljava/lang/Object;") ∈ lw_all := lw_g (lw_at lw_m10 52 rfl) rfl
theorem q2325 : (Jvm.Cond.lays "java/lang/ArithmeticException" "java/lang/Throwable" "detailMessage" "Ljava/lang/String;") ∈ lw_all := lw_g (lw_at lw_m10 53 rfl) rfl
theorem q2326 : (Jvm.Cond.lays "java/lang/ArithmeticException" "java/lang/Throwable" "cause" "Ljava/lang/Throwable;") ∈ lw_all := lw_g (lw_at lw_m10 54 rfl) rfl
theorem q2327 : (Jvm.Cond.lays "java/lang/ArithmeticException" "java/lang/Throwable" "stackTrace" "[Ljava/lang/StackTraceElement;") ∈ lw_all := lw_g (lw_at lw_m10 55 rfl) rfl
theorem q2328 : (Jvm.Cond.lays "java/lang/ArithmeticException" "java/lang/Throwable" "depth" "I") ∈ lw_all := lw_g (lw_at lw_m10 56 rfl) rfl
theorem q2329 : (Jvm.Cond.lays "java/lang/ArithmeticException" "java/lang/Throwable" "suppressedExceptions" "Ljava/util/List;") ∈ lw_all := lw_g (lw_at lw_m10 57 rfl) rfl
theorem q2330 : (Jvm.Cond.superclass "java/lang/ArithmeticException" "java/lang/RuntimeException") ∈ lw_all := lw_g (lw_at lw_m10 58 rfl) rfl
theorem q2331 : (Jvm.Cond.castable "java/lang/ArithmeticException" "java/lang/ArithmeticException") ∈ lw_tbl := lw_at lw_m10 59 rfl
theorem q2332 : (Jvm.Cond.selects "java/lang/ArithmeticException" ({ cls := "java/lang/Throwable", name := "fillInStackTrace", desc := "(I)Ljava/lang/Throwable;" } : Jvm.MethodName) ({ cls := "java/lang/Throwable", name := "fillInStackTrace", desc := "(I)Ljava/lang/Throwable;" } : Jvm.MethodName)) ∈ lw_all := lw_g (lw_at lw_m10 60 rfl) rfl
theorem q3380 : (Jvm.Cond.castable "java/lang/ArithmeticException" "java/lang/Object") ∈ lw_tbl := lw_at lw_m14 148 rfl
theorem q161 : (Jvm.Cond.initialized "java/util/ArrayDeque$DeqIterator") ∈ lw_all := lw_g (lw_at lw_m1 49 rfl) rfl
theorem q287 : (Jvm.Cond.fieldLink "java/util/ArrayDeque$DeqIterator" (35 : Nat) "java/util/ArrayDeque" "elements" "[Ljava/lang/Object;") ∈ lw_all := lw_g (lw_at lw_m1 175 rfl) rfl
theorem q288 : (Jvm.Cond.fieldLink "java/util/ArrayDeque$DeqIterator" (26 : Nat) "java/util/ArrayDeque" "head" "I") ∈ lw_all := lw_g (lw_at lw_m1 176 rfl) rfl
theorem q386 : (Jvm.Cond.castable "java/util/ArrayDeque$DeqIterator" "java/util/Iterator") ∈ lw_tbl := lw_at lw_m2 34 rfl
theorem q387 : (Jvm.Cond.selects "java/util/ArrayDeque$DeqIterator" ({ cls := "java/util/Iterator", name := "hasNext", desc := "()Z" } : Jvm.MethodName) ({ cls := "java/util/ArrayDeque$DeqIterator", name := "hasNext", desc := "()Z" } : Jvm.MethodName)) ∈ lw_all := lw_g (lw_at lw_m2 35 rfl) rfl
theorem q388 : (Jvm.Cond.unhidden "java/util/ArrayDeque$DeqIterator" "hasNext" "()Z") ∈ lw_tbl := lw_at lw_m2 36 rfl
theorem q389 : (Jvm.Cond.instanceMethod ({ cls := "java/util/ArrayDeque$DeqIterator", name := "hasNext", desc := "()Z" } : Jvm.MethodName)) ∈ lw_all := lw_g (lw_at lw_m2 37 rfl) rfl
theorem q390 : (Jvm.Cond.publicMethod ({ cls := "java/util/ArrayDeque$DeqIterator", name := "hasNext", desc := "()Z" } : Jvm.MethodName)) ∈ lw_tbl := lw_at lw_m2 38 rfl
theorem q391 : (Jvm.Cond.code ({ cls := "java/util/ArrayDeque$DeqIterator", name := "hasNext", desc := "()Z" } : Jvm.MethodName) prog_55_method_2_code (1 : Nat) (Option.some Jvm.ClassFile.FieldType.boolean)) ∈ lw_all := lw_g (lw_at lw_m2 39 rfl) rfl
theorem q776 : (Jvm.Cond.selects "java/util/ArrayDeque$DeqIterator" ({ cls := "java/util/Iterator", name := "next", desc := "()Ljava/lang/Object;" } : Jvm.MethodName) ({ cls := "java/util/ArrayDeque$DeqIterator", name := "next", desc := "()Ljava/lang/Object;" } : Jvm.MethodName)) ∈ lw_all := lw_g (lw_at lw_m3 184 rfl) rfl
theorem q777 : (Jvm.Cond.unhidden "java/util/ArrayDeque$DeqIterator" "next" "()Ljava/lang/Object;") ∈ lw_tbl := lw_at lw_m3 185 rfl
theorem q778 : (Jvm.Cond.instanceMethod ({ cls := "java/util/ArrayDeque$DeqIterator", name := "next", desc := "()Ljava/lang/Object;" } : Jvm.MethodName)) ∈ lw_all := lw_g (lw_at lw_m3 186 rfl) rfl
theorem q779 : (Jvm.Cond.publicMethod ({ cls := "java/util/ArrayDeque$DeqIterator", name := "next", desc := "()Ljava/lang/Object;" } : Jvm.MethodName)) ∈ lw_tbl := lw_at lw_m3 187 rfl
theorem q780 : (Jvm.Cond.code ({ cls := "java/util/ArrayDeque$DeqIterator", name := "next", desc := "()Ljava/lang/Object;" } : Jvm.MethodName) prog_55_method_3_code (3 : Nat) (Option.some (Jvm.ClassFile.FieldType.object "java/lang/Object"))) ∈ lw_all := lw_g (lw_at lw_m3 188 rfl) rfl
theorem q781 : (Jvm.Cond.classLink "java/util/ArrayDeque$DeqIterator" (32 : Nat) "java/util/NoSuchElementException") ∈ lw_all := lw_g (lw_at lw_m3 189 rfl) rfl
theorem q782 : (Jvm.Cond.methodLink "java/util/ArrayDeque$DeqIterator" (34 : Nat) ({ cls := "java/util/NoSuchElementException", name := "<init>", desc := "()V" } : Jvm.MethodName)) ∈ lw_all := lw_g (lw_at lw_m3 190 rfl) rfl
theorem q783 : (Jvm.Cond.methodLink "java/util/ArrayDeque$DeqIterator" (39 : Nat) ({ cls := "java/util/ArrayDeque", name := "nonNullElementAt", desc := "([Ljava/lang/Object;I)Ljava/lang/Object;" } : Jvm.MethodName)) ∈ lw_all := lw_g (lw_at lw_m3 191 rfl) rfl
theorem q786 : (Jvm.Cond.methodLink "java/util/ArrayDeque$DeqIterator" (43 : Nat) ({ cls := "java/util/ArrayDeque", name := "inc", desc := "(II)I" } : Jvm.MethodName)) ∈ lw_all := lw_g (lw_at lw_m3 194 rfl) rfl
theorem q1057 : (Jvm.Cond.selects "java/util/ArrayDeque$DeqIterator" ({ cls := "java/lang/Object", name := "getClass", desc := "()Ljava/lang/Class;" } : Jvm.MethodName) ({ cls := "java/lang/Object", name := "getClass", desc := "()Ljava/lang/Class;" } : Jvm.MethodName)) ∈ lw_all := lw_g (lw_at lw_m4 225 rfl) rfl
theorem q2178 : (Jvm.Cond.selects "java/util/ArrayDeque$DeqIterator" ({ cls := "java/util/Iterator", name := "remove", desc := "()V" } : Jvm.MethodName) ({ cls := "java/util/ArrayDeque$DeqIterator", name := "remove", desc := "()V" } : Jvm.MethodName)) ∈ lw_all := lw_g (lw_at lw_m9 146 rfl) rfl
theorem q2179 : (Jvm.Cond.unhidden "java/util/ArrayDeque$DeqIterator" "remove" "()V") ∈ lw_tbl := lw_at lw_m9 147 rfl
theorem q2180 : (Jvm.Cond.instanceMethod ({ cls := "java/util/ArrayDeque$DeqIterator", name := "remove", desc := "()V" } : Jvm.MethodName)) ∈ lw_all := lw_g (lw_at lw_m9 148 rfl) rfl
theorem q2181 : (Jvm.Cond.publicMethod ({ cls := "java/util/ArrayDeque$DeqIterator", name := "remove", desc := "()V" } : Jvm.MethodName)) ∈ lw_tbl := lw_at lw_m9 149 rfl
theorem q2182 : (Jvm.Cond.code ({ cls := "java/util/ArrayDeque$DeqIterator", name := "remove", desc := "()V" } : Jvm.MethodName) prog_55_method_5_code (1 : Nat) (Option.none : Option Jvm.ClassFile.FieldType)) ∈ lw_all := lw_g (lw_at lw_m9 150 rfl) rfl
theorem q2183 : (Jvm.Cond.methodLink "java/util/ArrayDeque$DeqIterator" (53 : Nat) ({ cls := "java/util/ArrayDeque", name := "delete", desc := "(I)Z" } : Jvm.MethodName)) ∈ lw_all := lw_g (lw_at lw_m9 151 rfl) rfl
theorem q2187 : (Jvm.Cond.methodLink "java/util/ArrayDeque$DeqIterator" (57 : Nat) ({ cls := "java/util/ArrayDeque$DeqIterator", name := "postDelete", desc := "(Z)V" } : Jvm.MethodName)) ∈ lw_all := lw_g (lw_at lw_m9 155 rfl) rfl
theorem q2188 : (Jvm.Cond.instanceMethod ({ cls := "java/util/ArrayDeque$DeqIterator", name := "postDelete", desc := "(Z)V" } : Jvm.MethodName)) ∈ lw_all := lw_g (lw_at lw_m9 156 rfl) rfl
theorem q2189 : (Jvm.Cond.selects "java/util/ArrayDeque$DeqIterator" ({ cls := "java/util/ArrayDeque$DeqIterator", name := "postDelete", desc := "(Z)V" } : Jvm.MethodName) ({ cls := "java/util/ArrayDeque$DeqIterator", name := "postDelete", desc := "(Z)V" } : Jvm.MethodName)) ∈ lw_all := lw_g (lw_at lw_m9 157 rfl) rfl
theorem q2190 : (Jvm.Cond.code ({ cls := "java/util/ArrayDeque$DeqIterator", name := "postDelete", desc := "(Z)V" } : Jvm.MethodName) prog_55_method_4_code (2 : Nat) (Option.none : Option Jvm.ClassFile.FieldType)) ∈ lw_all := lw_g (lw_at lw_m9 158 rfl) rfl
theorem q2191 : (Jvm.Cond.methodLink "java/util/ArrayDeque$DeqIterator" (47 : Nat) ({ cls := "java/util/ArrayDeque", name := "dec", desc := "(II)I" } : Jvm.MethodName)) ∈ lw_all := lw_g (lw_at lw_m9 159 rfl) rfl
theorem q2438 : (Jvm.Cond.instantiable "java/util/ArrayDeque$DeqIterator" (4 : Nat)) ∈ lw_all := lw_g (lw_at lw_m10 166 rfl) rfl
theorem q2440 : (Jvm.Cond.instanceMethod ({ cls := "java/util/ArrayDeque$DeqIterator", name := "<init>", desc := "(Ljava/util/ArrayDeque;)V" } : Jvm.MethodName)) ∈ lw_all := lw_g (lw_at lw_m10 168 rfl) rfl
theorem q2441 : (Jvm.Cond.code ({ cls := "java/util/ArrayDeque$DeqIterator", name := "<init>", desc := "(Ljava/util/ArrayDeque;)V" } : Jvm.MethodName) prog_55_method_1_code (2 : Nat) (Option.none : Option Jvm.ClassFile.FieldType)) ∈ lw_all := lw_g (lw_at lw_m10 169 rfl) rfl
theorem q2442 : (Jvm.Cond.methodLink "java/util/ArrayDeque$DeqIterator" (7 : Nat) ({ cls := "java/lang/Object", name := "<init>", desc := "()V" } : Jvm.MethodName)) ∈ lw_all := lw_g (lw_at lw_m10 170 rfl) rfl
theorem q2443 : (Jvm.Cond.methodLink "java/util/ArrayDeque$DeqIterator" (13 : Nat) ({ cls := "java/util/ArrayDeque", name := "size", desc := "()I" } : Jvm.MethodName)) ∈ lw_all := lw_g (lw_at lw_m10 171 rfl) rfl
theorem q2444 : (Jvm.Cond.fieldLink "java/util/ArrayDeque$DeqIterator" (29 : Nat) "java/util/ArrayDeque$DeqIterator" "cursor" "I") ∈ lw_all := lw_g (lw_at lw_m10 172 rfl) rfl
theorem q2445 : (Jvm.Cond.fieldLink "java/util/ArrayDeque$DeqIterator" (19 : Nat) "java/util/ArrayDeque$DeqIterator" "remaining" "I") ∈ lw_all := lw_g (lw_at lw_m10 173 rfl) rfl
theorem q2446 : (Jvm.Cond.fieldLink "java/util/ArrayDeque$DeqIterator" (23 : Nat) "java/util/ArrayDeque$DeqIterator" "lastRet" "I") ∈ lw_all := lw_g (lw_at lw_m10 174 rfl) rfl
theorem q2447 : (Jvm.Cond.fieldLink "java/util/ArrayDeque$DeqIterator" (1 : Nat) "java/util/ArrayDeque$DeqIterator" "this$0" "Ljava/util/ArrayDeque;") ∈ lw_all := lw_g (lw_at lw_m10 175 rfl) rfl
theorem q2448 : (Jvm.Cond.lays "java/util/ArrayDeque$DeqIterator" "java/util/ArrayDeque$DeqIterator" "cursor" "I") ∈ lw_all := lw_g (lw_at lw_m10 176 rfl) rfl
theorem q2449 : (Jvm.Cond.soleField "java/util/ArrayDeque$DeqIterator" "cursor") ∈ lw_all := lw_g (lw_at lw_m10 177 rfl) rfl
theorem q2450 : (Jvm.Cond.lays "java/util/ArrayDeque$DeqIterator" "java/util/ArrayDeque$DeqIterator" "remaining" "I") ∈ lw_all := lw_g (lw_at lw_m10 178 rfl) rfl
theorem q2451 : (Jvm.Cond.soleField "java/util/ArrayDeque$DeqIterator" "remaining") ∈ lw_all := lw_g (lw_at lw_m10 179 rfl) rfl
theorem q2452 : (Jvm.Cond.lays "java/util/ArrayDeque$DeqIterator" "java/util/ArrayDeque$DeqIterator" "lastRet" "I") ∈ lw_all := lw_g (lw_at lw_m10 180 rfl) rfl
theorem q2453 : (Jvm.Cond.soleField "java/util/ArrayDeque$DeqIterator" "lastRet") ∈ lw_all := lw_g (lw_at lw_m10 181 rfl) rfl
theorem q2454 : (Jvm.Cond.laysFinal "java/util/ArrayDeque$DeqIterator" "java/util/ArrayDeque$DeqIterator" "this$0" "Ljava/util/ArrayDeque;") ∈ lw_all := lw_g (lw_at lw_m10 182 rfl) rfl
theorem q2455 : (Jvm.Cond.soleField "java/util/ArrayDeque$DeqIterator" "this$0") ∈ lw_all := lw_g (lw_at lw_m10 183 rfl) rfl
theorem q2456 : (Jvm.Cond.superclass "java/util/ArrayDeque$DeqIterator" "java/lang/Object") ∈ lw_all := lw_g (lw_at lw_m10 184 rfl) rfl
theorem q3383 : (Jvm.Cond.castable "java/util/ArrayDeque$DeqIterator" "java/lang/Object") ∈ lw_tbl := lw_at lw_m14 151 rfl
theorem q170 : (Jvm.Cond.instanceMethod ({ cls := "java/lang/Object", name := "<init>", desc := "()V" } : Jvm.MethodName)) ∈ lw_all := lw_g (lw_at lw_m1 58 rfl) rfl
theorem q171 : (Jvm.Cond.code ({ cls := "java/lang/Object", name := "<init>", desc := "()V" } : Jvm.MethodName) object_method_1_code (1 : Nat) (Option.none : Option Jvm.ClassFile.FieldType)) ∈ lw_all := lw_g (lw_at lw_m1 59 rfl) rfl
theorem q574 : (Jvm.Cond.native ({ cls := "java/lang/Object", name := "clone", desc := "()Ljava/lang/Object;" } : Jvm.MethodName)) ∈ lw_all := lw_g (lw_at lw_m2 222 rfl) rfl
theorem q575 : (Jvm.Cond.instanceMethod ({ cls := "java/lang/Object", name := "clone", desc := "()Ljava/lang/Object;" } : Jvm.MethodName)) ∈ lw_all := lw_g (lw_at lw_m2 223 rfl) rfl
theorem q1026 : (Jvm.Cond.instanceMethod ({ cls := "java/lang/Object", name := "getClass", desc := "()Ljava/lang/Class;" } : Jvm.MethodName)) ∈ lw_all := lw_g (lw_at lw_m4 194 rfl) rfl
theorem q1027 : (Jvm.Cond.sameMethod "java/lang/Object" "java/lang/Object" "getClass" "()Ljava/lang/Class;") ∈ lw_all := lw_g (lw_at lw_m4 195 rfl) rfl
theorem q1062 : (Jvm.Cond.native ({ cls := "java/lang/Object", name := "getClass", desc := "()Ljava/lang/Class;" } : Jvm.MethodName)) ∈ lw_all := lw_g (lw_at lw_m4 230 rfl) rfl
theorem q1910 : (Jvm.Cond.declares ({ cls := "java/lang/Object", name := "getClass", desc := "()Ljava/lang/Class;" } : Jvm.MethodName)) ∈ lw_tbl := lw_at lw_m8 118 rfl
theorem q1912 : (Jvm.Cond.publicMethod ({ cls := "java/lang/Object", name := "getClass", desc := "()Ljava/lang/Class;" } : Jvm.MethodName)) ∈ lw_tbl := lw_at lw_m8 120 rfl
theorem q1953 : (Jvm.Cond.declares ({ cls := "java/lang/Object", name := "equals", desc := "(Ljava/lang/Object;)Z" } : Jvm.MethodName)) ∈ lw_tbl := lw_at lw_m8 161 rfl
theorem q1955 : (Jvm.Cond.instanceMethod ({ cls := "java/lang/Object", name := "equals", desc := "(Ljava/lang/Object;)Z" } : Jvm.MethodName)) ∈ lw_all := lw_g (lw_at lw_m8 163 rfl) rfl
theorem q1956 : (Jvm.Cond.sameMethod "java/lang/Object" "java/lang/Object" "equals" "(Ljava/lang/Object;)Z") ∈ lw_all := lw_g (lw_at lw_m8 164 rfl) rfl
theorem q1988 : (Jvm.Cond.code ({ cls := "java/lang/Object", name := "equals", desc := "(Ljava/lang/Object;)Z" } : Jvm.MethodName) object_method_4_code (2 : Nat) (Option.some Jvm.ClassFile.FieldType.boolean)) ∈ lw_all := lw_g (lw_at lw_m8 196 rfl) rfl
theorem q3398 : (Jvm.Cond.instantiable "java/lang/Object" (0 : Nat)) ∈ lw_all := lw_g (lw_at lw_m14 166 rfl) rfl
theorem q369 : (Jvm.Cond.interfaceMethod "java/util/Iterator" "java/util/Iterator" "hasNext" "()Z") ∈ lw_tbl := lw_at lw_m2 17 rfl
theorem q370 : (Jvm.Cond.declares ({ cls := "java/util/Iterator", name := "hasNext", desc := "()Z" } : Jvm.MethodName)) ∈ lw_tbl := lw_at lw_m2 18 rfl
theorem q400 : (Jvm.Cond.interfaceMethod "java/util/Iterator" "java/util/Iterator" "next" "()Ljava/lang/Object;") ∈ lw_tbl := lw_at lw_m2 48 rfl
theorem q401 : (Jvm.Cond.declares ({ cls := "java/util/Iterator", name := "next", desc := "()Ljava/lang/Object;" } : Jvm.MethodName)) ∈ lw_tbl := lw_at lw_m2 49 rfl
theorem q2172 : (Jvm.Cond.interfaceMethod "java/util/Iterator" "java/util/Iterator" "remove" "()V") ∈ lw_tbl := lw_at lw_m9 140 rfl
theorem q2173 : (Jvm.Cond.declares ({ cls := "java/util/Iterator", name := "remove", desc := "()V" } : Jvm.MethodName)) ∈ lw_tbl := lw_at lw_m9 141 rfl
theorem q2175 : (Jvm.Cond.instanceMethod ({ cls := "java/util/Iterator", name := "remove", desc := "()V" } : Jvm.MethodName)) ∈ lw_all := lw_g (lw_at lw_m9 143 rfl) rfl
theorem q2176 : (Jvm.Cond.publicMethod ({ cls := "java/util/Iterator", name := "remove", desc := "()V" } : Jvm.MethodName)) ∈ lw_tbl := lw_at lw_m9 144 rfl
theorem q2177 : (Jvm.Cond.code ({ cls := "java/util/Iterator", name := "remove", desc := "()V" } : Jvm.MethodName) prog_62_method_3_code (1 : Nat) (Option.none : Option Jvm.ClassFile.FieldType)) ∈ lw_all := lw_g (lw_at lw_m9 145 rfl) rfl
theorem q1055 : (Jvm.Cond.selects "java/lang/System$2" ({ cls := "java/lang/Object", name := "getClass", desc := "()Ljava/lang/Class;" } : Jvm.MethodName) ({ cls := "java/lang/Object", name := "getClass", desc := "()Ljava/lang/Class;" } : Jvm.MethodName)) ∈ lw_all := lw_g (lw_at lw_m4 223 rfl) rfl
theorem q1987 : (Jvm.Cond.selects "java/lang/System$2" ({ cls := "java/lang/Object", name := "equals", desc := "(Ljava/lang/Object;)Z" } : Jvm.MethodName) ({ cls := "java/lang/Object", name := "equals", desc := "(Ljava/lang/Object;)Z" } : Jvm.MethodName)) ∈ lw_all := lw_g (lw_at lw_m8 195 rfl) rfl
theorem q2575 : (Jvm.Cond.castable "java/lang/System$2" "jdk/internal/access/JavaLangAccess") ∈ lw_tbl := lw_at lw_m11 63 rfl
theorem q2576 : (Jvm.Cond.selects "java/lang/System$2" ({ cls := "jdk/internal/access/JavaLangAccess", name := "getUTF16Char", desc := "([BI)C" } : Jvm.MethodName) ({ cls := "java/lang/System$2", name := "getUTF16Char", desc := "([BI)C" } : Jvm.MethodName)) ∈ lw_all := lw_g (lw_at lw_m11 64 rfl) rfl
theorem q2577 : (Jvm.Cond.unhidden "java/lang/System$2" "getUTF16Char" "([BI)C") ∈ lw_tbl := lw_at lw_m11 65 rfl
theorem q2578 : (Jvm.Cond.instanceMethod ({ cls := "java/lang/System$2", name := "getUTF16Char", desc := "([BI)C" } : Jvm.MethodName)) ∈ lw_all := lw_g (lw_at lw_m11 66 rfl) rfl
theorem q2579 : (Jvm.Cond.publicMethod ({ cls := "java/lang/System$2", name := "getUTF16Char", desc := "([BI)C" } : Jvm.MethodName)) ∈ lw_tbl := lw_at lw_m11 67 rfl
theorem q2580 : (Jvm.Cond.code ({ cls := "java/lang/System$2", name := "getUTF16Char", desc := "([BI)C" } : Jvm.MethodName) prog_48_method_45_code (3 : Nat) (Option.some Jvm.ClassFile.FieldType.char)) ∈ lw_all := lw_g (lw_at lw_m11 68 rfl) rfl
theorem q2581 : (Jvm.Cond.methodLink "java/lang/System$2" (185 : Nat) ({ cls := "java/lang/StringUTF16", name := "getChar", desc := "([BI)C" } : Jvm.MethodName)) ∈ lw_all := lw_g (lw_at lw_m11 69 rfl) rfl
theorem q3386 : (Jvm.Cond.castable "java/lang/System$2" "java/lang/Object") ∈ lw_tbl := lw_at lw_m14 154 rfl
theorem q119 : (Jvm.Cond.initialized "java/util/ArrayDeque") ∈ lw_all := lw_g (lw_at lw_m1 7 rfl) rfl
theorem q279 : (Jvm.Cond.instantiable "java/util/ArrayDeque" (3 : Nat)) ∈ lw_all := lw_g (lw_at lw_m1 167 rfl) rfl
theorem q281 : (Jvm.Cond.instanceMethod ({ cls := "java/util/ArrayDeque", name := "<init>", desc := "()V" } : Jvm.MethodName)) ∈ lw_all := lw_g (lw_at lw_m1 169 rfl) rfl
theorem q282 : (Jvm.Cond.code ({ cls := "java/util/ArrayDeque", name := "<init>", desc := "()V" } : Jvm.MethodName) prog_54_method_3_code (1 : Nat) (Option.none : Option Jvm.ClassFile.FieldType)) ∈ lw_all := lw_g (lw_at lw_m1 170 rfl) rfl
theorem q283 : (Jvm.Cond.methodLink "java/util/ArrayDeque" (42 : Nat) ({ cls := "java/util/AbstractCollection", name := "<init>", desc := "()V" } : Jvm.MethodName)) ∈ lw_all := lw_g (lw_at lw_m1 171 rfl) rfl
theorem q284 : (Jvm.Cond.classLink "java/util/ArrayDeque" (47 : Nat) "java/lang/Object") ∈ lw_all := lw_g (lw_at lw_m1 172 rfl) rfl
theorem q286 : (Jvm.Cond.fieldLink "java/util/ArrayDeque" (3 : Nat) "java/util/ArrayDeque" "elements" "[Ljava/lang/Object;") ∈ lw_all := lw_g (lw_at lw_m1 174 rfl) rfl
theorem q289 : (Jvm.Cond.fieldLink "java/util/ArrayDeque" (24 : Nat) "java/util/ArrayDeque" "head" "I") ∈ lw_all := lw_g (lw_at lw_m1 177 rfl) rfl
theorem q290 : (Jvm.Cond.fieldLink "java/util/ArrayDeque" (20 : Nat) "java/util/ArrayDeque" "tail" "I") ∈ lw_all := lw_g (lw_at lw_m1 178 rfl) rfl
theorem q291 : (Jvm.Cond.lays "java/util/ArrayDeque" "java/util/ArrayDeque" "elements" "[Ljava/lang/Object;") ∈ lw_all := lw_g (lw_at lw_m1 179 rfl) rfl
theorem q292 : (Jvm.Cond.soleField "java/util/ArrayDeque" "elements") ∈ lw_all := lw_g (lw_at lw_m1 180 rfl) rfl
theorem q293 : (Jvm.Cond.lays "java/util/ArrayDeque" "java/util/ArrayDeque" "head" "I") ∈ lw_all := lw_g (lw_at lw_m1 181 rfl) rfl
theorem q294 : (Jvm.Cond.soleField "java/util/ArrayDeque" "head") ∈ lw_all := lw_g (lw_at lw_m1 182 rfl) rfl
theorem q295 : (Jvm.Cond.lays "java/util/ArrayDeque" "java/util/ArrayDeque" "tail" "I") ∈ lw_all := lw_g (lw_at lw_m1 183 rfl) rfl
theorem q296 : (Jvm.Cond.soleField "java/util/ArrayDeque" "tail") ∈ lw_all := lw_g (lw_at lw_m1 184 rfl) rfl
theorem q297 : (Jvm.Cond.superclass "java/util/ArrayDeque" "java/util/AbstractCollection") ∈ lw_all := lw_g (lw_at lw_m1 185 rfl) rfl
theorem q784 : (Jvm.Cond.static ({ cls := "java/util/ArrayDeque", name := "nonNullElementAt", desc := "([Ljava/lang/Object;I)Ljava/lang/Object;" } : Jvm.MethodName)) ∈ lw_all := lw_g (lw_at lw_m3 192 rfl) rfl
theorem q785 : (Jvm.Cond.code ({ cls := "java/util/ArrayDeque", name := "nonNullElementAt", desc := "([Ljava/lang/Object;I)Ljava/lang/Object;" } : Jvm.MethodName) prog_54_method_11_code (3 : Nat) (Option.some (Jvm.ClassFile.FieldType.object "java/lang/Object"))) ∈ lw_all := lw_g (lw_at lw_m3 193 rfl) rfl
theorem q787 : (Jvm.Cond.static ({ cls := "java/util/ArrayDeque", name := "inc", desc := "(II)I" } : Jvm.MethodName)) ∈ lw_all := lw_g (lw_at lw_m3 195 rfl) rfl
theorem q788 : (Jvm.Cond.code ({ cls := "java/util/ArrayDeque", name := "inc", desc := "(II)I" } : Jvm.MethodName) prog_54_method_6_code (2 : Nat) (Option.some Jvm.ClassFile.FieldType.int)) ∈ lw_all := lw_g (lw_at lw_m3 196 rfl) rfl
theorem q841 : (Jvm.Cond.instanceMethod ({ cls := "java/util/ArrayDeque", name := "size", desc := "()I" } : Jvm.MethodName)) ∈ lw_all := lw_g (lw_at lw_m4 9 rfl) rfl
theorem q842 : (Jvm.Cond.selects "java/util/ArrayDeque" ({ cls := "java/util/ArrayDeque", name := "size", desc := "()I" } : Jvm.MethodName) ({ cls := "java/util/ArrayDeque", name := "size", desc := "()I" } : Jvm.MethodName)) ∈ lw_all := lw_g (lw_at lw_m4 10 rfl) rfl
theorem q843 : (Jvm.Cond.code ({ cls := "java/util/ArrayDeque", name := "size", desc := "()I" } : Jvm.MethodName) prog_54_method_37_code (1 : Nat) (Option.some Jvm.ClassFile.FieldType.int)) ∈ lw_all := lw_g (lw_at lw_m4 11 rfl) rfl
theorem q844 : (Jvm.Cond.methodLink "java/util/ArrayDeque" (127 : Nat) ({ cls := "java/util/ArrayDeque", name := "sub", desc := "(III)I" } : Jvm.MethodName)) ∈ lw_all := lw_g (lw_at lw_m4 12 rfl) rfl
theorem q845 : (Jvm.Cond.static ({ cls := "java/util/ArrayDeque", name := "sub", desc := "(III)I" } : Jvm.MethodName)) ∈ lw_all := lw_g (lw_at lw_m4 13 rfl) rfl
theorem q846 : (Jvm.Cond.code ({ cls := "java/util/ArrayDeque", name := "sub", desc := "(III)I" } : Jvm.MethodName) prog_54_method_9_code (3 : Nat) (Option.some Jvm.ClassFile.FieldType.int)) ∈ lw_all := lw_g (lw_at lw_m4 14 rfl) rfl
theorem q852 : (Jvm.Cond.instanceMethod ({ cls := "java/util/ArrayDeque", name := "isEmpty", desc := "()Z" } : Jvm.MethodName)) ∈ lw_all := lw_g (lw_at lw_m4 20 rfl) rfl
theorem q853 : (Jvm.Cond.selects "java/util/ArrayDeque" ({ cls := "java/util/ArrayDeque", name := "isEmpty", desc := "()Z" } : Jvm.MethodName) ({ cls := "java/util/ArrayDeque", name := "isEmpty", desc := "()Z" } : Jvm.MethodName)) ∈ lw_all := lw_g (lw_at lw_m4 21 rfl) rfl
theorem q854 : (Jvm.Cond.code ({ cls := "java/util/ArrayDeque", name := "isEmpty", desc := "()Z" } : Jvm.MethodName) prog_54_method_38_code (1 : Nat) (Option.some Jvm.ClassFile.FieldType.boolean)) ∈ lw_all := lw_g (lw_at lw_m4 22 rfl) rfl
theorem q856 : (Jvm.Cond.instanceMethod ({ cls := "java/util/ArrayDeque", name := "removeLast", desc := "()Ljava/lang/Object;" } : Jvm.MethodName)) ∈ lw_all := lw_g (lw_at lw_m4 24 rfl) rfl
theorem q857 : (Jvm.Cond.selects "java/util/ArrayDeque" ({ cls := "java/util/ArrayDeque", name := "removeLast", desc := "()Ljava/lang/Object;" } : Jvm.MethodName) ({ cls := "java/util/ArrayDeque", name := "removeLast", desc := "()Ljava/lang/Object;" } : Jvm.MethodName)) ∈ lw_all := lw_g (lw_at lw_m4 25 rfl) rfl
theorem q858 : (Jvm.Cond.code ({ cls := "java/util/ArrayDeque", name := "removeLast", desc := "()Ljava/lang/Object;" } : Jvm.MethodName) prog_54_method_19_code (2 : Nat) (Option.some (Jvm.ClassFile.FieldType.object "java/lang/Object"))) ∈ lw_all := lw_g (lw_at lw_m4 26 rfl) rfl
theorem q859 : (Jvm.Cond.methodLink "java/util/ArrayDeque" (100 : Nat) ({ cls := "java/util/ArrayDeque", name := "pollLast", desc := "()Ljava/lang/Object;" } : Jvm.MethodName)) ∈ lw_all := lw_g (lw_at lw_m4 27 rfl) rfl
theorem q860 : (Jvm.Cond.instanceMethod ({ cls := "java/util/ArrayDeque", name := "pollLast", desc := "()Ljava/lang/Object;" } : Jvm.MethodName)) ∈ lw_all := lw_g (lw_at lw_m4 28 rfl) rfl
theorem q861 : (Jvm.Cond.selects "java/util/ArrayDeque" ({ cls := "java/util/ArrayDeque", name := "pollLast", desc := "()Ljava/lang/Object;" } : Jvm.MethodName) ({ cls := "java/util/ArrayDeque", name := "pollLast", desc := "()Ljava/lang/Object;" } : Jvm.MethodName)) ∈ lw_all := lw_g (lw_at lw_m4 29 rfl) rfl
theorem q862 : (Jvm.Cond.code ({ cls := "java/util/ArrayDeque", name := "pollLast", desc := "()Ljava/lang/Object;" } : Jvm.MethodName) prog_54_method_21_code (4 : Nat) (Option.some (Jvm.ClassFile.FieldType.object "java/lang/Object"))) ∈ lw_all := lw_g (lw_at lw_m4 30 rfl) rfl
theorem q863 : (Jvm.Cond.methodLink "java/util/ArrayDeque" (68 : Nat) ({ cls := "java/util/ArrayDeque", name := "dec", desc := "(II)I" } : Jvm.MethodName)) ∈ lw_all := lw_g (lw_at lw_m4 31 rfl) rfl
theorem q864 : (Jvm.Cond.static ({ cls := "java/util/ArrayDeque", name := "dec", desc := "(II)I" } : Jvm.MethodName)) ∈ lw_all := lw_g (lw_at lw_m4 32 rfl) rfl
theorem q865 : (Jvm.Cond.code ({ cls := "java/util/ArrayDeque", name := "dec", desc := "(II)I" } : Jvm.MethodName) prog_54_method_7_code (2 : Nat) (Option.some Jvm.ClassFile.FieldType.int)) ∈ lw_all := lw_g (lw_at lw_m4 33 rfl) rfl
theorem q866 : (Jvm.Cond.methodLink "java/util/ArrayDeque" (103 : Nat) ({ cls := "java/util/ArrayDeque", name := "elementAt", desc := "([Ljava/lang/Object;I)Ljava/lang/Object;" } : Jvm.MethodName)) ∈ lw_all := lw_g (lw_at lw_m4 34 rfl) rfl
theorem q867 : (Jvm.Cond.static ({ cls := "java/util/ArrayDeque", name := "elementAt", desc := "([Ljava/lang/Object;I)Ljava/lang/Object;" } : Jvm.MethodName)) ∈ lw_all := lw_g (lw_at lw_m4 35 rfl) rfl
theorem q868 : (Jvm.Cond.code ({ cls := "java/util/ArrayDeque", name := "elementAt", desc := "([Ljava/lang/Object;I)Ljava/lang/Object;" } : Jvm.MethodName) prog_54_method_10_code (2 : Nat) (Option.some (Jvm.ClassFile.FieldType.object "java/lang/Object"))) ∈ lw_all := lw_g (lw_at lw_m4 36 rfl) rfl
theorem q869 : (Jvm.Cond.classLink "java/util/ArrayDeque" (97 : Nat) "java/util/NoSuchElementException") ∈ lw_all := lw_g (lw_at lw_m4 37 rfl) rfl
theorem q870 : (Jvm.Cond.methodLink "java/util/ArrayDeque" (99 : Nat) ({ cls := "java/util/NoSuchElementException", name := "<init>", desc := "()V" } : Jvm.MethodName)) ∈ lw_all := lw_g (lw_at lw_m4 38 rfl) rfl
theorem q999 : (Jvm.Cond.castable "java/util/ArrayDeque" "java/util/Collection") ∈ lw_tbl := lw_at lw_m4 167 rfl
theorem q1000 : (Jvm.Cond.selects "java/util/ArrayDeque" ({ cls := "java/util/Collection", name := "toArray", desc := "()[Ljava/lang/Object;" } : Jvm.MethodName) ({ cls := "java/util/ArrayDeque", name := "toArray", desc := "()[Ljava/lang/Object;" } : Jvm.MethodName)) ∈ lw_all := lw_g (lw_at lw_m4 168 rfl) rfl
theorem q1001 : (Jvm.Cond.unhidden "java/util/ArrayDeque" "toArray" "()[Ljava/lang/Object;") ∈ lw_tbl := lw_at lw_m4 169 rfl
theorem q1002 : (Jvm.Cond.instanceMethod ({ cls := "java/util/ArrayDeque", name := "toArray", desc := "()[Ljava/lang/Object;" } : Jvm.MethodName)) ∈ lw_all := lw_g (lw_at lw_m4 170 rfl) rfl
theorem q1003 : (Jvm.Cond.publicMethod ({ cls := "java/util/ArrayDeque", name := "toArray", desc := "()[Ljava/lang/Object;" } : Jvm.MethodName)) ∈ lw_tbl := lw_at lw_m4 171 rfl
theorem q1004 : (Jvm.Cond.code ({ cls := "java/util/ArrayDeque", name := "toArray", desc := "()[Ljava/lang/Object;" } : Jvm.MethodName) prog_54_method_55_code (1 : Nat) (Option.some (Jvm.ClassFile.FieldType.array (Jvm.ClassFile.FieldType.object "java/lang/Object")))) ∈ lw_all := lw_g (lw_at lw_m4 172 rfl) rfl
theorem q1005 : (Jvm.Cond.classLink "java/util/ArrayDeque" (188 : Nat) "[Ljava/lang/Object;") ∈ lw_all := lw_g (lw_at lw_m4 173 rfl) rfl
theorem q1006 : (Jvm.Cond.methodLink "java/util/ArrayDeque" (189 : Nat) ({ cls := "java/util/ArrayDeque", name := "toArray", desc := "(Ljava/lang/Class;)[Ljava/lang/Object;" } : Jvm.MethodName)) ∈ lw_all := lw_g (lw_at lw_m4 174 rfl) rfl
theorem q1007 : (Jvm.Cond.privateMethod ({ cls := "java/util/ArrayDeque", name := "toArray", desc := "(Ljava/lang/Class;)[Ljava/lang/Object;" } : Jvm.MethodName)) ∈ lw_tbl := lw_at lw_m4 175 rfl
theorem q1008 : (Jvm.Cond.instanceMethod ({ cls := "java/util/ArrayDeque", name := "toArray", desc := "(Ljava/lang/Class;)[Ljava/lang/Object;" } : Jvm.MethodName)) ∈ lw_all := lw_g (lw_at lw_m4 176 rfl) rfl
theorem q1009 : (Jvm.Cond.code ({ cls := "java/util/ArrayDeque", name := "toArray", desc := "(Ljava/lang/Class;)[Ljava/lang/Object;" } : Jvm.MethodName) prog_54_method_56_code (7 : Nat) (Option.some (Jvm.ClassFile.FieldType.array (Jvm.ClassFile.FieldType.object "java/lang/Object")))) ∈ lw_all := lw_g (lw_at lw_m4 177 rfl) rfl
theorem q1010 : (Jvm.Cond.methodLink "java/util/ArrayDeque" (193 : Nat) ({ cls := "java/util/Arrays", name := "copyOfRange", desc := "([Ljava/lang/Object;IILjava/lang/Class;)[Ljava/lang/Object;" } : Jvm.MethodName)) ∈ lw_all := lw_g (lw_at lw_m4 178 rfl) rfl
theorem q1015 : (Jvm.Cond.methodLink "java/util/ArrayDeque" (27 : Nat) ({ cls := "java/lang/System", name := "arraycopy", desc := "(Ljava/lang/Object;ILjava/lang/Object;II)V" } : Jvm.MethodName)) ∈ lw_all := lw_g (lw_at lw_m4 183 rfl) rfl
theorem q1056 : (Jvm.Cond.selects "java/util/ArrayDeque" ({ cls := "java/lang/Object", name := "getClass", desc := "()Ljava/lang/Class;" } : Jvm.MethodName) ({ cls := "java/lang/Object", name := "getClass", desc := "()Ljava/lang/Class;" } : Jvm.MethodName)) ∈ lw_all := lw_g (lw_at lw_m4 224 rfl) rfl
theorem q1188 : (Jvm.Cond.instanceMethod ({ cls := "java/util/ArrayDeque", name := "clear", desc := "()V" } : Jvm.MethodName)) ∈ lw_all := lw_g (lw_at lw_m5 116 rfl) rfl
theorem q1189 : (Jvm.Cond.selects "java/util/ArrayDeque" ({ cls := "java/util/ArrayDeque", name := "clear", desc := "()V" } : Jvm.MethodName) ({ cls := "java/util/ArrayDeque", name := "clear", desc := "()V" } : Jvm.MethodName)) ∈ lw_all := lw_g (lw_at lw_m5 117 rfl) rfl
theorem q1190 : (Jvm.Cond.code ({ cls := "java/util/ArrayDeque", name := "clear", desc := "()V" } : Jvm.MethodName) prog_54_method_53_code (1 : Nat) (Option.none : Option Jvm.ClassFile.FieldType)) ∈ lw_all := lw_g (lw_at lw_m5 118 rfl) rfl
theorem q1191 : (Jvm.Cond.methodLink "java/util/ArrayDeque" (181 : Nat) ({ cls := "java/util/ArrayDeque", name := "circularClear", desc := "([Ljava/lang/Object;II)V" } : Jvm.MethodName)) ∈ lw_all := lw_g (lw_at lw_m5 119 rfl) rfl
theorem q1192 : (Jvm.Cond.static ({ cls := "java/util/ArrayDeque", name := "circularClear", desc := "([Ljava/lang/Object;II)V" } : Jvm.MethodName)) ∈ lw_all := lw_g (lw_at lw_m5 120 rfl) rfl
theorem q1193 : (Jvm.Cond.code ({ cls := "java/util/ArrayDeque", name := "circularClear", desc := "([Ljava/lang/Object;II)V" } : Jvm.MethodName) prog_54_method_54_code (4 : Nat) (Option.none : Option Jvm.ClassFile.FieldType)) ∈ lw_all := lw_g (lw_at lw_m5 121 rfl) rfl
theorem q1911 : (Jvm.Cond.unhidden "java/util/ArrayDeque" "getClass" "()Ljava/lang/Class;") ∈ lw_tbl := lw_at lw_m8 119 rfl
theorem q2060 : (Jvm.Cond.instanceMethod ({ cls := "java/util/ArrayDeque", name := "removeFirst", desc := "()Ljava/lang/Object;" } : Jvm.MethodName)) ∈ lw_all := lw_g (lw_at lw_m9 28 rfl) rfl
theorem q2061 : (Jvm.Cond.selects "java/util/ArrayDeque" ({ cls := "java/util/ArrayDeque", name := "removeFirst", desc := "()Ljava/lang/Object;" } : Jvm.MethodName) ({ cls := "java/util/ArrayDeque", name := "removeFirst", desc := "()Ljava/lang/Object;" } : Jvm.MethodName)) ∈ lw_all := lw_g (lw_at lw_m9 29 rfl) rfl
theorem q2062 : (Jvm.Cond.code ({ cls := "java/util/ArrayDeque", name := "removeFirst", desc := "()Ljava/lang/Object;" } : Jvm.MethodName) prog_54_method_18_code (2 : Nat) (Option.some (Jvm.ClassFile.FieldType.object "java/lang/Object"))) ∈ lw_all := lw_g (lw_at lw_m9 30 rfl) rfl
theorem q2063 : (Jvm.Cond.methodLink "java/util/ArrayDeque" (93 : Nat) ({ cls := "java/util/ArrayDeque", name := "pollFirst", desc := "()Ljava/lang/Object;" } : Jvm.MethodName)) ∈ lw_all := lw_g (lw_at lw_m9 31 rfl) rfl
theorem q2064 : (Jvm.Cond.instanceMethod ({ cls := "java/util/ArrayDeque", name := "pollFirst", desc := "()Ljava/lang/Object;" } : Jvm.MethodName)) ∈ lw_all := lw_g (lw_at lw_m9 32 rfl) rfl
theorem q2065 : (Jvm.Cond.selects "java/util/ArrayDeque" ({ cls := "java/util/ArrayDeque", name := "pollFirst", desc := "()Ljava/lang/Object;" } : Jvm.MethodName) ({ cls := "java/util/ArrayDeque", name := "pollFirst", desc := "()Ljava/lang/Object;" } : Jvm.MethodName)) ∈ lw_all := lw_g (lw_at lw_m9 33 rfl) rfl
theorem q2066 : (Jvm.Cond.code ({ cls := "java/util/ArrayDeque", name := "pollFirst", desc := "()Ljava/lang/Object;" } : Jvm.MethodName) prog_54_method_20_code (4 : Nat) (Option.some (Jvm.ClassFile.FieldType.object "java/lang/Object"))) ∈ lw_all := lw_g (lw_at lw_m9 34 rfl) rfl
theorem q2067 : (Jvm.Cond.methodLink "java/util/ArrayDeque" (74 : Nat) ({ cls := "java/util/ArrayDeque", name := "inc", desc := "(II)I" } : Jvm.MethodName)) ∈ lw_all := lw_g (lw_at lw_m9 35 rfl) rfl
theorem q2069 : (Jvm.Cond.instanceMethod ({ cls := "java/util/ArrayDeque", name := "addLast", desc := "(Ljava/lang/Object;)V" } : Jvm.MethodName)) ∈ lw_all := lw_g (lw_at lw_m9 37 rfl) rfl
theorem q2070 : (Jvm.Cond.selects "java/util/ArrayDeque" ({ cls := "java/util/ArrayDeque", name := "addLast", desc := "(Ljava/lang/Object;)V" } : Jvm.MethodName) ({ cls := "java/util/ArrayDeque", name := "addLast", desc := "(Ljava/lang/Object;)V" } : Jvm.MethodName)) ∈ lw_all := lw_g (lw_at lw_m9 38 rfl) rfl
theorem q2071 : (Jvm.Cond.code ({ cls := "java/util/ArrayDeque", name := "addLast", desc := "(Ljava/lang/Object;)V" } : Jvm.MethodName) prog_54_method_13_code (3 : Nat) (Option.none : Option Jvm.ClassFile.FieldType)) ∈ lw_all := lw_g (lw_at lw_m9 39 rfl) rfl
theorem q2072 : (Jvm.Cond.methodLink "java/util/ArrayDeque" (71 : Nat) ({ cls := "java/util/ArrayDeque", name := "grow", desc := "(I)V" } : Jvm.MethodName)) ∈ lw_all := lw_g (lw_at lw_m9 40 rfl) rfl
theorem q2073 : (Jvm.Cond.privateMethod ({ cls := "java/util/ArrayDeque", name := "grow", desc := "(I)V" } : Jvm.MethodName)) ∈ lw_tbl := lw_at lw_m9 41 rfl
theorem q2074 : (Jvm.Cond.instanceMethod ({ cls := "java/util/ArrayDeque", name := "grow", desc := "(I)V" } : Jvm.MethodName)) ∈ lw_all := lw_g (lw_at lw_m9 42 rfl) rfl
theorem q2075 : (Jvm.Cond.code ({ cls := "java/util/ArrayDeque", name := "grow", desc := "(I)V" } : Jvm.MethodName) prog_54_method_1_code (9 : Nat) (Option.none : Option Jvm.ClassFile.FieldType)) ∈ lw_all := lw_g (lw_at lw_m9 43 rfl) rfl
theorem q2076 : (Jvm.Cond.constant "java/util/ArrayDeque" (9 : Nat) (2147483639 : Int32)) ∈ lw_all := lw_g (lw_at lw_m9 44 rfl) rfl
theorem q2077 : (Jvm.Cond.methodLink "java/util/ArrayDeque" (10 : Nat) ({ cls := "java/util/ArrayDeque", name := "newCapacity", desc := "(II)I" } : Jvm.MethodName)) ∈ lw_all := lw_g (lw_at lw_m9 45 rfl) rfl
theorem q2078 : (Jvm.Cond.privateMethod ({ cls := "java/util/ArrayDeque", name := "newCapacity", desc := "(II)I" } : Jvm.MethodName)) ∈ lw_tbl := lw_at lw_m9 46 rfl
theorem q2079 : (Jvm.Cond.instanceMethod ({ cls := "java/util/ArrayDeque", name := "newCapacity", desc := "(II)I" } : Jvm.MethodName)) ∈ lw_all := lw_g (lw_at lw_m9 47 rfl) rfl
theorem q2080 : (Jvm.Cond.code ({ cls := "java/util/ArrayDeque", name := "newCapacity", desc := "(II)I" } : Jvm.MethodName) prog_54_method_2_code (5 : Nat) (Option.some Jvm.ClassFile.FieldType.int)) ∈ lw_all := lw_g (lw_at lw_m9 48 rfl) rfl
theorem q2081 : (Jvm.Cond.constant "java/util/ArrayDeque" (41 : Nat) (2147483647 : Int32)) ∈ lw_all := lw_g (lw_at lw_m9 49 rfl) rfl
theorem q2082 : (Jvm.Cond.methodLink "java/util/ArrayDeque" (14 : Nat) ({ cls := "java/util/Arrays", name := "copyOf", desc := "([Ljava/lang/Object;I)[Ljava/lang/Object;" } : Jvm.MethodName)) ∈ lw_all := lw_g (lw_at lw_m9 50 rfl) rfl
theorem q2184 : (Jvm.Cond.instanceMethod ({ cls := "java/util/ArrayDeque", name := "delete", desc := "(I)Z" } : Jvm.MethodName)) ∈ lw_all := lw_g (lw_at lw_m9 152 rfl) rfl
theorem q2185 : (Jvm.Cond.selects "java/util/ArrayDeque" ({ cls := "java/util/ArrayDeque", name := "delete", desc := "(I)Z" } : Jvm.MethodName) ({ cls := "java/util/ArrayDeque", name := "delete", desc := "(I)Z" } : Jvm.MethodName)) ∈ lw_all := lw_g (lw_at lw_m9 153 rfl) rfl
theorem q2186 : (Jvm.Cond.code ({ cls := "java/util/ArrayDeque", name := "delete", desc := "(I)Z" } : Jvm.MethodName) prog_54_method_36_code (8 : Nat) (Option.some Jvm.ClassFile.FieldType.boolean)) ∈ lw_all := lw_g (lw_at lw_m9 154 rfl) rfl
theorem q2431 : (Jvm.Cond.castable "java/util/ArrayDeque" "java/lang/Iterable") ∈ lw_tbl := lw_at lw_m10 159 rfl
theorem q2432 : (Jvm.Cond.selects "java/util/ArrayDeque" ({ cls := "java/lang/Iterable", name := "iterator", desc := "()Ljava/util/Iterator;" } : Jvm.MethodName) ({ cls := "java/util/ArrayDeque", name := "iterator", desc := "()Ljava/util/Iterator;" } : Jvm.MethodName)) ∈ lw_all := lw_g (lw_at lw_m10 160 rfl) rfl
theorem q2433 : (Jvm.Cond.unhidden "java/util/ArrayDeque" "iterator" "()Ljava/util/Iterator;") ∈ lw_tbl := lw_at lw_m10 161 rfl
theorem q2434 : (Jvm.Cond.instanceMethod ({ cls := "java/util/ArrayDeque", name := "iterator", desc := "()Ljava/util/Iterator;" } : Jvm.MethodName)) ∈ lw_all := lw_g (lw_at lw_m10 162 rfl) rfl
theorem q2435 : (Jvm.Cond.publicMethod ({ cls := "java/util/ArrayDeque", name := "iterator", desc := "()Ljava/util/Iterator;" } : Jvm.MethodName)) ∈ lw_tbl := lw_at lw_m10 163 rfl
theorem q2436 : (Jvm.Cond.code ({ cls := "java/util/ArrayDeque", name := "iterator", desc := "()Ljava/util/Iterator;" } : Jvm.MethodName) prog_54_method_39_code (1 : Nat) (Option.some (Jvm.ClassFile.FieldType.object "java/util/Iterator"))) ∈ lw_all := lw_g (lw_at lw_m10 164 rfl) rfl
theorem q2437 : (Jvm.Cond.classLink "java/util/ArrayDeque" (131 : Nat) "java/util/ArrayDeque$DeqIterator") ∈ lw_all := lw_g (lw_at lw_m10 165 rfl) rfl
theorem q2439 : (Jvm.Cond.methodLink "java/util/ArrayDeque" (133 : Nat) ({ cls := "java/util/ArrayDeque$DeqIterator", name := "<init>", desc := "(Ljava/util/ArrayDeque;)V" } : Jvm.MethodName)) ∈ lw_all := lw_g (lw_at lw_m10 167 rfl) rfl
theorem q3357 : (Jvm.Cond.castable "java/util/ArrayDeque" "java/lang/Object") ∈ lw_tbl := lw_at lw_m14 125 rfl
theorem q121 : (Jvm.Cond.initialized "java/lang/Throwable") ∈ lw_all := lw_g (lw_at lw_m1 9 rfl) rfl
theorem q422 : (Jvm.Cond.declares ({ cls := "java/lang/Throwable", name := "<init>", desc := "()V" } : Jvm.MethodName)) ∈ lw_tbl := lw_at lw_m2 70 rfl
theorem q423 : (Jvm.Cond.declares ({ cls := "java/lang/Throwable", name := "<init>", desc := "(Ljava/lang/String;)V" } : Jvm.MethodName)) ∈ lw_tbl := lw_at lw_m2 71 rfl
theorem q427 : (Jvm.Cond.lays "java/lang/Throwable" "java/lang/Throwable" "cause" "Ljava/lang/Throwable;") ∈ lw_all := lw_g (lw_at lw_m2 75 rfl) rfl
theorem q429 : (Jvm.Cond.lays "java/lang/Throwable" "java/lang/Throwable" "stackTrace" "[Ljava/lang/StackTraceElement;") ∈ lw_all := lw_g (lw_at lw_m2 77 rfl) rfl
theorem q431 : (Jvm.Cond.lays "java/lang/Throwable" "java/lang/Throwable" "suppressedExceptions" "Ljava/util/List;") ∈ lw_all := lw_g (lw_at lw_m2 79 rfl) rfl
theorem q433 : (Jvm.Cond.lays "java/lang/Throwable" "java/lang/Throwable" "detailMessage" "Ljava/lang/String;") ∈ lw_all := lw_g (lw_at lw_m2 81 rfl) rfl
theorem q435 : (Jvm.Cond.lays "java/lang/Throwable" "java/lang/Throwable" "backtrace" "Ljava/lang/Object;") ∈ lw_all := lw_g (lw_at lw_m2 83 rfl) rfl
theorem q436 : (Jvm.Cond.fieldLink "java/lang/Throwable" (198 : Nat) "java/lang/Throwable" "backtrace" "Ljava/lang/Object;") ∈ lw_all := lw_g (lw_at lw_m2 84 rfl) rfl
theorem q437 : (Jvm.Cond.superclass "java/lang/Throwable" "java/lang/Object") ∈ lw_all := lw_g (lw_at lw_m2 85 rfl) rfl
theorem q438 : (Jvm.Cond.instanceMethod ({ cls := "java/lang/Throwable", name := "<init>", desc := "()V" } : Jvm.MethodName)) ∈ lw_all := lw_g (lw_at lw_m2 86 rfl) rfl
theorem q439 : (Jvm.Cond.code ({ cls := "java/lang/Throwable", name := "<init>", desc := "()V" } : Jvm.MethodName) prog_49_method_1_code (1 : Nat) (Option.none : Option Jvm.ClassFile.FieldType)) ∈ lw_all := lw_g (lw_at lw_m2 87 rfl) rfl
theorem q440 : (Jvm.Cond.methodLink "java/lang/Throwable" (1 : Nat) ({ cls := "java/lang/Object", name := "<init>", desc := "()V" } : Jvm.MethodName)) ∈ lw_all := lw_g (lw_at lw_m2 88 rfl) rfl
theorem q441 : (Jvm.Cond.fieldLink "java/lang/Throwable" (13 : Nat) "java/lang/Throwable" "UNASSIGNED_STACK" "[Ljava/lang/StackTraceElement;") ∈ lw_all := lw_g (lw_at lw_m2 89 rfl) rfl
theorem q442 : (Jvm.Cond.laysStatic "java/lang/Throwable" "UNASSIGNED_STACK" "[Ljava/lang/StackTraceElement;") ∈ lw_tbl := lw_at lw_m2 90 rfl
theorem q443 : (Jvm.Cond.fieldLink "java/lang/Throwable" (20 : Nat) "java/lang/Throwable" "SUPPRESSED_SENTINEL" "Ljava/util/List;") ∈ lw_all := lw_g (lw_at lw_m2 91 rfl) rfl
theorem q444 : (Jvm.Cond.laysStatic "java/lang/Throwable" "SUPPRESSED_SENTINEL" "Ljava/util/List;") ∈ lw_tbl := lw_at lw_m2 92 rfl
theorem q445 : (Jvm.Cond.methodLink "java/lang/Throwable" (27 : Nat) ({ cls := "java/lang/Throwable", name := "fillInStackTrace", desc := "()Ljava/lang/Throwable;" } : Jvm.MethodName)) ∈ lw_all := lw_g (lw_at lw_m2 93 rfl) rfl
theorem q446 : (Jvm.Cond.instanceMethod ({ cls := "java/lang/Throwable", name := "fillInStackTrace", desc := "()Ljava/lang/Throwable;" } : Jvm.MethodName)) ∈ lw_all := lw_g (lw_at lw_m2 94 rfl) rfl
theorem q447 : (Jvm.Cond.sameMethod "java/lang/Throwable" "java/lang/Throwable" "fillInStackTrace" "()Ljava/lang/Throwable;") ∈ lw_all := lw_g (lw_at lw_m2 95 rfl) rfl
theorem q456 : (Jvm.Cond.codeSync ({ cls := "java/lang/Throwable", name := "fillInStackTrace", desc := "()Ljava/lang/Throwable;" } : Jvm.MethodName) prog_49_method_18_code (1 : Nat) (Option.some (Jvm.ClassFile.FieldType.object "java/lang/Throwable"))) ∈ lw_all := lw_g (lw_at lw_m2 104 rfl) rfl
theorem q457 : (Jvm.Cond.methodLink "java/lang/Throwable" (202 : Nat) ({ cls := "java/lang/Throwable", name := "fillInStackTrace", desc := "(I)Ljava/lang/Throwable;" } : Jvm.MethodName)) ∈ lw_all := lw_g (lw_at lw_m2 105 rfl) rfl
theorem q458 : (Jvm.Cond.privateMethod ({ cls := "java/lang/Throwable", name := "fillInStackTrace", desc := "(I)Ljava/lang/Throwable;" } : Jvm.MethodName)) ∈ lw_tbl := lw_at lw_m2 106 rfl
theorem q459 : (Jvm.Cond.instanceMethod ({ cls := "java/lang/Throwable", name := "fillInStackTrace", desc := "(I)Ljava/lang/Throwable;" } : Jvm.MethodName)) ∈ lw_all := lw_g (lw_at lw_m2 107 rfl) rfl
theorem q460 : (Jvm.Cond.instantiable "java/lang/Throwable" (6 : Nat)) ∈ lw_all := lw_g (lw_at lw_m2 108 rfl) rfl
theorem q461 : (Jvm.Cond.native ({ cls := "java/lang/Throwable", name := "fillInStackTrace", desc := "(I)Ljava/lang/Throwable;" } : Jvm.MethodName)) ∈ lw_all := lw_g (lw_at lw_m2 109 rfl) rfl
theorem q472 : (Jvm.Cond.fieldLink "java/lang/Throwable" (198 : Nat) "java/lang/Throwable" "backtrace" "Ljava/lang/Object;") ∈ lw_all := lw_g (lw_at lw_m2 120 rfl) rfl
theorem q473 : (Jvm.Cond.fieldLink "java/lang/Throwable" (31 : Nat) "java/lang/Throwable" "detailMessage" "Ljava/lang/String;") ∈ lw_all := lw_g (lw_at lw_m2 121 rfl) rfl
theorem q474 : (Jvm.Cond.fieldLink "java/lang/Throwable" (7 : Nat) "java/lang/Throwable" "cause" "Ljava/lang/Throwable;") ∈ lw_all := lw_g (lw_at lw_m2 122 rfl) rfl
theorem q475 : (Jvm.Cond.fieldLink "java/lang/Throwable" (17 : Nat) "java/lang/Throwable" "stackTrace" "[Ljava/lang/StackTraceElement;") ∈ lw_all := lw_g (lw_at lw_m2 123 rfl) rfl
theorem q476 : (Jvm.Cond.fieldLink "java/lang/Throwable" (24 : Nat) "java/lang/Throwable" "suppressedExceptions" "Ljava/util/List;") ∈ lw_all := lw_g (lw_at lw_m2 124 rfl) rfl
theorem q477 : (Jvm.Cond.soleField "java/lang/Throwable" "backtrace") ∈ lw_all := lw_g (lw_at lw_m2 125 rfl) rfl
theorem q478 : (Jvm.Cond.soleField "java/lang/Throwable" "detailMessage") ∈ lw_all := lw_g (lw_at lw_m2 126 rfl) rfl
theorem q479 : (Jvm.Cond.soleField "java/lang/Throwable" "cause") ∈ lw_all := lw_g (lw_at lw_m2 127 rfl) rfl
theorem q480 : (Jvm.Cond.soleField "java/lang/Throwable" "stackTrace") ∈ lw_all := lw_g (lw_at lw_m2 128 rfl) rfl
theorem q482 : (Jvm.Cond.soleField "java/lang/Throwable" "depth") ∈ lw_all := lw_g (lw_at lw_m2 130 rfl) rfl
theorem q483 : (Jvm.Cond.soleField "java/lang/Throwable" "suppressedExceptions") ∈ lw_all := lw_g (lw_at lw_m2 131 rfl) rfl
theorem q746 : (Jvm.Cond.instanceMethod ({ cls := "java/lang/Throwable", name := "<init>", desc := "(Ljava/lang/String;)V" } : Jvm.MethodName)) ∈ lw_all := lw_g (lw_at lw_m3 154 rfl) rfl
theorem q747 : (Jvm.Cond.code ({ cls := "java/lang/Throwable", name := "<init>", desc := "(Ljava/lang/String;)V" } : Jvm.MethodName) prog_49_method_2_code (2 : Nat) (Option.none : Option Jvm.ClassFile.FieldType)) ∈ lw_all := lw_g (lw_at lw_m3 155 rfl) rfl
theorem q1390 : (Jvm.Cond.instanceMethod ({ cls := "java/lang/Throwable", name := "<init>", desc := "(Ljava/lang/String;Ljava/lang/Throwable;ZZ)V" } : Jvm.MethodName)) ∈ lw_all := lw_g (lw_at lw_m6 78 rfl) rfl
theorem q1391 : (Jvm.Cond.code ({ cls := "java/lang/Throwable", name := "<init>", desc := "(Ljava/lang/String;Ljava/lang/Throwable;ZZ)V" } : Jvm.MethodName) prog_49_method_5_code (5 : Nat) (Option.none : Option Jvm.ClassFile.FieldType)) ∈ lw_all := lw_g (lw_at lw_m6 79 rfl) rfl
theorem q3336 : (Jvm.Cond.sameMethod "java/lang/Throwable" "java/lang/Throwable" "fillInStackTrace" "(I)Ljava/lang/Throwable;") ∈ lw_all := lw_g (lw_at lw_m14 104 rfl) rfl
theorem q3387 : (Jvm.Cond.castable "java/lang/Throwable" "java/lang/Object") ∈ lw_tbl := lw_at lw_m14 155 rfl
theorem q122 : (Jvm.Cond.initialized "java/lang/Exception") ∈ lw_all := lw_g (lw_at lw_m1 10 rfl) rfl
theorem q420 : (Jvm.Cond.declares ({ cls := "java/lang/Exception", name := "<init>", desc := "()V" } : Jvm.MethodName)) ∈ lw_tbl := lw_at lw_m2 68 rfl
theorem q421 : (Jvm.Cond.declares ({ cls := "java/lang/Exception", name := "<init>", desc := "(Ljava/lang/String;)V" } : Jvm.MethodName)) ∈ lw_tbl := lw_at lw_m2 69 rfl
theorem q469 : (Jvm.Cond.instanceMethod ({ cls := "java/lang/Exception", name := "<init>", desc := "()V" } : Jvm.MethodName)) ∈ lw_all := lw_g (lw_at lw_m2 117 rfl) rfl
theorem q470 : (Jvm.Cond.code ({ cls := "java/lang/Exception", name := "<init>", desc := "()V" } : Jvm.MethodName) prog_34_method_1_code (1 : Nat) (Option.none : Option Jvm.ClassFile.FieldType)) ∈ lw_all := lw_g (lw_at lw_m2 118 rfl) rfl
theorem q471 : (Jvm.Cond.methodLink "java/lang/Exception" (1 : Nat) ({ cls := "java/lang/Throwable", name := "<init>", desc := "()V" } : Jvm.MethodName)) ∈ lw_all := lw_g (lw_at lw_m2 119 rfl) rfl
theorem q743 : (Jvm.Cond.instanceMethod ({ cls := "java/lang/Exception", name := "<init>", desc := "(Ljava/lang/String;)V" } : Jvm.MethodName)) ∈ lw_all := lw_g (lw_at lw_m3 151 rfl) rfl
theorem q744 : (Jvm.Cond.code ({ cls := "java/lang/Exception", name := "<init>", desc := "(Ljava/lang/String;)V" } : Jvm.MethodName) prog_34_method_2_code (2 : Nat) (Option.none : Option Jvm.ClassFile.FieldType)) ∈ lw_all := lw_g (lw_at lw_m3 152 rfl) rfl
theorem q745 : (Jvm.Cond.methodLink "java/lang/Exception" (7 : Nat) ({ cls := "java/lang/Throwable", name := "<init>", desc := "(Ljava/lang/String;)V" } : Jvm.MethodName)) ∈ lw_all := lw_g (lw_at lw_m3 153 rfl) rfl
theorem q1387 : (Jvm.Cond.instanceMethod ({ cls := "java/lang/Exception", name := "<init>", desc := "(Ljava/lang/String;Ljava/lang/Throwable;ZZ)V" } : Jvm.MethodName)) ∈ lw_all := lw_g (lw_at lw_m6 75 rfl) rfl
theorem q1388 : (Jvm.Cond.code ({ cls := "java/lang/Exception", name := "<init>", desc := "(Ljava/lang/String;Ljava/lang/Throwable;ZZ)V" } : Jvm.MethodName) prog_34_method_5_code (5 : Nat) (Option.none : Option Jvm.ClassFile.FieldType)) ∈ lw_all := lw_g (lw_at lw_m6 76 rfl) rfl
theorem q1389 : (Jvm.Cond.methodLink "java/lang/Exception" (16 : Nat) ({ cls := "java/lang/Throwable", name := "<init>", desc := "(Ljava/lang/String;Ljava/lang/Throwable;ZZ)V" } : Jvm.MethodName)) ∈ lw_all := lw_g (lw_at lw_m6 77 rfl) rfl
theorem q123 : (Jvm.Cond.initialized "java/lang/RuntimeException") ∈ lw_all := lw_g (lw_at lw_m1 11 rfl) rfl
theorem q418 : (Jvm.Cond.declares ({ cls := "java/lang/RuntimeException", name := "<init>", desc := "()V" } : Jvm.MethodName)) ∈ lw_tbl := lw_at lw_m2 66 rfl
theorem q419 : (Jvm.Cond.declares ({ cls := "java/lang/RuntimeException", name := "<init>", desc := "(Ljava/lang/String;)V" } : Jvm.MethodName)) ∈ lw_tbl := lw_at lw_m2 67 rfl
theorem q466 : (Jvm.Cond.instanceMethod ({ cls := "java/lang/RuntimeException", name := "<init>", desc := "()V" } : Jvm.MethodName)) ∈ lw_all := lw_g (lw_at lw_m2 114 rfl) rfl
theorem q467 : (Jvm.Cond.code ({ cls := "java/lang/RuntimeException", name := "<init>", desc := "()V" } : Jvm.MethodName) prog_42_method_1_code (1 : Nat) (Option.none : Option Jvm.ClassFile.FieldType)) ∈ lw_all := lw_g (lw_at lw_m2 115 rfl) rfl
theorem q468 : (Jvm.Cond.methodLink "java/lang/RuntimeException" (1 : Nat) ({ cls := "java/lang/Exception", name := "<init>", desc := "()V" } : Jvm.MethodName)) ∈ lw_all := lw_g (lw_at lw_m2 116 rfl) rfl
theorem q740 : (Jvm.Cond.instanceMethod ({ cls := "java/lang/RuntimeException", name := "<init>", desc := "(Ljava/lang/String;)V" } : Jvm.MethodName)) ∈ lw_all := lw_g (lw_at lw_m3 148 rfl) rfl
theorem q741 : (Jvm.Cond.code ({ cls := "java/lang/RuntimeException", name := "<init>", desc := "(Ljava/lang/String;)V" } : Jvm.MethodName) prog_42_method_2_code (2 : Nat) (Option.none : Option Jvm.ClassFile.FieldType)) ∈ lw_all := lw_g (lw_at lw_m3 149 rfl) rfl
theorem q742 : (Jvm.Cond.methodLink "java/lang/RuntimeException" (7 : Nat) ({ cls := "java/lang/Exception", name := "<init>", desc := "(Ljava/lang/String;)V" } : Jvm.MethodName)) ∈ lw_all := lw_g (lw_at lw_m3 150 rfl) rfl
theorem q124 : (Jvm.Cond.initialized "java/lang/IllegalArgumentException") ∈ lw_all := lw_g (lw_at lw_m1 12 rfl) rfl
theorem q453 : (Jvm.Cond.selects "java/lang/IllegalArgumentException" ({ cls := "java/lang/Throwable", name := "fillInStackTrace", desc := "()Ljava/lang/Throwable;" } : Jvm.MethodName) ({ cls := "java/lang/Throwable", name := "fillInStackTrace", desc := "()Ljava/lang/Throwable;" } : Jvm.MethodName)) ∈ lw_all := lw_g (lw_at lw_m2 101 rfl) rfl
theorem q722 : (Jvm.Cond.instantiable "java/lang/IllegalArgumentException" (6 : Nat)) ∈ lw_all := lw_g (lw_at lw_m3 130 rfl) rfl
theorem q723 : (Jvm.Cond.castable "java/lang/IllegalArgumentException" "java/lang/IllegalArgumentException") ∈ lw_tbl := lw_at lw_m3 131 rfl
theorem q724 : (Jvm.Cond.selects "java/lang/IllegalArgumentException" ({ cls := "java/lang/Throwable", name := "fillInStackTrace", desc := "(I)Ljava/lang/Throwable;" } : Jvm.MethodName) ({ cls := "java/lang/Throwable", name := "fillInStackTrace", desc := "(I)Ljava/lang/Throwable;" } : Jvm.MethodName)) ∈ lw_all := lw_g (lw_at lw_m3 132 rfl) rfl
theorem q725 : (Jvm.Cond.lays "java/lang/IllegalArgumentException" "java/lang/Throwable" "cause" "Ljava/lang/Throwable;") ∈ lw_all := lw_g (lw_at lw_m3 133 rfl) rfl
theorem q726 : (Jvm.Cond.lays "java/lang/IllegalArgumentException" "java/lang/Throwable" "stackTrace" "[Ljava/lang/StackTraceElement;") ∈ lw_all := lw_g (lw_at lw_m3 134 rfl) rfl
theorem q727 : (Jvm.Cond.lays "java/lang/IllegalArgumentException" "java/lang/Throwable" "suppressedExceptions" "Ljava/util/List;") ∈ lw_all := lw_g (lw_at lw_m3 135 rfl) rfl
theorem q728 : (Jvm.Cond.lays "java/lang/IllegalArgumentException" "java/lang/Throwable" "detailMessage" "Ljava/lang/String;") ∈ lw_all := lw_g (lw_at lw_m3 136 rfl) rfl
theorem q729 : (Jvm.Cond.lays "java/lang/IllegalArgumentException" "java/lang/Throwable" "backtrace" "Ljava/lang/Object;") ∈ lw_all := lw_g (lw_at lw_m3 137 rfl) rfl
theorem q737 : (Jvm.Cond.instanceMethod ({ cls := "java/lang/IllegalArgumentException", name := "<init>", desc := "(Ljava/lang/String;)V" } : Jvm.MethodName)) ∈ lw_all := lw_g (lw_at lw_m3 145 rfl) rfl
theorem q738 : (Jvm.Cond.code ({ cls := "java/lang/IllegalArgumentException", name := "<init>", desc := "(Ljava/lang/String;)V" } : Jvm.MethodName) prog_35_method_2_code (2 : Nat) (Option.none : Option Jvm.ClassFile.FieldType)) ∈ lw_all := lw_g (lw_at lw_m3 146 rfl) rfl
theorem q739 : (Jvm.Cond.methodLink "java/lang/IllegalArgumentException" (7 : Nat) ({ cls := "java/lang/RuntimeException", name := "<init>", desc := "(Ljava/lang/String;)V" } : Jvm.MethodName)) ∈ lw_all := lw_g (lw_at lw_m3 147 rfl) rfl
theorem q748 : (Jvm.Cond.lays "java/lang/IllegalArgumentException" "java/lang/Throwable" "depth" "I") ∈ lw_all := lw_g (lw_at lw_m3 156 rfl) rfl
theorem q749 : (Jvm.Cond.superclass "java/lang/IllegalArgumentException" "java/lang/RuntimeException") ∈ lw_all := lw_g (lw_at lw_m3 157 rfl) rfl
theorem q1050 : (Jvm.Cond.selects "java/lang/IllegalArgumentException" ({ cls := "java/lang/Object", name := "getClass", desc := "()Ljava/lang/Class;" } : Jvm.MethodName) ({ cls := "java/lang/Object", name := "getClass", desc := "()Ljava/lang/Class;" } : Jvm.MethodName)) ∈ lw_all := lw_g (lw_at lw_m4 218 rfl) rfl
theorem q1208 : (Jvm.Cond.instanceMethod ({ cls := "java/lang/IllegalArgumentException", name := "<init>", desc := "()V" } : Jvm.MethodName)) ∈ lw_all := lw_g (lw_at lw_m5 136 rfl) rfl
theorem q1209 : (Jvm.Cond.code ({ cls := "java/lang/IllegalArgumentException", name := "<init>", desc := "()V" } : Jvm.MethodName) prog_35_method_1_code (1 : Nat) (Option.none : Option Jvm.ClassFile.FieldType)) ∈ lw_all := lw_g (lw_at lw_m5 137 rfl) rfl
theorem q1210 : (Jvm.Cond.methodLink "java/lang/IllegalArgumentException" (1 : Nat) ({ cls := "java/lang/RuntimeException", name := "<init>", desc := "()V" } : Jvm.MethodName)) ∈ lw_all := lw_g (lw_at lw_m5 138 rfl) rfl
theorem q1979 : (Jvm.Cond.selects "java/lang/IllegalArgumentException" ({ cls := "java/lang/Object", name := "equals", desc := "(Ljava/lang/Object;)Z" } : Jvm.MethodName) ({ cls := "java/lang/Object", name := "equals", desc := "(Ljava/lang/Object;)Z" } : Jvm.MethodName)) ∈ lw_all := lw_g (lw_at lw_m8 187 rfl) rfl
theorem q3359 : (Jvm.Cond.castable "java/lang/IllegalArgumentException" "java/lang/Object") ∈ lw_tbl := lw_at lw_m14 127 rfl
theorem q127 : (Jvm.Cond.initialized "java/lang/AbstractStringBuilder") ∈ lw_all := lw_g (lw_at lw_m1 15 rfl) rfl
theorem q512 : (Jvm.Cond.instanceMethod ({ cls := "java/lang/AbstractStringBuilder", name := "<init>", desc := "(I)V" } : Jvm.MethodName)) ∈ lw_all := lw_g (lw_at lw_m2 160 rfl) rfl
theorem q513 : (Jvm.Cond.code ({ cls := "java/lang/AbstractStringBuilder", name := "<init>", desc := "(I)V" } : Jvm.MethodName) prog_27_method_2_code (2 : Nat) (Option.none : Option Jvm.ClassFile.FieldType)) ∈ lw_all := lw_g (lw_at lw_m2 161 rfl) rfl
theorem q514 : (Jvm.Cond.methodLink "java/lang/AbstractStringBuilder" (3 : Nat) ({ cls := "java/lang/Object", name := "<init>", desc := "()V" } : Jvm.MethodName)) ∈ lw_all := lw_g (lw_at lw_m2 162 rfl) rfl
theorem q515 : (Jvm.Cond.fieldLink "java/lang/AbstractStringBuilder" (18 : Nat) "java/lang/String" "COMPACT_STRINGS" "Z") ∈ lw_all := lw_g (lw_at lw_m2 163 rfl) rfl
theorem q517 : (Jvm.Cond.methodLink "java/lang/AbstractStringBuilder" (26 : Nat) ({ cls := "java/lang/StringUTF16", name := "newBytesFor", desc := "(I)[B" } : Jvm.MethodName)) ∈ lw_all := lw_g (lw_at lw_m2 165 rfl) rfl
theorem q524 : (Jvm.Cond.fieldLink "java/lang/AbstractStringBuilder" (15 : Nat) "java/lang/AbstractStringBuilder" "value" "[B") ∈ lw_all := lw_g (lw_at lw_m2 172 rfl) rfl
theorem q525 : (Jvm.Cond.fieldLink "java/lang/AbstractStringBuilder" (22 : Nat) "java/lang/AbstractStringBuilder" "coder" "B") ∈ lw_all := lw_g (lw_at lw_m2 173 rfl) rfl
theorem q527 : (Jvm.Cond.fieldLink "java/lang/AbstractStringBuilder" (79 : Nat) "java/lang/AbstractStringBuilder" "count" "I") ∈ lw_all := lw_g (lw_at lw_m2 175 rfl) rfl
theorem q529 : (Jvm.Cond.soleField "java/lang/AbstractStringBuilder" "value") ∈ lw_all := lw_g (lw_at lw_m2 177 rfl) rfl
theorem q531 : (Jvm.Cond.soleField "java/lang/AbstractStringBuilder" "coder") ∈ lw_all := lw_g (lw_at lw_m2 179 rfl) rfl
theorem q533 : (Jvm.Cond.soleField "java/lang/AbstractStringBuilder" "maybeLatin1") ∈ lw_all := lw_g (lw_at lw_m2 181 rfl) rfl
theorem q535 : (Jvm.Cond.soleField "java/lang/AbstractStringBuilder" "count") ∈ lw_all := lw_g (lw_at lw_m2 183 rfl) rfl
theorem q544 : (Jvm.Cond.instanceMethod ({ cls := "java/lang/AbstractStringBuilder", name := "append", desc := "(Ljava/lang/String;)Ljava/lang/AbstractStringBuilder;" } : Jvm.MethodName)) ∈ lw_all := lw_g (lw_at lw_m2 192 rfl) rfl
theorem q545 : (Jvm.Cond.code ({ cls := "java/lang/AbstractStringBuilder", name := "append", desc := "(Ljava/lang/String;)Ljava/lang/AbstractStringBuilder;" } : Jvm.MethodName) prog_27_method_22_code (3 : Nat) (Option.some (Jvm.ClassFile.FieldType.object "java/lang/AbstractStringBuilder"))) ∈ lw_all := lw_g (lw_at lw_m2 193 rfl) rfl
theorem q546 : (Jvm.Cond.methodLink "java/lang/AbstractStringBuilder" (204 : Nat) ({ cls := "java/lang/AbstractStringBuilder", name := "appendNull", desc := "()Ljava/lang/AbstractStringBuilder;" } : Jvm.MethodName)) ∈ lw_all := lw_g (lw_at lw_m2 194 rfl) rfl
theorem q547 : (Jvm.Cond.privateMethod ({ cls := "java/lang/AbstractStringBuilder", name := "appendNull", desc := "()Ljava/lang/AbstractStringBuilder;" } : Jvm.MethodName)) ∈ lw_tbl := lw_at lw_m2 195 rfl
theorem q548 : (Jvm.Cond.instanceMethod ({ cls := "java/lang/AbstractStringBuilder", name := "appendNull", desc := "()Ljava/lang/AbstractStringBuilder;" } : Jvm.MethodName)) ∈ lw_all := lw_g (lw_at lw_m2 196 rfl) rfl
theorem q549 : (Jvm.Cond.code ({ cls := "java/lang/AbstractStringBuilder", name := "appendNull", desc := "()Ljava/lang/AbstractStringBuilder;" } : Jvm.MethodName) prog_27_method_26_code (3 : Nat) (Option.some (Jvm.ClassFile.FieldType.object "java/lang/AbstractStringBuilder"))) ∈ lw_all := lw_g (lw_at lw_m2 197 rfl) rfl
theorem q550 : (Jvm.Cond.methodLink "java/lang/AbstractStringBuilder" (100 : Nat) ({ cls := "java/lang/AbstractStringBuilder", name := "ensureCapacityInternal", desc := "(I)V" } : Jvm.MethodName)) ∈ lw_all := lw_g (lw_at lw_m2 198 rfl) rfl
theorem q551 : (Jvm.Cond.privateMethod ({ cls := "java/lang/AbstractStringBuilder", name := "ensureCapacityInternal", desc := "(I)V" } : Jvm.MethodName)) ∈ lw_tbl := lw_at lw_m2 199 rfl
theorem q552 : (Jvm.Cond.instanceMethod ({ cls := "java/lang/AbstractStringBuilder", name := "ensureCapacityInternal", desc := "(I)V" } : Jvm.MethodName)) ∈ lw_all := lw_g (lw_at lw_m2 200 rfl) rfl
theorem q553 : (Jvm.Cond.code ({ cls := "java/lang/AbstractStringBuilder", name := "ensureCapacityInternal", desc := "(I)V" } : Jvm.MethodName) prog_27_method_9_code (3 : Nat) (Option.none : Option Jvm.ClassFile.FieldType)) ∈ lw_all := lw_g (lw_at lw_m2 201 rfl) rfl
theorem q554 : (Jvm.Cond.methodLink "java/lang/AbstractStringBuilder" (104 : Nat) ({ cls := "java/lang/AbstractStringBuilder", name := "newCapacity", desc := "(I)I" } : Jvm.MethodName)) ∈ lw_all := lw_g (lw_at lw_m2 202 rfl) rfl
theorem q555 : (Jvm.Cond.privateMethod ({ cls := "java/lang/AbstractStringBuilder", name := "newCapacity", desc := "(I)I" } : Jvm.MethodName)) ∈ lw_tbl := lw_at lw_m2 203 rfl
theorem q556 : (Jvm.Cond.instanceMethod ({ cls := "java/lang/AbstractStringBuilder", name := "newCapacity", desc := "(I)I" } : Jvm.MethodName)) ∈ lw_all := lw_g (lw_at lw_m2 204 rfl) rfl
theorem q557 : (Jvm.Cond.code ({ cls := "java/lang/AbstractStringBuilder", name := "newCapacity", desc := "(I)I" } : Jvm.MethodName) prog_27_method_10_code (6 : Nat) (Option.some Jvm.ClassFile.FieldType.int)) ∈ lw_all := lw_g (lw_at lw_m2 205 rfl) rfl
theorem q558 : (Jvm.Cond.methodLink "java/lang/AbstractStringBuilder" (114 : Nat) ({ cls := "jdk/internal/util/ArraysSupport", name := "newLength", desc := "(III)I" } : Jvm.MethodName)) ∈ lw_all := lw_g (lw_at lw_m2 206 rfl) rfl
theorem q568 : (Jvm.Cond.constant "java/lang/AbstractStringBuilder" (39 : Nat) (2147483647 : Int32)) ∈ lw_all := lw_g (lw_at lw_m2 216 rfl) rfl
theorem q569 : (Jvm.Cond.methodLink "java/lang/AbstractStringBuilder" (108 : Nat) ({ cls := "java/util/Arrays", name := "copyOf", desc := "([BI)[B" } : Jvm.MethodName)) ∈ lw_all := lw_g (lw_at lw_m2 217 rfl) rfl
theorem q585 : (Jvm.Cond.methodLink "java/lang/AbstractStringBuilder" (83 : Nat) ({ cls := "java/lang/AbstractStringBuilder", name := "isLatin1", desc := "()Z" } : Jvm.MethodName)) ∈ lw_all := lw_g (lw_at lw_m2 233 rfl) rfl
theorem q586 : (Jvm.Cond.instanceMethod ({ cls := "java/lang/AbstractStringBuilder", name := "isLatin1", desc := "()Z" } : Jvm.MethodName)) ∈ lw_all := lw_g (lw_at lw_m2 234 rfl) rfl
theorem q587 : (Jvm.Cond.sameMethod "java/lang/AbstractStringBuilder" "java/lang/AbstractStringBuilder" "isLatin1" "()Z") ∈ lw_all := lw_g (lw_at lw_m2 235 rfl) rfl
theorem q589 : (Jvm.Cond.code ({ cls := "java/lang/AbstractStringBuilder", name := "isLatin1", desc := "()Z" } : Jvm.MethodName) prog_27_method_68_code (1 : Nat) (Option.some Jvm.ClassFile.FieldType.boolean)) ∈ lw_all := lw_g (lw_at lw_m2 237 rfl) rfl
theorem q590 : (Jvm.Cond.methodLink "java/lang/AbstractStringBuilder" (226 : Nat) ({ cls := "java/lang/StringUTF16", name := "putCharsAt", desc := "([BICCCC)I" } : Jvm.MethodName)) ∈ lw_all := lw_g (lw_at lw_m2 238 rfl) rfl
theorem q616 : (Jvm.Cond.methodLink "java/lang/AbstractStringBuilder" (32 : Nat) ({ cls := "java/lang/String", name := "length", desc := "()I" } : Jvm.MethodName)) ∈ lw_all := lw_g (lw_at lw_m3 24 rfl) rfl
theorem q625 : (Jvm.Cond.methodLink "java/lang/AbstractStringBuilder" (208 : Nat) ({ cls := "java/lang/AbstractStringBuilder", name := "putStringAt", desc := "(ILjava/lang/String;)V" } : Jvm.MethodName)) ∈ lw_all := lw_g (lw_at lw_m3 33 rfl) rfl
theorem q626 : (Jvm.Cond.privateMethod ({ cls := "java/lang/AbstractStringBuilder", name := "putStringAt", desc := "(ILjava/lang/String;)V" } : Jvm.MethodName)) ∈ lw_tbl := lw_at lw_m3 34 rfl
theorem q627 : (Jvm.Cond.instanceMethod ({ cls := "java/lang/AbstractStringBuilder", name := "putStringAt", desc := "(ILjava/lang/String;)V" } : Jvm.MethodName)) ∈ lw_all := lw_g (lw_at lw_m3 35 rfl) rfl
theorem q628 : (Jvm.Cond.code ({ cls := "java/lang/AbstractStringBuilder", name := "putStringAt", desc := "(ILjava/lang/String;)V" } : Jvm.MethodName) prog_27_method_73_code (3 : Nat) (Option.none : Option Jvm.ClassFile.FieldType)) ∈ lw_all := lw_g (lw_at lw_m3 36 rfl) rfl
theorem q629 : (Jvm.Cond.methodLink "java/lang/AbstractStringBuilder" (397 : Nat) ({ cls := "java/lang/AbstractStringBuilder", name := "inflateIfNeededFor", desc := "(Ljava/lang/String;)V" } : Jvm.MethodName)) ∈ lw_all := lw_g (lw_at lw_m3 37 rfl) rfl
theorem q630 : (Jvm.Cond.privateMethod ({ cls := "java/lang/AbstractStringBuilder", name := "inflateIfNeededFor", desc := "(Ljava/lang/String;)V" } : Jvm.MethodName)) ∈ lw_tbl := lw_at lw_m3 38 rfl
theorem q631 : (Jvm.Cond.instanceMethod ({ cls := "java/lang/AbstractStringBuilder", name := "inflateIfNeededFor", desc := "(Ljava/lang/String;)V" } : Jvm.MethodName)) ∈ lw_all := lw_g (lw_at lw_m3 39 rfl) rfl
theorem q632 : (Jvm.Cond.code ({ cls := "java/lang/AbstractStringBuilder", name := "inflateIfNeededFor", desc := "(Ljava/lang/String;)V" } : Jvm.MethodName) prog_27_method_71_code (2 : Nat) (Option.none : Option Jvm.ClassFile.FieldType)) ∈ lw_all := lw_g (lw_at lw_m3 40 rfl) rfl
theorem q633 : (Jvm.Cond.methodLink "java/lang/AbstractStringBuilder" (40 : Nat) ({ cls := "java/lang/String", name := "coder", desc := "()B" } : Jvm.MethodName)) ∈ lw_all := lw_g (lw_at lw_m3 41 rfl) rfl
theorem q634 : (Jvm.Cond.methodLink "java/lang/AbstractStringBuilder" (195 : Nat) ({ cls := "java/lang/AbstractStringBuilder", name := "inflate", desc := "()V" } : Jvm.MethodName)) ∈ lw_all := lw_g (lw_at lw_m3 42 rfl) rfl
theorem q635 : (Jvm.Cond.privateMethod ({ cls := "java/lang/AbstractStringBuilder", name := "inflate", desc := "()V" } : Jvm.MethodName)) ∈ lw_tbl := lw_at lw_m3 43 rfl
theorem q636 : (Jvm.Cond.instanceMethod ({ cls := "java/lang/AbstractStringBuilder", name := "inflate", desc := "()V" } : Jvm.MethodName)) ∈ lw_all := lw_g (lw_at lw_m3 44 rfl) rfl
theorem q637 : (Jvm.Cond.code ({ cls := "java/lang/AbstractStringBuilder", name := "inflate", desc := "()V" } : Jvm.MethodName) prog_27_method_11_code (2 : Nat) (Option.none : Option Jvm.ClassFile.FieldType)) ∈ lw_all := lw_g (lw_at lw_m3 45 rfl) rfl
theorem q638 : (Jvm.Cond.methodLink "java/lang/AbstractStringBuilder" (125 : Nat) ({ cls := "java/lang/StringLatin1", name := "inflate", desc := "([BI[BII)V" } : Jvm.MethodName)) ∈ lw_all := lw_g (lw_at lw_m3 46 rfl) rfl
theorem q653 : (Jvm.Cond.methodLink "java/lang/AbstractStringBuilder" (399 : Nat) ({ cls := "java/lang/String", name := "getBytes", desc := "([BIB)V" } : Jvm.MethodName)) ∈ lw_all := lw_g (lw_at lw_m3 61 rfl) rfl
theorem q664 : (Jvm.Cond.instanceMethod ({ cls := "java/lang/AbstractStringBuilder", name := "append", desc := "(I)Ljava/lang/AbstractStringBuilder;" } : Jvm.MethodName)) ∈ lw_all := lw_g (lw_at lw_m3 72 rfl) rfl
theorem q665 : (Jvm.Cond.code ({ cls := "java/lang/AbstractStringBuilder", name := "append", desc := "(I)Ljava/lang/AbstractStringBuilder;" } : Jvm.MethodName) prog_27_method_32_code (4 : Nat) (Option.some (Jvm.ClassFile.FieldType.object "java/lang/AbstractStringBuilder"))) ∈ lw_all := lw_g (lw_at lw_m3 73 rfl) rfl
theorem q666 : (Jvm.Cond.methodLink "java/lang/AbstractStringBuilder" (245 : Nat) ({ cls := "java/lang/Integer", name := "stringSize", desc := "(I)I" } : Jvm.MethodName)) ∈ lw_all := lw_g (lw_at lw_m3 74 rfl) rfl
theorem q669 : (Jvm.Cond.methodLink "java/lang/AbstractStringBuilder" (248 : Nat) ({ cls := "java/lang/Integer", name := "getChars", desc := "(II[B)I" } : Jvm.MethodName)) ∈ lw_all := lw_g (lw_at lw_m3 77 rfl) rfl
theorem q676 : (Jvm.Cond.methodLink "java/lang/AbstractStringBuilder" (251 : Nat) ({ cls := "java/lang/StringUTF16", name := "getChars", desc := "(III[B)I" } : Jvm.MethodName)) ∈ lw_all := lw_g (lw_at lw_m3 84 rfl) rfl
theorem q699 : (Jvm.Cond.instanceMethod ({ cls := "java/lang/AbstractStringBuilder", name := "getValue", desc := "()[B" } : Jvm.MethodName)) ∈ lw_all := lw_g (lw_at lw_m3 107 rfl) rfl
theorem q700 : (Jvm.Cond.sameMethod "java/lang/AbstractStringBuilder" "java/lang/AbstractStringBuilder" "getValue" "()[B") ∈ lw_all := lw_g (lw_at lw_m3 108 rfl) rfl
theorem q702 : (Jvm.Cond.code ({ cls := "java/lang/AbstractStringBuilder", name := "getValue", desc := "()[B" } : Jvm.MethodName) prog_27_method_64_code (1 : Nat) (Option.some (Jvm.ClassFile.FieldType.array Jvm.ClassFile.FieldType.byte))) ∈ lw_all := lw_g (lw_at lw_m3 110 rfl) rfl
theorem q704 : (Jvm.Cond.instanceMethod ({ cls := "java/lang/AbstractStringBuilder", name := "length", desc := "()I" } : Jvm.MethodName)) ∈ lw_all := lw_g (lw_at lw_m3 112 rfl) rfl
theorem q705 : (Jvm.Cond.sameMethod "java/lang/AbstractStringBuilder" "java/lang/AbstractStringBuilder" "length" "()I") ∈ lw_all := lw_g (lw_at lw_m3 113 rfl) rfl
theorem q710 : (Jvm.Cond.code ({ cls := "java/lang/AbstractStringBuilder", name := "length", desc := "()I" } : Jvm.MethodName) prog_27_method_6_code (1 : Nat) (Option.some Jvm.ClassFile.FieldType.int)) ∈ lw_all := lw_g (lw_at lw_m3 118 rfl) rfl
theorem q1240 : (Jvm.Cond.instanceMethod ({ cls := "java/lang/AbstractStringBuilder", name := "append", desc := "(C)Ljava/lang/AbstractStringBuilder;" } : Jvm.MethodName)) ∈ lw_all := lw_g (lw_at lw_m5 168 rfl) rfl
theorem q1241 : (Jvm.Cond.code ({ cls := "java/lang/AbstractStringBuilder", name := "append", desc := "(C)Ljava/lang/AbstractStringBuilder;" } : Jvm.MethodName) prog_27_method_31_code (2 : Nat) (Option.some (Jvm.ClassFile.FieldType.object "java/lang/AbstractStringBuilder"))) ∈ lw_all := lw_g (lw_at lw_m5 169 rfl) rfl
theorem q1242 : (Jvm.Cond.methodLink "java/lang/AbstractStringBuilder" (191 : Nat) ({ cls := "java/lang/StringLatin1", name := "canEncode", desc := "(C)Z" } : Jvm.MethodName)) ∈ lw_all := lw_g (lw_at lw_m5 170 rfl) rfl
theorem q1245 : (Jvm.Cond.methodLink "java/lang/AbstractStringBuilder" (197 : Nat) ({ cls := "java/lang/StringUTF16", name := "putCharSB", desc := "([BII)V" } : Jvm.MethodName)) ∈ lw_all := lw_g (lw_at lw_m5 173 rfl) rfl
theorem q2382 : (Jvm.Cond.instanceMethod ({ cls := "java/lang/AbstractStringBuilder", name := "<init>", desc := "(Ljava/lang/String;)V" } : Jvm.MethodName)) ∈ lw_all := lw_g (lw_at lw_m10 110 rfl) rfl
theorem q2383 : (Jvm.Cond.code ({ cls := "java/lang/AbstractStringBuilder", name := "<init>", desc := "(Ljava/lang/String;)V" } : Jvm.MethodName) prog_27_method_3_code (5 : Nat) (Option.none : Option Jvm.ClassFile.FieldType)) ∈ lw_all := lw_g (lw_at lw_m10 111 rfl) rfl
theorem q2384 : (Jvm.Cond.constant "java/lang/AbstractStringBuilder" (38 : Nat) (2147483631 : Int32)) ∈ lw_all := lw_g (lw_at lw_m10 112 rfl) rfl
theorem q2385 : (Jvm.Cond.methodLink "java/lang/AbstractStringBuilder" (43 : Nat) ({ cls := "java/lang/AbstractStringBuilder", name := "append", desc := "(Ljava/lang/String;)Ljava/lang/AbstractStringBuilder;" } : Jvm.MethodName)) ∈ lw_all := lw_g (lw_at lw_m10 113 rfl) rfl
theorem q3337 : (Jvm.Cond.sameMethod "java/lang/AbstractStringBuilder" "java/lang/AbstractStringBuilder" "append" "(Ljava/lang/String;)Ljava/lang/AbstractStringBuilder;") ∈ lw_all := lw_g (lw_at lw_m14 105 rfl) rfl
theorem q3338 : (Jvm.Cond.sameMethod "java/lang/AbstractStringBuilder" "java/lang/AbstractStringBuilder" "appendNull" "()Ljava/lang/AbstractStringBuilder;") ∈ lw_all := lw_g (lw_at lw_m14 106 rfl) rfl
theorem q3339 : (Jvm.Cond.sameMethod "java/lang/AbstractStringBuilder" "java/lang/AbstractStringBuilder" "ensureCapacityInternal" "(I)V") ∈ lw_all := lw_g (lw_at lw_m14 107 rfl) rfl
theorem q3340 : (Jvm.Cond.sameMethod "java/lang/AbstractStringBuilder" "java/lang/AbstractStringBuilder" "newCapacity" "(I)I") ∈ lw_all := lw_g (lw_at lw_m14 108 rfl) rfl
theorem q3341 : (Jvm.Cond.sameMethod "java/lang/AbstractStringBuilder" "java/lang/AbstractStringBuilder" "putStringAt" "(ILjava/lang/String;)V") ∈ lw_all := lw_g (lw_at lw_m14 109 rfl) rfl
theorem q3342 : (Jvm.Cond.sameMethod "java/lang/AbstractStringBuilder" "java/lang/AbstractStringBuilder" "inflateIfNeededFor" "(Ljava/lang/String;)V") ∈ lw_all := lw_g (lw_at lw_m14 110 rfl) rfl
theorem q3343 : (Jvm.Cond.sameMethod "java/lang/AbstractStringBuilder" "java/lang/AbstractStringBuilder" "inflate" "()V") ∈ lw_all := lw_g (lw_at lw_m14 111 rfl) rfl
theorem q3344 : (Jvm.Cond.sameMethod "java/lang/AbstractStringBuilder" "java/lang/AbstractStringBuilder" "append" "(I)Ljava/lang/AbstractStringBuilder;") ∈ lw_all := lw_g (lw_at lw_m14 112 rfl) rfl
theorem q3345 : (Jvm.Cond.sameMethod "java/lang/AbstractStringBuilder" "java/lang/AbstractStringBuilder" "append" "(C)Ljava/lang/AbstractStringBuilder;") ∈ lw_all := lw_g (lw_at lw_m14 113 rfl) rfl
theorem q128 : (Jvm.Cond.initialized "java/lang/StringBuilder") ∈ lw_all := lw_g (lw_at lw_m1 16 rfl) rfl
theorem q507 : (Jvm.Cond.instantiable "java/lang/StringBuilder" (4 : Nat)) ∈ lw_all := lw_g (lw_at lw_m2 155 rfl) rfl
theorem q509 : (Jvm.Cond.instanceMethod ({ cls := "java/lang/StringBuilder", name := "<init>", desc := "()V" } : Jvm.MethodName)) ∈ lw_all := lw_g (lw_at lw_m2 157 rfl) rfl
theorem q510 : (Jvm.Cond.code ({ cls := "java/lang/StringBuilder", name := "<init>", desc := "()V" } : Jvm.MethodName) prog_44_method_1_code (1 : Nat) (Option.none : Option Jvm.ClassFile.FieldType)) ∈ lw_all := lw_g (lw_at lw_m2 158 rfl) rfl
theorem q511 : (Jvm.Cond.methodLink "java/lang/StringBuilder" (1 : Nat) ({ cls := "java/lang/AbstractStringBuilder", name := "<init>", desc := "(I)V" } : Jvm.MethodName)) ∈ lw_all := lw_g (lw_at lw_m2 159 rfl) rfl
theorem q528 : (Jvm.Cond.lays "java/lang/StringBuilder" "java/lang/AbstractStringBuilder" "value" "[B") ∈ lw_all := lw_g (lw_at lw_m2 176 rfl) rfl
theorem q530 : (Jvm.Cond.lays "java/lang/StringBuilder" "java/lang/AbstractStringBuilder" "coder" "B") ∈ lw_all := lw_g (lw_at lw_m2 178 rfl) rfl
theorem q532 : (Jvm.Cond.lays "java/lang/StringBuilder" "java/lang/AbstractStringBuilder" "maybeLatin1" "Z") ∈ lw_all := lw_g (lw_at lw_m2 180 rfl) rfl
theorem q534 : (Jvm.Cond.lays "java/lang/StringBuilder" "java/lang/AbstractStringBuilder" "count" "I") ∈ lw_all := lw_g (lw_at lw_m2 182 rfl) rfl
theorem q536 : (Jvm.Cond.superclass "java/lang/StringBuilder" "java/lang/AbstractStringBuilder") ∈ lw_all := lw_g (lw_at lw_m2 184 rfl) rfl
theorem q540 : (Jvm.Cond.instanceMethod ({ cls := "java/lang/StringBuilder", name := "append", desc := "(Ljava/lang/String;)Ljava/lang/StringBuilder;" } : Jvm.MethodName)) ∈ lw_all := lw_g (lw_at lw_m2 188 rfl) rfl
theorem q541 : (Jvm.Cond.selects "java/lang/StringBuilder" ({ cls := "java/lang/StringBuilder", name := "append", desc := "(Ljava/lang/String;)Ljava/lang/StringBuilder;" } : Jvm.MethodName) ({ cls := "java/lang/StringBuilder", name := "append", desc := "(Ljava/lang/String;)Ljava/lang/StringBuilder;" } : Jvm.MethodName)) ∈ lw_all := lw_g (lw_at lw_m2 189 rfl) rfl
theorem q542 : (Jvm.Cond.code ({ cls := "java/lang/StringBuilder", name := "append", desc := "(Ljava/lang/String;)Ljava/lang/StringBuilder;" } : Jvm.MethodName) prog_44_method_7_code (2 : Nat) (Option.some (Jvm.ClassFile.FieldType.object "java/lang/StringBuilder"))) ∈ lw_all := lw_g (lw_at lw_m2 190 rfl) rfl
theorem q543 : (Jvm.Cond.methodLink "java/lang/StringBuilder" (29 : Nat) ({ cls := "java/lang/AbstractStringBuilder", name := "append", desc := "(Ljava/lang/String;)Ljava/lang/AbstractStringBuilder;" } : Jvm.MethodName)) ∈ lw_all := lw_g (lw_at lw_m2 191 rfl) rfl
theorem q588 : (Jvm.Cond.selects "java/lang/StringBuilder" ({ cls := "java/lang/AbstractStringBuilder", name := "isLatin1", desc := "()Z" } : Jvm.MethodName) ({ cls := "java/lang/AbstractStringBuilder", name := "isLatin1", desc := "()Z" } : Jvm.MethodName)) ∈ lw_all := lw_g (lw_at lw_m2 236 rfl) rfl
theorem q660 : (Jvm.Cond.instanceMethod ({ cls := "java/lang/StringBuilder", name := "append", desc := "(I)Ljava/lang/StringBuilder;" } : Jvm.MethodName)) ∈ lw_all := lw_g (lw_at lw_m3 68 rfl) rfl
theorem q661 : (Jvm.Cond.selects "java/lang/StringBuilder" ({ cls := "java/lang/StringBuilder", name := "append", desc := "(I)Ljava/lang/StringBuilder;" } : Jvm.MethodName) ({ cls := "java/lang/StringBuilder", name := "append", desc := "(I)Ljava/lang/StringBuilder;" } : Jvm.MethodName)) ∈ lw_all := lw_g (lw_at lw_m3 69 rfl) rfl
theorem q662 : (Jvm.Cond.code ({ cls := "java/lang/StringBuilder", name := "append", desc := "(I)Ljava/lang/StringBuilder;" } : Jvm.MethodName) prog_44_method_15_code (2 : Nat) (Option.some (Jvm.ClassFile.FieldType.object "java/lang/StringBuilder"))) ∈ lw_all := lw_g (lw_at lw_m3 70 rfl) rfl
theorem q663 : (Jvm.Cond.methodLink "java/lang/StringBuilder" (53 : Nat) ({ cls := "java/lang/AbstractStringBuilder", name := "append", desc := "(I)Ljava/lang/AbstractStringBuilder;" } : Jvm.MethodName)) ∈ lw_all := lw_g (lw_at lw_m3 71 rfl) rfl
theorem q686 : (Jvm.Cond.instanceMethod ({ cls := "java/lang/StringBuilder", name := "toString", desc := "()Ljava/lang/String;" } : Jvm.MethodName)) ∈ lw_all := lw_g (lw_at lw_m3 94 rfl) rfl
theorem q687 : (Jvm.Cond.selects "java/lang/StringBuilder" ({ cls := "java/lang/StringBuilder", name := "toString", desc := "()Ljava/lang/String;" } : Jvm.MethodName) ({ cls := "java/lang/StringBuilder", name := "toString", desc := "()Ljava/lang/String;" } : Jvm.MethodName)) ∈ lw_all := lw_g (lw_at lw_m3 95 rfl) rfl
theorem q688 : (Jvm.Cond.code ({ cls := "java/lang/StringBuilder", name := "toString", desc := "()Ljava/lang/String;" } : Jvm.MethodName) prog_44_method_42_code (1 : Nat) (Option.some (Jvm.ClassFile.FieldType.object "java/lang/String"))) ∈ lw_all := lw_g (lw_at lw_m3 96 rfl) rfl
theorem q689 : (Jvm.Cond.classLink "java/lang/StringBuilder" (18 : Nat) "java/lang/String") ∈ lw_all := lw_g (lw_at lw_m3 97 rfl) rfl
theorem q691 : (Jvm.Cond.methodLink "java/lang/StringBuilder" (137 : Nat) ({ cls := "java/lang/String", name := "<init>", desc := "(Ljava/lang/StringBuilder;)V" } : Jvm.MethodName)) ∈ lw_all := lw_g (lw_at lw_m3 99 rfl) rfl
theorem q701 : (Jvm.Cond.selects "java/lang/StringBuilder" ({ cls := "java/lang/AbstractStringBuilder", name := "getValue", desc := "()[B" } : Jvm.MethodName) ({ cls := "java/lang/AbstractStringBuilder", name := "getValue", desc := "()[B" } : Jvm.MethodName)) ∈ lw_all := lw_g (lw_at lw_m3 109 rfl) rfl
theorem q706 : (Jvm.Cond.selects "java/lang/StringBuilder" ({ cls := "java/lang/AbstractStringBuilder", name := "length", desc := "()I" } : Jvm.MethodName) ({ cls := "java/lang/StringBuilder", name := "length", desc := "()I" } : Jvm.MethodName)) ∈ lw_all := lw_g (lw_at lw_m3 114 rfl) rfl
theorem q707 : (Jvm.Cond.instanceMethod ({ cls := "java/lang/StringBuilder", name := "length", desc := "()I" } : Jvm.MethodName)) ∈ lw_all := lw_g (lw_at lw_m3 115 rfl) rfl
theorem q708 : (Jvm.Cond.code ({ cls := "java/lang/StringBuilder", name := "length", desc := "()I" } : Jvm.MethodName) prog_44_method_93_code (1 : Nat) (Option.some Jvm.ClassFile.FieldType.int)) ∈ lw_all := lw_g (lw_at lw_m3 116 rfl) rfl
theorem q709 : (Jvm.Cond.methodLink "java/lang/StringBuilder" (343 : Nat) ({ cls := "java/lang/AbstractStringBuilder", name := "length", desc := "()I" } : Jvm.MethodName)) ∈ lw_all := lw_g (lw_at lw_m3 117 rfl) rfl
theorem q1054 : (Jvm.Cond.selects "java/lang/StringBuilder" ({ cls := "java/lang/Object", name := "getClass", desc := "()Ljava/lang/Class;" } : Jvm.MethodName) ({ cls := "java/lang/Object", name := "getClass", desc := "()Ljava/lang/Class;" } : Jvm.MethodName)) ∈ lw_all := lw_g (lw_at lw_m4 222 rfl) rfl
theorem q1236 : (Jvm.Cond.instanceMethod ({ cls := "java/lang/StringBuilder", name := "append", desc := "(C)Ljava/lang/StringBuilder;" } : Jvm.MethodName)) ∈ lw_all := lw_g (lw_at lw_m5 164 rfl) rfl
theorem q1237 : (Jvm.Cond.selects "java/lang/StringBuilder" ({ cls := "java/lang/StringBuilder", name := "append", desc := "(C)Ljava/lang/StringBuilder;" } : Jvm.MethodName) ({ cls := "java/lang/StringBuilder", name := "append", desc := "(C)Ljava/lang/StringBuilder;" } : Jvm.MethodName)) ∈ lw_all := lw_g (lw_at lw_m5 165 rfl) rfl
theorem q1238 : (Jvm.Cond.code ({ cls := "java/lang/StringBuilder", name := "append", desc := "(C)Ljava/lang/StringBuilder;" } : Jvm.MethodName) prog_44_method_14_code (2 : Nat) (Option.some (Jvm.ClassFile.FieldType.object "java/lang/StringBuilder"))) ∈ lw_all := lw_g (lw_at lw_m5 166 rfl) rfl
theorem q1239 : (Jvm.Cond.methodLink "java/lang/StringBuilder" (50 : Nat) ({ cls := "java/lang/AbstractStringBuilder", name := "append", desc := "(C)Ljava/lang/AbstractStringBuilder;" } : Jvm.MethodName)) ∈ lw_all := lw_g (lw_at lw_m5 167 rfl) rfl
theorem q1986 : (Jvm.Cond.selects "java/lang/StringBuilder" ({ cls := "java/lang/Object", name := "equals", desc := "(Ljava/lang/Object;)Z" } : Jvm.MethodName) ({ cls := "java/lang/Object", name := "equals", desc := "(Ljava/lang/Object;)Z" } : Jvm.MethodName)) ∈ lw_all := lw_g (lw_at lw_m8 194 rfl) rfl
theorem q2379 : (Jvm.Cond.instanceMethod ({ cls := "java/lang/StringBuilder", name := "<init>", desc := "(Ljava/lang/String;)V" } : Jvm.MethodName)) ∈ lw_all := lw_g (lw_at lw_m10 107 rfl) rfl
theorem q2380 : (Jvm.Cond.code ({ cls := "java/lang/StringBuilder", name := "<init>", desc := "(Ljava/lang/String;)V" } : Jvm.MethodName) prog_44_method_3_code (2 : Nat) (Option.none : Option Jvm.ClassFile.FieldType)) ∈ lw_all := lw_g (lw_at lw_m10 108 rfl) rfl
theorem q2381 : (Jvm.Cond.methodLink "java/lang/StringBuilder" (7 : Nat) ({ cls := "java/lang/AbstractStringBuilder", name := "<init>", desc := "(Ljava/lang/String;)V" } : Jvm.MethodName)) ∈ lw_all := lw_g (lw_at lw_m10 109 rfl) rfl
theorem q2386 : (Jvm.Cond.instanceMethod ({ cls := "java/lang/StringBuilder", name := "append", desc := "(Ljava/lang/String;)Ljava/lang/AbstractStringBuilder;" } : Jvm.MethodName)) ∈ lw_all := lw_g (lw_at lw_m10 114 rfl) rfl
theorem q2387 : (Jvm.Cond.code ({ cls := "java/lang/StringBuilder", name := "append", desc := "(Ljava/lang/String;)Ljava/lang/AbstractStringBuilder;" } : Jvm.MethodName) prog_44_method_80_code (2 : Nat) (Option.some (Jvm.ClassFile.FieldType.object "java/lang/AbstractStringBuilder"))) ∈ lw_all := lw_g (lw_at lw_m10 115 rfl) rfl
theorem q2388 : (Jvm.Cond.methodLink "java/lang/StringBuilder" (23 : Nat) ({ cls := "java/lang/StringBuilder", name := "append", desc := "(Ljava/lang/String;)Ljava/lang/StringBuilder;" } : Jvm.MethodName)) ∈ lw_all := lw_g (lw_at lw_m10 116 rfl) rfl
theorem q3346 : (Jvm.Cond.selects "java/lang/StringBuilder" ({ cls := "java/lang/AbstractStringBuilder", name := "append", desc := "(Ljava/lang/String;)Ljava/lang/AbstractStringBuilder;" } : Jvm.MethodName) ({ cls := "java/lang/StringBuilder", name := "append", desc := "(Ljava/lang/String;)Ljava/lang/AbstractStringBuilder;" } : Jvm.MethodName)) ∈ lw_all := lw_g (lw_at lw_m14 114 rfl) rfl
theorem q3347 : (Jvm.Cond.selects "java/lang/StringBuilder" ({ cls := "java/lang/StringBuilder", name := "length", desc := "()I" } : Jvm.MethodName) ({ cls := "java/lang/StringBuilder", name := "length", desc := "()I" } : Jvm.MethodName)) ∈ lw_all := lw_g (lw_at lw_m14 115 rfl) rfl
theorem q3362 : (Jvm.Cond.castable "java/lang/StringBuilder" "java/lang/Object") ∈ lw_tbl := lw_at lw_m14 130 rfl
theorem q112 : (Jvm.Cond.initialized "SharedTaxisLaw") ∈ lw_all := lw_g (lw_at lw_m1 0 rfl) rfl
theorem q164 : (Jvm.Cond.classLink "SharedTaxisLaw" (8 : Nat) "SharedTaxis") ∈ lw_all := lw_g (lw_at lw_m1 52 rfl) rfl
theorem q166 : (Jvm.Cond.methodLink "SharedTaxisLaw" (99 : Nat) ({ cls := "SharedTaxis", name := "<init>", desc := "()V" } : Jvm.MethodName)) ∈ lw_all := lw_g (lw_at lw_m1 54 rfl) rfl
theorem q322 : (Jvm.Cond.methodLink "SharedTaxisLaw" (103 : Nat) ({ cls := "SharedTaxis", name := "feed", desc := "(IIIII)I" } : Jvm.MethodName)) ∈ lw_all := lw_g (lw_at lw_m1 210 rfl) rfl
theorem q330 : (Jvm.Cond.methodLink "SharedTaxisLaw" (117 : Nat) ({ cls := "SharedTaxis", name := "errorPosition", desc := "()I" } : Jvm.MethodName)) ∈ lw_all := lw_g (lw_at lw_m1 218 rfl) rfl
theorem q334 : (Jvm.Cond.methodLink "SharedTaxisLaw" (165 : Nat) ({ cls := "SharedTaxis", name := "meanFare", desc := "()D" } : Jvm.MethodName)) ∈ lw_all := lw_g (lw_at lw_m1 222 rfl) rfl
theorem q801 : (Jvm.Cond.methodLink "SharedTaxisLaw" (170 : Nat) ({ cls := "SharedTaxis", name := "sharedPart", desc := "()F" } : Jvm.MethodName)) ∈ lw_all := lw_g (lw_at lw_m3 209 rfl) rfl
theorem q806 : (Jvm.Cond.methodLink "SharedTaxisLaw" (209 : Nat) ({ cls := "SharedTaxis", name := "formattedByte", desc := "(I)I" } : Jvm.MethodName)) ∈ lw_all := lw_g (lw_at lw_m3 214 rfl) rfl
theorem q836 : (Jvm.Cond.methodLink "SharedTaxisLaw" (213 : Nat) ({ cls := "SharedTaxis", name := "undoCount", desc := "()I" } : Jvm.MethodName)) ∈ lw_all := lw_g (lw_at lw_m4 4 rfl) rfl
theorem q847 : (Jvm.Cond.methodLink "SharedTaxisLaw" (217 : Nat) ({ cls := "SharedTaxis", name := "undo", desc := "()I" } : Jvm.MethodName)) ∈ lw_all := lw_g (lw_at lw_m4 15 rfl) rfl
theorem q871 : (Jvm.Cond.methodLink "SharedTaxisLaw" (221 : Nat) ({ cls := "SharedTaxis", name := "saveSnapshot", desc := "()V" } : Jvm.MethodName)) ∈ lw_all := lw_g (lw_at lw_m4 39 rfl) rfl
theorem q1183 : (Jvm.Cond.methodLink "SharedTaxisLaw" (225 : Nat) ({ cls := "SharedTaxis", name := "restoreSnapshot", desc := "()Z" } : Jvm.MethodName)) ∈ lw_all := lw_g (lw_at lw_m5 111 rfl) rfl
theorem q1194 : (Jvm.Cond.methodLink "SharedTaxisLaw" (107 : Nat) ({ cls := "SharedTaxisLaw", name := "load", desc := "(LSharedTaxis;I[J)I" } : Jvm.MethodName)) ∈ lw_all := lw_g (lw_at lw_m5 122 rfl) rfl
theorem q1195 : (Jvm.Cond.static ({ cls := "SharedTaxisLaw", name := "load", desc := "(LSharedTaxis;I[J)I" } : Jvm.MethodName)) ∈ lw_all := lw_g (lw_at lw_m5 123 rfl) rfl
theorem q1196 : (Jvm.Cond.codeWith ({ cls := "SharedTaxisLaw", name := "load", desc := "(LSharedTaxis;I[J)I" } : Jvm.MethodName) method_3_code (4 : Nat) (Option.some Jvm.ClassFile.FieldType.int) [((0 : Nat), (9 : Nat), (12 : Nat), (13 : Nat))]) ∈ lw_all := lw_g (lw_at lw_m5 124 rfl) rfl
theorem q1197 : (Jvm.Cond.classLink "SharedTaxisLaw" (13 : Nat) "java/lang/IllegalArgumentException") ∈ lw_all := lw_g (lw_at lw_m5 125 rfl) rfl
theorem q1198 : (Jvm.Cond.methodLink "SharedTaxisLaw" (7 : Nat) ({ cls := "SharedTaxis", name := "load", desc := "(I)I" } : Jvm.MethodName)) ∈ lw_all := lw_g (lw_at lw_m5 126 rfl) rfl
theorem q1555 : (Jvm.Cond.methodLink "SharedTaxisLaw" (121 : Nat) ({ cls := "SharedTaxisLaw", name := "size", desc := "(LSharedTaxis;I[J)I" } : Jvm.MethodName)) ∈ lw_all := lw_g (lw_at lw_m7 3 rfl) rfl
theorem q1556 : (Jvm.Cond.static ({ cls := "SharedTaxisLaw", name := "size", desc := "(LSharedTaxis;I[J)I" } : Jvm.MethodName)) ∈ lw_all := lw_g (lw_at lw_m7 4 rfl) rfl
theorem q1557 : (Jvm.Cond.codeWith ({ cls := "SharedTaxisLaw", name := "size", desc := "(LSharedTaxis;I[J)I" } : Jvm.MethodName) method_4_code (4 : Nat) (Option.some Jvm.ClassFile.FieldType.int) [((0 : Nat), (9 : Nat), (12 : Nat), (18 : Nat))]) ∈ lw_all := lw_g (lw_at lw_m7 5 rfl) rfl
theorem q1558 : (Jvm.Cond.classLink "SharedTaxisLaw" (18 : Nat) "java/util/NoSuchElementException") ∈ lw_all := lw_g (lw_at lw_m7 6 rfl) rfl
theorem q1559 : (Jvm.Cond.methodLink "SharedTaxisLaw" (15 : Nat) ({ cls := "SharedTaxis", name := "size", desc := "(I)I" } : Jvm.MethodName)) ∈ lw_all := lw_g (lw_at lw_m7 7 rfl) rfl
theorem q1571 : (Jvm.Cond.methodLink "SharedTaxisLaw" (124 : Nat) ({ cls := "SharedTaxisLaw", name := "rule", desc := "(LSharedTaxis;I[J)I" } : Jvm.MethodName)) ∈ lw_all := lw_g (lw_at lw_m7 19 rfl) rfl
theorem q1572 : (Jvm.Cond.static ({ cls := "SharedTaxisLaw", name := "rule", desc := "(LSharedTaxis;I[J)I" } : Jvm.MethodName)) ∈ lw_all := lw_g (lw_at lw_m7 20 rfl) rfl
theorem q1573 : (Jvm.Cond.codeWith ({ cls := "SharedTaxisLaw", name := "rule", desc := "(LSharedTaxis;I[J)I" } : Jvm.MethodName) method_5_code (4 : Nat) (Option.some Jvm.ClassFile.FieldType.int) [((0 : Nat), (9 : Nat), (12 : Nat), (18 : Nat))]) ∈ lw_all := lw_g (lw_at lw_m7 21 rfl) rfl
theorem q1574 : (Jvm.Cond.methodLink "SharedTaxisLaw" (20 : Nat) ({ cls := "SharedTaxis", name := "rule", desc := "(I)I" } : Jvm.MethodName)) ∈ lw_all := lw_g (lw_at lw_m7 22 rfl) rfl
theorem q1580 : (Jvm.Cond.methodLink "SharedTaxisLaw" (127 : Nat) ({ cls := "SharedTaxisLaw", name := "minutes", desc := "(LSharedTaxis;II[J)I" } : Jvm.MethodName)) ∈ lw_all := lw_g (lw_at lw_m7 28 rfl) rfl
theorem q1581 : (Jvm.Cond.static ({ cls := "SharedTaxisLaw", name := "minutes", desc := "(LSharedTaxis;II[J)I" } : Jvm.MethodName)) ∈ lw_all := lw_g (lw_at lw_m7 29 rfl) rfl
theorem q1582 : (Jvm.Cond.codeWith ({ cls := "SharedTaxisLaw", name := "minutes", desc := "(LSharedTaxis;II[J)I" } : Jvm.MethodName) method_6_code (5 : Nat) (Option.some Jvm.ClassFile.FieldType.int) [((0 : Nat), (10 : Nat), (13 : Nat), (18 : Nat))]) ∈ lw_all := lw_g (lw_at lw_m7 30 rfl) rfl
theorem q1583 : (Jvm.Cond.methodLink "SharedTaxisLaw" (23 : Nat) ({ cls := "SharedTaxis", name := "minutes", desc := "(II)I" } : Jvm.MethodName)) ∈ lw_all := lw_g (lw_at lw_m7 31 rfl) rfl
theorem q1591 : (Jvm.Cond.methodLink "SharedTaxisLaw" (131 : Nat) ({ cls := "SharedTaxisLaw", name := "taxi", desc := "(LSharedTaxis;II[J)I" } : Jvm.MethodName)) ∈ lw_all := lw_g (lw_at lw_m7 39 rfl) rfl
theorem q1592 : (Jvm.Cond.static ({ cls := "SharedTaxisLaw", name := "taxi", desc := "(LSharedTaxis;II[J)I" } : Jvm.MethodName)) ∈ lw_all := lw_g (lw_at lw_m7 40 rfl) rfl
theorem q1593 : (Jvm.Cond.codeWith ({ cls := "SharedTaxisLaw", name := "taxi", desc := "(LSharedTaxis;II[J)I" } : Jvm.MethodName) method_7_code (5 : Nat) (Option.some Jvm.ClassFile.FieldType.int) [((0 : Nat), (10 : Nat), (13 : Nat), (18 : Nat))]) ∈ lw_all := lw_g (lw_at lw_m7 41 rfl) rfl
theorem q1594 : (Jvm.Cond.methodLink "SharedTaxisLaw" (27 : Nat) ({ cls := "SharedTaxis", name := "taxi", desc := "(II)I" } : Jvm.MethodName)) ∈ lw_all := lw_g (lw_at lw_m7 42 rfl) rfl
theorem q1613 : (Jvm.Cond.methodLink "SharedTaxisLaw" (134 : Nat) ({ cls := "SharedTaxisLaw", name := "account", desc := "(LSharedTaxis;II[J)I" } : Jvm.MethodName)) ∈ lw_all := lw_g (lw_at lw_m7 61 rfl) rfl
theorem q1614 : (Jvm.Cond.static ({ cls := "SharedTaxisLaw", name := "account", desc := "(LSharedTaxis;II[J)I" } : Jvm.MethodName)) ∈ lw_all := lw_g (lw_at lw_m7 62 rfl) rfl
theorem q1615 : (Jvm.Cond.codeWith ({ cls := "SharedTaxisLaw", name := "account", desc := "(LSharedTaxis;II[J)I" } : Jvm.MethodName) method_8_code (5 : Nat) (Option.some Jvm.ClassFile.FieldType.int) [((0 : Nat), (10 : Nat), (13 : Nat), (18 : Nat))]) ∈ lw_all := lw_g (lw_at lw_m7 63 rfl) rfl
theorem q1616 : (Jvm.Cond.methodLink "SharedTaxisLaw" (30 : Nat) ({ cls := "SharedTaxis", name := "account", desc := "(II)I" } : Jvm.MethodName)) ∈ lw_all := lw_g (lw_at lw_m7 64 rfl) rfl
theorem q1625 : (Jvm.Cond.methodLink "SharedTaxisLaw" (137 : Nat) ({ cls := "SharedTaxisLaw", name := "stop", desc := "(LSharedTaxis;III[J)I" } : Jvm.MethodName)) ∈ lw_all := lw_g (lw_at lw_m7 73 rfl) rfl
theorem q1626 : (Jvm.Cond.static ({ cls := "SharedTaxisLaw", name := "stop", desc := "(LSharedTaxis;III[J)I" } : Jvm.MethodName)) ∈ lw_all := lw_g (lw_at lw_m7 74 rfl) rfl
theorem q1627 : (Jvm.Cond.codeWith ({ cls := "SharedTaxisLaw", name := "stop", desc := "(LSharedTaxis;III[J)I" } : Jvm.MethodName) method_9_code (6 : Nat) (Option.some Jvm.ClassFile.FieldType.int) [((0 : Nat), (12 : Nat), (15 : Nat), (18 : Nat))]) ∈ lw_all := lw_g (lw_at lw_m7 75 rfl) rfl
theorem q1628 : (Jvm.Cond.methodLink "SharedTaxisLaw" (33 : Nat) ({ cls := "SharedTaxis", name := "stop", desc := "(III)I" } : Jvm.MethodName)) ∈ lw_all := lw_g (lw_at lw_m7 76 rfl) rfl
theorem q1731 : (Jvm.Cond.methodLink "SharedTaxisLaw" (141 : Nat) ({ cls := "SharedTaxisLaw", name := "ride", desc := "(LSharedTaxis;II[J)I" } : Jvm.MethodName)) ∈ lw_all := lw_g (lw_at lw_m7 179 rfl) rfl
theorem q1732 : (Jvm.Cond.static ({ cls := "SharedTaxisLaw", name := "ride", desc := "(LSharedTaxis;II[J)I" } : Jvm.MethodName)) ∈ lw_all := lw_g (lw_at lw_m7 180 rfl) rfl
theorem q1733 : (Jvm.Cond.codeWith ({ cls := "SharedTaxisLaw", name := "ride", desc := "(LSharedTaxis;II[J)I" } : Jvm.MethodName) method_10_code (5 : Nat) (Option.some Jvm.ClassFile.FieldType.int) [((0 : Nat), (10 : Nat), (13 : Nat), (18 : Nat))]) ∈ lw_all := lw_g (lw_at lw_m7 181 rfl) rfl
theorem q1734 : (Jvm.Cond.methodLink "SharedTaxisLaw" (37 : Nat) ({ cls := "SharedTaxis", name := "ride", desc := "(II)I" } : Jvm.MethodName)) ∈ lw_all := lw_g (lw_at lw_m7 182 rfl) rfl
theorem q1746 : (Jvm.Cond.methodLink "SharedTaxisLaw" (144 : Nat) ({ cls := "SharedTaxisLaw", name := "offer", desc := "(LSharedTaxis;II[J)I" } : Jvm.MethodName)) ∈ lw_all := lw_g (lw_at lw_m7 194 rfl) rfl
theorem q1747 : (Jvm.Cond.static ({ cls := "SharedTaxisLaw", name := "offer", desc := "(LSharedTaxis;II[J)I" } : Jvm.MethodName)) ∈ lw_all := lw_g (lw_at lw_m7 195 rfl) rfl
theorem q1748 : (Jvm.Cond.codeWith ({ cls := "SharedTaxisLaw", name := "offer", desc := "(LSharedTaxis;II[J)I" } : Jvm.MethodName) method_11_code (5 : Nat) (Option.some Jvm.ClassFile.FieldType.int) [((0 : Nat), (10 : Nat), (13 : Nat), (18 : Nat))]) ∈ lw_all := lw_g (lw_at lw_m7 196 rfl) rfl
theorem q1749 : (Jvm.Cond.methodLink "SharedTaxisLaw" (40 : Nat) ({ cls := "SharedTaxis", name := "offer", desc := "(II)I" } : Jvm.MethodName)) ∈ lw_all := lw_g (lw_at lw_m7 197 rfl) rfl
theorem q1758 : (Jvm.Cond.methodLink "SharedTaxisLaw" (147 : Nat) ({ cls := "SharedTaxisLaw", name := "extra", desc := "(LSharedTaxis;II[J)I" } : Jvm.MethodName)) ∈ lw_all := lw_g (lw_at lw_m7 206 rfl) rfl
theorem q1759 : (Jvm.Cond.static ({ cls := "SharedTaxisLaw", name := "extra", desc := "(LSharedTaxis;II[J)I" } : Jvm.MethodName)) ∈ lw_all := lw_g (lw_at lw_m7 207 rfl) rfl
theorem q1760 : (Jvm.Cond.codeWith ({ cls := "SharedTaxisLaw", name := "extra", desc := "(LSharedTaxis;II[J)I" } : Jvm.MethodName) method_12_code (5 : Nat) (Option.some Jvm.ClassFile.FieldType.int) [((0 : Nat), (10 : Nat), (13 : Nat), (18 : Nat))]) ∈ lw_all := lw_g (lw_at lw_m7 208 rfl) rfl
theorem q1761 : (Jvm.Cond.methodLink "SharedTaxisLaw" (43 : Nat) ({ cls := "SharedTaxis", name := "extra", desc := "(II)I" } : Jvm.MethodName)) ∈ lw_all := lw_g (lw_at lw_m7 209 rfl) rfl
theorem q1892 : (Jvm.Cond.methodLink "SharedTaxisLaw" (150 : Nat) ({ cls := "SharedTaxisLaw", name := "fare", desc := "(LSharedTaxis;I[J)I" } : Jvm.MethodName)) ∈ lw_all := lw_g (lw_at lw_m8 100 rfl) rfl
theorem q1893 : (Jvm.Cond.static ({ cls := "SharedTaxisLaw", name := "fare", desc := "(LSharedTaxis;I[J)I" } : Jvm.MethodName)) ∈ lw_all := lw_g (lw_at lw_m8 101 rfl) rfl
theorem q1894 : (Jvm.Cond.codeWith ({ cls := "SharedTaxisLaw", name := "fare", desc := "(LSharedTaxis;I[J)I" } : Jvm.MethodName) method_13_code (4 : Nat) (Option.some Jvm.ClassFile.FieldType.int) [((0 : Nat), (9 : Nat), (12 : Nat), (18 : Nat))]) ∈ lw_all := lw_g (lw_at lw_m8 102 rfl) rfl
theorem q1895 : (Jvm.Cond.methodLink "SharedTaxisLaw" (46 : Nat) ({ cls := "SharedTaxis", name := "fare", desc := "(I)I" } : Jvm.MethodName)) ∈ lw_all := lw_g (lw_at lw_m8 103 rfl) rfl
theorem q2013 : (Jvm.Cond.methodLink "SharedTaxisLaw" (153 : Nat) ({ cls := "SharedTaxisLaw", name := "aloneFare", desc := "(LSharedTaxis;II[J)I" } : Jvm.MethodName)) ∈ lw_all := lw_g (lw_at lw_m8 221 rfl) rfl
theorem q2014 : (Jvm.Cond.static ({ cls := "SharedTaxisLaw", name := "aloneFare", desc := "(LSharedTaxis;II[J)I" } : Jvm.MethodName)) ∈ lw_all := lw_g (lw_at lw_m8 222 rfl) rfl
theorem q2015 : (Jvm.Cond.codeWith ({ cls := "SharedTaxisLaw", name := "aloneFare", desc := "(LSharedTaxis;II[J)I" } : Jvm.MethodName) method_14_code (5 : Nat) (Option.some Jvm.ClassFile.FieldType.int) [((0 : Nat), (10 : Nat), (13 : Nat), (18 : Nat))]) ∈ lw_all := lw_g (lw_at lw_m8 223 rfl) rfl
theorem q2016 : (Jvm.Cond.methodLink "SharedTaxisLaw" (49 : Nat) ({ cls := "SharedTaxis", name := "aloneFare", desc := "(II)I" } : Jvm.MethodName)) ∈ lw_all := lw_g (lw_at lw_m8 224 rfl) rfl
theorem q2021 : (Jvm.Cond.methodLink "SharedTaxisLaw" (156 : Nat) ({ cls := "SharedTaxisLaw", name := "keeps", desc := "(LSharedTaxis;I[J)I" } : Jvm.MethodName)) ∈ lw_all := lw_g (lw_at lw_m8 229 rfl) rfl
theorem q2022 : (Jvm.Cond.static ({ cls := "SharedTaxisLaw", name := "keeps", desc := "(LSharedTaxis;I[J)I" } : Jvm.MethodName)) ∈ lw_all := lw_g (lw_at lw_m8 230 rfl) rfl
theorem q2023 : (Jvm.Cond.codeWith ({ cls := "SharedTaxisLaw", name := "keeps", desc := "(LSharedTaxis;I[J)I" } : Jvm.MethodName) method_15_code (4 : Nat) (Option.some Jvm.ClassFile.FieldType.int) [((0 : Nat), (16 : Nat), (19 : Nat), (18 : Nat))]) ∈ lw_all := lw_g (lw_at lw_m8 231 rfl) rfl
theorem q2024 : (Jvm.Cond.methodLink "SharedTaxisLaw" (52 : Nat) ({ cls := "SharedTaxis", name := "keeps", desc := "(I)Z" } : Jvm.MethodName)) ∈ lw_all := lw_g (lw_at lw_m8 232 rfl) rfl
theorem q2029 : (Jvm.Cond.methodLink "SharedTaxisLaw" (159 : Nat) ({ cls := "SharedTaxisLaw", name := "routeMinutes", desc := "(LSharedTaxis;I[J)I" } : Jvm.MethodName)) ∈ lw_all := lw_g (lw_at lw_m8 237 rfl) rfl
theorem q2030 : (Jvm.Cond.static ({ cls := "SharedTaxisLaw", name := "routeMinutes", desc := "(LSharedTaxis;I[J)I" } : Jvm.MethodName)) ∈ lw_all := lw_g (lw_at lw_m8 238 rfl) rfl
theorem q2031 : (Jvm.Cond.codeWith ({ cls := "SharedTaxisLaw", name := "routeMinutes", desc := "(LSharedTaxis;I[J)I" } : Jvm.MethodName) method_16_code (4 : Nat) (Option.some Jvm.ClassFile.FieldType.int) [((0 : Nat), (9 : Nat), (12 : Nat), (18 : Nat))]) ∈ lw_all := lw_g (lw_at lw_m8 239 rfl) rfl
theorem q2032 : (Jvm.Cond.methodLink "SharedTaxisLaw" (56 : Nat) ({ cls := "SharedTaxis", name := "routeMinutes", desc := "(I)I" } : Jvm.MethodName)) ∈ lw_all := lw_g (lw_at lw_m9 0 rfl) rfl
theorem q2037 : (Jvm.Cond.methodLink "SharedTaxisLaw" (162 : Nat) ({ cls := "SharedTaxisLaw", name := "rides", desc := "(LSharedTaxis;I[J)I" } : Jvm.MethodName)) ∈ lw_all := lw_g (lw_at lw_m9 5 rfl) rfl
theorem q2038 : (Jvm.Cond.static ({ cls := "SharedTaxisLaw", name := "rides", desc := "(LSharedTaxis;I[J)I" } : Jvm.MethodName)) ∈ lw_all := lw_g (lw_at lw_m9 6 rfl) rfl
theorem q2039 : (Jvm.Cond.codeWith ({ cls := "SharedTaxisLaw", name := "rides", desc := "(LSharedTaxis;I[J)I" } : Jvm.MethodName) method_17_code (4 : Nat) (Option.some Jvm.ClassFile.FieldType.int) [((0 : Nat), (9 : Nat), (12 : Nat), (13 : Nat))]) ∈ lw_all := lw_g (lw_at lw_m9 7 rfl) rfl
theorem q2040 : (Jvm.Cond.methodLink "SharedTaxisLaw" (59 : Nat) ({ cls := "SharedTaxis", name := "rides", desc := "(I)I" } : Jvm.MethodName)) ∈ lw_all := lw_g (lw_at lw_m9 8 rfl) rfl
theorem q2045 : (Jvm.Cond.methodLink "SharedTaxisLaw" (175 : Nat) ({ cls := "SharedTaxisLaw", name := "ask", desc := "(LSharedTaxis;IIIII[J)I" } : Jvm.MethodName)) ∈ lw_all := lw_g (lw_at lw_m9 13 rfl) rfl
theorem q2046 : (Jvm.Cond.static ({ cls := "SharedTaxisLaw", name := "ask", desc := "(LSharedTaxis;IIIII[J)I" } : Jvm.MethodName)) ∈ lw_all := lw_g (lw_at lw_m9 14 rfl) rfl
theorem q2047 : (Jvm.Cond.codeWith ({ cls := "SharedTaxisLaw", name := "ask", desc := "(LSharedTaxis;IIIII[J)I" } : Jvm.MethodName) method_18_code (8 : Nat) (Option.some Jvm.ClassFile.FieldType.int) [((0 : Nat), (16 : Nat), (19 : Nat), (18 : Nat)), ((0 : Nat), (16 : Nat), (23 : Nat), (13 : Nat))]) ∈ lw_all := lw_g (lw_at lw_m9 15 rfl) rfl
theorem q2048 : (Jvm.Cond.methodLink "SharedTaxisLaw" (62 : Nat) ({ cls := "SharedTaxis", name := "ask", desc := "(IIIII)I" } : Jvm.MethodName)) ∈ lw_all := lw_g (lw_at lw_m9 16 rfl) rfl
theorem q2115 : (Jvm.Cond.methodLink "SharedTaxisLaw" (179 : Nat) ({ cls := "SharedTaxisLaw", name := "accept", desc := "(LSharedTaxis;I[J)I" } : Jvm.MethodName)) ∈ lw_all := lw_g (lw_at lw_m9 83 rfl) rfl
theorem q2116 : (Jvm.Cond.static ({ cls := "SharedTaxisLaw", name := "accept", desc := "(LSharedTaxis;I[J)I" } : Jvm.MethodName)) ∈ lw_all := lw_g (lw_at lw_m9 84 rfl) rfl
theorem q2117 : (Jvm.Cond.codeWith ({ cls := "SharedTaxisLaw", name := "accept", desc := "(LSharedTaxis;I[J)I" } : Jvm.MethodName) method_19_code (4 : Nat) (Option.some Jvm.ClassFile.FieldType.int) [((0 : Nat), (9 : Nat), (12 : Nat), (18 : Nat))]) ∈ lw_all := lw_g (lw_at lw_m9 85 rfl) rfl
theorem q2118 : (Jvm.Cond.methodLink "SharedTaxisLaw" (66 : Nat) ({ cls := "SharedTaxis", name := "accept", desc := "(I)I" } : Jvm.MethodName)) ∈ lw_all := lw_g (lw_at lw_m9 86 rfl) rfl
theorem q2139 : (Jvm.Cond.methodLink "SharedTaxisLaw" (182 : Nat) ({ cls := "SharedTaxisLaw", name := "decline", desc := "(LSharedTaxis;I[J)I" } : Jvm.MethodName)) ∈ lw_all := lw_g (lw_at lw_m9 107 rfl) rfl
theorem q2140 : (Jvm.Cond.static ({ cls := "SharedTaxisLaw", name := "decline", desc := "(LSharedTaxis;I[J)I" } : Jvm.MethodName)) ∈ lw_all := lw_g (lw_at lw_m9 108 rfl) rfl
theorem q2141 : (Jvm.Cond.codeWith ({ cls := "SharedTaxisLaw", name := "decline", desc := "(LSharedTaxis;I[J)I" } : Jvm.MethodName) method_20_code (4 : Nat) (Option.some Jvm.ClassFile.FieldType.int) [((0 : Nat), (9 : Nat), (12 : Nat), (18 : Nat))]) ∈ lw_all := lw_g (lw_at lw_m9 109 rfl) rfl
theorem q2142 : (Jvm.Cond.methodLink "SharedTaxisLaw" (69 : Nat) ({ cls := "SharedTaxis", name := "decline", desc := "(I)I" } : Jvm.MethodName)) ∈ lw_all := lw_g (lw_at lw_m9 110 rfl) rfl
theorem q2146 : (Jvm.Cond.methodLink "SharedTaxisLaw" (185 : Nat) ({ cls := "SharedTaxisLaw", name := "cancel", desc := "(LSharedTaxis;I[J)I" } : Jvm.MethodName)) ∈ lw_all := lw_g (lw_at lw_m9 114 rfl) rfl
theorem q2147 : (Jvm.Cond.static ({ cls := "SharedTaxisLaw", name := "cancel", desc := "(LSharedTaxis;I[J)I" } : Jvm.MethodName)) ∈ lw_all := lw_g (lw_at lw_m9 115 rfl) rfl
theorem q2148 : (Jvm.Cond.codeWith ({ cls := "SharedTaxisLaw", name := "cancel", desc := "(LSharedTaxis;I[J)I" } : Jvm.MethodName) method_21_code (4 : Nat) (Option.some Jvm.ClassFile.FieldType.int) [((0 : Nat), (9 : Nat), (12 : Nat), (18 : Nat))]) ∈ lw_all := lw_g (lw_at lw_m9 116 rfl) rfl
theorem q2149 : (Jvm.Cond.methodLink "SharedTaxisLaw" (72 : Nat) ({ cls := "SharedTaxis", name := "cancel", desc := "(I)I" } : Jvm.MethodName)) ∈ lw_all := lw_g (lw_at lw_m9 117 rfl) rfl
theorem q2229 : (Jvm.Cond.methodLink "SharedTaxisLaw" (188 : Nat) ({ cls := "SharedTaxisLaw", name := "absent", desc := "(LSharedTaxis;I[J)I" } : Jvm.MethodName)) ∈ lw_all := lw_g (lw_at lw_m9 197 rfl) rfl
theorem q2230 : (Jvm.Cond.static ({ cls := "SharedTaxisLaw", name := "absent", desc := "(LSharedTaxis;I[J)I" } : Jvm.MethodName)) ∈ lw_all := lw_g (lw_at lw_m9 198 rfl) rfl
theorem q2231 : (Jvm.Cond.codeWith ({ cls := "SharedTaxisLaw", name := "absent", desc := "(LSharedTaxis;I[J)I" } : Jvm.MethodName) method_22_code (4 : Nat) (Option.some Jvm.ClassFile.FieldType.int) [((0 : Nat), (9 : Nat), (12 : Nat), (18 : Nat))]) ∈ lw_all := lw_g (lw_at lw_m9 199 rfl) rfl
theorem q2232 : (Jvm.Cond.methodLink "SharedTaxisLaw" (75 : Nat) ({ cls := "SharedTaxis", name := "absent", desc := "(I)I" } : Jvm.MethodName)) ∈ lw_all := lw_g (lw_at lw_m9 200 rfl) rfl
theorem q2236 : (Jvm.Cond.methodLink "SharedTaxisLaw" (191 : Nat) ({ cls := "SharedTaxisLaw", name := "advance", desc := "(LSharedTaxis;I[J)I" } : Jvm.MethodName)) ∈ lw_all := lw_g (lw_at lw_m9 204 rfl) rfl
theorem q2237 : (Jvm.Cond.static ({ cls := "SharedTaxisLaw", name := "advance", desc := "(LSharedTaxis;I[J)I" } : Jvm.MethodName)) ∈ lw_all := lw_g (lw_at lw_m9 205 rfl) rfl
theorem q2238 : (Jvm.Cond.codeWith ({ cls := "SharedTaxisLaw", name := "advance", desc := "(LSharedTaxis;I[J)I" } : Jvm.MethodName) method_23_code (4 : Nat) (Option.some Jvm.ClassFile.FieldType.int) [((0 : Nat), (9 : Nat), (12 : Nat), (13 : Nat))]) ∈ lw_all := lw_g (lw_at lw_m9 206 rfl) rfl
theorem q2239 : (Jvm.Cond.methodLink "SharedTaxisLaw" (78 : Nat) ({ cls := "SharedTaxis", name := "advance", desc := "(I)I" } : Jvm.MethodName)) ∈ lw_all := lw_g (lw_at lw_m9 207 rfl) rfl
theorem q2312 : (Jvm.Cond.methodLink "SharedTaxisLaw" (194 : Nat) ({ cls := "SharedTaxisLaw", name := "tip", desc := "(LSharedTaxis;II[J)I" } : Jvm.MethodName)) ∈ lw_all := lw_g (lw_at lw_m10 40 rfl) rfl
theorem q2313 : (Jvm.Cond.static ({ cls := "SharedTaxisLaw", name := "tip", desc := "(LSharedTaxis;II[J)I" } : Jvm.MethodName)) ∈ lw_all := lw_g (lw_at lw_m10 41 rfl) rfl
theorem q2314 : (Jvm.Cond.codeWith ({ cls := "SharedTaxisLaw", name := "tip", desc := "(LSharedTaxis;II[J)I" } : Jvm.MethodName) method_24_code (5 : Nat) (Option.some Jvm.ClassFile.FieldType.int) [((0 : Nat), (10 : Nat), (13 : Nat), (18 : Nat)), ((0 : Nat), (10 : Nat), (17 : Nat), (13 : Nat))]) ∈ lw_all := lw_g (lw_at lw_m10 42 rfl) rfl
theorem q2315 : (Jvm.Cond.methodLink "SharedTaxisLaw" (81 : Nat) ({ cls := "SharedTaxis", name := "tip", desc := "(II)I" } : Jvm.MethodName)) ∈ lw_all := lw_g (lw_at lw_m10 43 rfl) rfl
theorem q2341 : (Jvm.Cond.methodLink "SharedTaxisLaw" (197 : Nat) ({ cls := "SharedTaxisLaw", name := "setRate", desc := "(LSharedTaxis;I[J)I" } : Jvm.MethodName)) ∈ lw_all := lw_g (lw_at lw_m10 69 rfl) rfl
theorem q2342 : (Jvm.Cond.static ({ cls := "SharedTaxisLaw", name := "setRate", desc := "(LSharedTaxis;I[J)I" } : Jvm.MethodName)) ∈ lw_all := lw_g (lw_at lw_m10 70 rfl) rfl
theorem q2343 : (Jvm.Cond.codeWith ({ cls := "SharedTaxisLaw", name := "setRate", desc := "(LSharedTaxis;I[J)I" } : Jvm.MethodName) method_25_code (4 : Nat) (Option.some Jvm.ClassFile.FieldType.int) [((0 : Nat), (9 : Nat), (12 : Nat), (13 : Nat))]) ∈ lw_all := lw_g (lw_at lw_m10 71 rfl) rfl
theorem q2344 : (Jvm.Cond.methodLink "SharedTaxisLaw" (84 : Nat) ({ cls := "SharedTaxis", name := "setRate", desc := "(I)I" } : Jvm.MethodName)) ∈ lw_all := lw_g (lw_at lw_m10 72 rfl) rfl
theorem q2349 : (Jvm.Cond.methodLink "SharedTaxisLaw" (200 : Nat) ({ cls := "SharedTaxisLaw", name := "setEnd", desc := "(LSharedTaxis;II[J)I" } : Jvm.MethodName)) ∈ lw_all := lw_g (lw_at lw_m10 77 rfl) rfl
theorem q2350 : (Jvm.Cond.static ({ cls := "SharedTaxisLaw", name := "setEnd", desc := "(LSharedTaxis;II[J)I" } : Jvm.MethodName)) ∈ lw_all := lw_g (lw_at lw_m10 78 rfl) rfl
theorem q2351 : (Jvm.Cond.codeWith ({ cls := "SharedTaxisLaw", name := "setEnd", desc := "(LSharedTaxis;II[J)I" } : Jvm.MethodName) method_26_code (5 : Nat) (Option.some Jvm.ClassFile.FieldType.int) [((0 : Nat), (10 : Nat), (13 : Nat), (18 : Nat)), ((0 : Nat), (10 : Nat), (17 : Nat), (13 : Nat))]) ∈ lw_all := lw_g (lw_at lw_m10 79 rfl) rfl
theorem q2352 : (Jvm.Cond.methodLink "SharedTaxisLaw" (87 : Nat) ({ cls := "SharedTaxis", name := "setEnd", desc := "(II)I" } : Jvm.MethodName)) ∈ lw_all := lw_g (lw_at lw_m10 80 rfl) rfl
theorem q2357 : (Jvm.Cond.methodLink "SharedTaxisLaw" (203 : Nat) ({ cls := "SharedTaxisLaw", name := "setRule", desc := "(LSharedTaxis;II[J)I" } : Jvm.MethodName)) ∈ lw_all := lw_g (lw_at lw_m10 85 rfl) rfl
theorem q2358 : (Jvm.Cond.static ({ cls := "SharedTaxisLaw", name := "setRule", desc := "(LSharedTaxis;II[J)I" } : Jvm.MethodName)) ∈ lw_all := lw_g (lw_at lw_m10 86 rfl) rfl
theorem q2359 : (Jvm.Cond.codeWith ({ cls := "SharedTaxisLaw", name := "setRule", desc := "(LSharedTaxis;II[J)I" } : Jvm.MethodName) method_27_code (5 : Nat) (Option.some Jvm.ClassFile.FieldType.int) [((0 : Nat), (10 : Nat), (13 : Nat), (18 : Nat)), ((0 : Nat), (10 : Nat), (17 : Nat), (13 : Nat))]) ∈ lw_all := lw_g (lw_at lw_m10 87 rfl) rfl
theorem q2360 : (Jvm.Cond.methodLink "SharedTaxisLaw" (90 : Nat) ({ cls := "SharedTaxis", name := "setRule", desc := "(II)I" } : Jvm.MethodName)) ∈ lw_all := lw_g (lw_at lw_m10 88 rfl) rfl
theorem q2367 : (Jvm.Cond.methodLink "SharedTaxisLaw" (206 : Nat) ({ cls := "SharedTaxisLaw", name := "format", desc := "(LSharedTaxis;I[J)I" } : Jvm.MethodName)) ∈ lw_all := lw_g (lw_at lw_m10 95 rfl) rfl
theorem q2368 : (Jvm.Cond.static ({ cls := "SharedTaxisLaw", name := "format", desc := "(LSharedTaxis;I[J)I" } : Jvm.MethodName)) ∈ lw_all := lw_g (lw_at lw_m10 96 rfl) rfl
theorem q2369 : (Jvm.Cond.codeWith ({ cls := "SharedTaxisLaw", name := "format", desc := "(LSharedTaxis;I[J)I" } : Jvm.MethodName) method_28_code (4 : Nat) (Option.some Jvm.ClassFile.FieldType.int) [((0 : Nat), (9 : Nat), (12 : Nat), (18 : Nat))]) ∈ lw_all := lw_g (lw_at lw_m10 97 rfl) rfl
theorem q2370 : (Jvm.Cond.methodLink "SharedTaxisLaw" (93 : Nat) ({ cls := "SharedTaxis", name := "format", desc := "(I)I" } : Jvm.MethodName)) ∈ lw_all := lw_g (lw_at lw_m10 98 rfl) rfl
theorem q2464 : (Jvm.Cond.methodLink "SharedTaxisLaw" (230 : Nat) ({ cls := "SharedTaxisLaw", name := "query", desc := "(LSharedTaxis;I[J)I" } : Jvm.MethodName)) ∈ lw_all := lw_g (lw_at lw_m10 192 rfl) rfl
theorem q2465 : (Jvm.Cond.static ({ cls := "SharedTaxisLaw", name := "query", desc := "(LSharedTaxis;I[J)I" } : Jvm.MethodName)) ∈ lw_all := lw_g (lw_at lw_m10 193 rfl) rfl
theorem q2466 : (Jvm.Cond.codeWith ({ cls := "SharedTaxisLaw", name := "query", desc := "(LSharedTaxis;I[J)I" } : Jvm.MethodName) method_29_code (4 : Nat) (Option.some Jvm.ClassFile.FieldType.int) [((0 : Nat), (9 : Nat), (12 : Nat), (13 : Nat))]) ∈ lw_all := lw_g (lw_at lw_m10 194 rfl) rfl
theorem q2467 : (Jvm.Cond.methodLink "SharedTaxisLaw" (96 : Nat) ({ cls := "SharedTaxis", name := "query", desc := "(I)I" } : Jvm.MethodName)) ∈ lw_all := lw_g (lw_at lw_m10 195 rfl) rfl
theorem q2669 : (Jvm.Cond.classLink "SharedTaxisLaw" (100 : Nat) "SharedTaxisModel") ∈ lw_all := lw_g (lw_at lw_m11 157 rfl) rfl
theorem q2671 : (Jvm.Cond.methodLink "SharedTaxisLaw" (102 : Nat) ({ cls := "SharedTaxisModel", name := "<init>", desc := "()V" } : Jvm.MethodName)) ∈ lw_all := lw_g (lw_at lw_m11 159 rfl) rfl
theorem q2850 : (Jvm.Cond.methodLink "SharedTaxisLaw" (113 : Nat) ({ cls := "SharedTaxisModel", name := "thrown", desc := "()I" } : Jvm.MethodName)) ∈ lw_all := lw_g (lw_at lw_m12 98 rfl) rfl
theorem q2854 : (Jvm.Cond.methodLink "SharedTaxisLaw" (106 : Nat) ({ cls := "SharedTaxisModel", name := "feed", desc := "(IIIII)I" } : Jvm.MethodName)) ∈ lw_all := lw_g (lw_at lw_m12 102 rfl) rfl
theorem q2862 : (Jvm.Cond.methodLink "SharedTaxisLaw" (120 : Nat) ({ cls := "SharedTaxisModel", name := "errorPosition", desc := "()I" } : Jvm.MethodName)) ∈ lw_all := lw_g (lw_at lw_m12 110 rfl) rfl
theorem q2866 : (Jvm.Cond.methodLink "SharedTaxisLaw" (112 : Nat) ({ cls := "SharedTaxisModel", name := "load", desc := "(I)I" } : Jvm.MethodName)) ∈ lw_all := lw_g (lw_at lw_m12 114 rfl) rfl
theorem q2974 : (Jvm.Cond.methodLink "SharedTaxisLaw" (123 : Nat) ({ cls := "SharedTaxisModel", name := "size", desc := "(I)I" } : Jvm.MethodName)) ∈ lw_all := lw_g (lw_at lw_m12 222 rfl) rfl
theorem q2995 : (Jvm.Cond.methodLink "SharedTaxisLaw" (126 : Nat) ({ cls := "SharedTaxisModel", name := "rule", desc := "(I)I" } : Jvm.MethodName)) ∈ lw_all := lw_g (lw_at lw_m13 3 rfl) rfl
theorem q3004 : (Jvm.Cond.methodLink "SharedTaxisLaw" (130 : Nat) ({ cls := "SharedTaxisModel", name := "minutes", desc := "(II)I" } : Jvm.MethodName)) ∈ lw_all := lw_g (lw_at lw_m13 12 rfl) rfl
theorem q3016 : (Jvm.Cond.methodLink "SharedTaxisLaw" (133 : Nat) ({ cls := "SharedTaxisModel", name := "taxi", desc := "(II)I" } : Jvm.MethodName)) ∈ lw_all := lw_g (lw_at lw_m13 24 rfl) rfl
theorem q3028 : (Jvm.Cond.methodLink "SharedTaxisLaw" (136 : Nat) ({ cls := "SharedTaxisModel", name := "account", desc := "(II)I" } : Jvm.MethodName)) ∈ lw_all := lw_g (lw_at lw_m13 36 rfl) rfl
theorem q3033 : (Jvm.Cond.methodLink "SharedTaxisLaw" (140 : Nat) ({ cls := "SharedTaxisModel", name := "stop", desc := "(III)I" } : Jvm.MethodName)) ∈ lw_all := lw_g (lw_at lw_m13 41 rfl) rfl
theorem q3060 : (Jvm.Cond.methodLink "SharedTaxisLaw" (143 : Nat) ({ cls := "SharedTaxisModel", name := "ride", desc := "(II)I" } : Jvm.MethodName)) ∈ lw_all := lw_g (lw_at lw_m13 68 rfl) rfl
theorem q3069 : (Jvm.Cond.methodLink "SharedTaxisLaw" (146 : Nat) ({ cls := "SharedTaxisModel", name := "offer", desc := "(II)I" } : Jvm.MethodName)) ∈ lw_all := lw_g (lw_at lw_m13 77 rfl) rfl
theorem q3074 : (Jvm.Cond.methodLink "SharedTaxisLaw" (149 : Nat) ({ cls := "SharedTaxisModel", name := "extra", desc := "(II)I" } : Jvm.MethodName)) ∈ lw_all := lw_g (lw_at lw_m13 82 rfl) rfl
theorem q3090 : (Jvm.Cond.methodLink "SharedTaxisLaw" (152 : Nat) ({ cls := "SharedTaxisModel", name := "fare", desc := "(I)I" } : Jvm.MethodName)) ∈ lw_all := lw_g (lw_at lw_m13 98 rfl) rfl
theorem q3113 : (Jvm.Cond.methodLink "SharedTaxisLaw" (155 : Nat) ({ cls := "SharedTaxisModel", name := "aloneFare", desc := "(II)I" } : Jvm.MethodName)) ∈ lw_all := lw_g (lw_at lw_m13 121 rfl) rfl
theorem q3117 : (Jvm.Cond.methodLink "SharedTaxisLaw" (158 : Nat) ({ cls := "SharedTaxisModel", name := "keeps", desc := "(I)Z" } : Jvm.MethodName)) ∈ lw_all := lw_g (lw_at lw_m13 125 rfl) rfl
theorem q3121 : (Jvm.Cond.methodLink "SharedTaxisLaw" (161 : Nat) ({ cls := "SharedTaxisModel", name := "routeMinutes", desc := "(I)I" } : Jvm.MethodName)) ∈ lw_all := lw_g (lw_at lw_m13 129 rfl) rfl
theorem q3125 : (Jvm.Cond.methodLink "SharedTaxisLaw" (164 : Nat) ({ cls := "SharedTaxisModel", name := "rides", desc := "(I)I" } : Jvm.MethodName)) ∈ lw_all := lw_g (lw_at lw_m13 133 rfl) rfl
theorem q3130 : (Jvm.Cond.methodLink "SharedTaxisLaw" (169 : Nat) ({ cls := "SharedTaxisModel", name := "meanFare", desc := "()D" } : Jvm.MethodName)) ∈ lw_all := lw_g (lw_at lw_m13 138 rfl) rfl
theorem q3134 : (Jvm.Cond.methodLink "SharedTaxisLaw" (174 : Nat) ({ cls := "SharedTaxisModel", name := "sharedPart", desc := "()F" } : Jvm.MethodName)) ∈ lw_all := lw_g (lw_at lw_m13 142 rfl) rfl
theorem q3138 : (Jvm.Cond.methodLink "SharedTaxisLaw" (178 : Nat) ({ cls := "SharedTaxisModel", name := "ask", desc := "(IIIII)I" } : Jvm.MethodName)) ∈ lw_all := lw_g (lw_at lw_m13 146 rfl) rfl
theorem q3156 : (Jvm.Cond.methodLink "SharedTaxisLaw" (181 : Nat) ({ cls := "SharedTaxisModel", name := "accept", desc := "(I)I" } : Jvm.MethodName)) ∈ lw_all := lw_g (lw_at lw_m13 164 rfl) rfl
theorem q3168 : (Jvm.Cond.methodLink "SharedTaxisLaw" (184 : Nat) ({ cls := "SharedTaxisModel", name := "decline", desc := "(I)I" } : Jvm.MethodName)) ∈ lw_all := lw_g (lw_at lw_m13 176 rfl) rfl
theorem q3172 : (Jvm.Cond.methodLink "SharedTaxisLaw" (187 : Nat) ({ cls := "SharedTaxisModel", name := "cancel", desc := "(I)I" } : Jvm.MethodName)) ∈ lw_all := lw_g (lw_at lw_m13 180 rfl) rfl
theorem q3180 : (Jvm.Cond.methodLink "SharedTaxisLaw" (190 : Nat) ({ cls := "SharedTaxisModel", name := "absent", desc := "(I)I" } : Jvm.MethodName)) ∈ lw_all := lw_g (lw_at lw_m13 188 rfl) rfl
theorem q3184 : (Jvm.Cond.methodLink "SharedTaxisLaw" (193 : Nat) ({ cls := "SharedTaxisModel", name := "advance", desc := "(I)I" } : Jvm.MethodName)) ∈ lw_all := lw_g (lw_at lw_m13 192 rfl) rfl
theorem q3213 : (Jvm.Cond.methodLink "SharedTaxisLaw" (196 : Nat) ({ cls := "SharedTaxisModel", name := "tip", desc := "(II)I" } : Jvm.MethodName)) ∈ lw_all := lw_g (lw_at lw_m13 221 rfl) rfl
theorem q3218 : (Jvm.Cond.methodLink "SharedTaxisLaw" (199 : Nat) ({ cls := "SharedTaxisModel", name := "setRate", desc := "(I)I" } : Jvm.MethodName)) ∈ lw_all := lw_g (lw_at lw_m13 226 rfl) rfl
theorem q3223 : (Jvm.Cond.methodLink "SharedTaxisLaw" (202 : Nat) ({ cls := "SharedTaxisModel", name := "setEnd", desc := "(II)I" } : Jvm.MethodName)) ∈ lw_all := lw_g (lw_at lw_m13 231 rfl) rfl
theorem q3227 : (Jvm.Cond.methodLink "SharedTaxisLaw" (205 : Nat) ({ cls := "SharedTaxisModel", name := "setRule", desc := "(II)I" } : Jvm.MethodName)) ∈ lw_all := lw_g (lw_at lw_m13 235 rfl) rfl
theorem q3231 : (Jvm.Cond.methodLink "SharedTaxisLaw" (216 : Nat) ({ cls := "SharedTaxisModel", name := "undoCount", desc := "()I" } : Jvm.MethodName)) ∈ lw_all := lw_g (lw_at lw_m13 239 rfl) rfl
theorem q3235 : (Jvm.Cond.methodLink "SharedTaxisLaw" (220 : Nat) ({ cls := "SharedTaxisModel", name := "undo", desc := "()I" } : Jvm.MethodName)) ∈ lw_all := lw_g (lw_at lw_m14 3 rfl) rfl
theorem q3239 : (Jvm.Cond.methodLink "SharedTaxisLaw" (224 : Nat) ({ cls := "SharedTaxisModel", name := "saveSnapshot", desc := "()V" } : Jvm.MethodName)) ∈ lw_all := lw_g (lw_at lw_m14 7 rfl) rfl
theorem q3243 : (Jvm.Cond.methodLink "SharedTaxisLaw" (229 : Nat) ({ cls := "SharedTaxisModel", name := "restoreSnapshot", desc := "()Z" } : Jvm.MethodName)) ∈ lw_all := lw_g (lw_at lw_m14 11 rfl) rfl
theorem q3247 : (Jvm.Cond.methodLink "SharedTaxisLaw" (208 : Nat) ({ cls := "SharedTaxisModel", name := "format", desc := "(I)I" } : Jvm.MethodName)) ∈ lw_all := lw_g (lw_at lw_m14 15 rfl) rfl
theorem q3259 : (Jvm.Cond.methodLink "SharedTaxisLaw" (212 : Nat) ({ cls := "SharedTaxisModel", name := "formattedByte", desc := "(I)I" } : Jvm.MethodName)) ∈ lw_all := lw_g (lw_at lw_m14 27 rfl) rfl
theorem q3263 : (Jvm.Cond.methodLink "SharedTaxisLaw" (232 : Nat) ({ cls := "SharedTaxisModel", name := "query", desc := "(I)I" } : Jvm.MethodName)) ∈ lw_all := lw_g (lw_at lw_m14 31 rfl) rfl
theorem q113 : (Jvm.Cond.initialized "SharedTaxis") ∈ lw_all := lw_g (lw_at lw_m1 1 rfl) rfl
theorem q165 : (Jvm.Cond.instantiable "SharedTaxis" (7 : Nat)) ∈ lw_all := lw_g (lw_at lw_m1 53 rfl) rfl
theorem q167 : (Jvm.Cond.instanceMethod ({ cls := "SharedTaxis", name := "<init>", desc := "()V" } : Jvm.MethodName)) ∈ lw_all := lw_g (lw_at lw_m1 55 rfl) rfl
theorem q168 : (Jvm.Cond.code ({ cls := "SharedTaxis", name := "<init>", desc := "()V" } : Jvm.MethodName) prog_1_method_8_code (1 : Nat) (Option.none : Option Jvm.ClassFile.FieldType)) ∈ lw_all := lw_g (lw_at lw_m1 56 rfl) rfl
theorem q169 : (Jvm.Cond.methodLink "SharedTaxis" (66 : Nat) ({ cls := "java/lang/Object", name := "<init>", desc := "()V" } : Jvm.MethodName)) ∈ lw_all := lw_g (lw_at lw_m1 57 rfl) rfl
theorem q172 : (Jvm.Cond.classLink "SharedTaxis" (77 : Nat) "SharedTaxis$State") ∈ lw_all := lw_g (lw_at lw_m1 60 rfl) rfl
theorem q174 : (Jvm.Cond.classLink "SharedTaxis" (79 : Nat) "SharedTaxis$Town") ∈ lw_all := lw_g (lw_at lw_m1 62 rfl) rfl
theorem q176 : (Jvm.Cond.methodLink "SharedTaxis" (81 : Nat) ({ cls := "SharedTaxis$Town", name := "<init>", desc := "(I)V" } : Jvm.MethodName)) ∈ lw_all := lw_g (lw_at lw_m1 64 rfl) rfl
theorem q184 : (Jvm.Cond.fieldLinkNest "SharedTaxis" (122 : Nat) "SharedTaxis$Town" "zones" "I" "SharedTaxis") ∈ lw_tbl := lw_at lw_m1 72 rfl
theorem q187 : (Jvm.Cond.fieldLinkNest "SharedTaxis" (234 : Nat) "SharedTaxis$Town" "minutes" "[[I" "SharedTaxis") ∈ lw_tbl := lw_at lw_m1 75 rfl
theorem q189 : (Jvm.Cond.fieldLinkNest "SharedTaxis" (206 : Nat) "SharedTaxis$Town" "roads" "I" "SharedTaxis") ∈ lw_tbl := lw_at lw_m1 77 rfl
theorem q199 : (Jvm.Cond.methodLink "SharedTaxis" (84 : Nat) ({ cls := "SharedTaxis$State", name := "<init>", desc := "(LSharedTaxis$Town;)V" } : Jvm.MethodName)) ∈ lw_all := lw_g (lw_at lw_m1 87 rfl) rfl
theorem q234 : (Jvm.Cond.fieldLinkNest "SharedTaxis" (118 : Nat) "SharedTaxis$State" "town" "LSharedTaxis$Town;" "SharedTaxis") ∈ lw_tbl := lw_at lw_m1 122 rfl
theorem q240 : (Jvm.Cond.fieldLinkNest "SharedTaxis" (227 : Nat) "SharedTaxis$State" "rules" "[I" "SharedTaxis") ∈ lw_tbl := lw_at lw_m1 128 rfl
theorem q244 : (Jvm.Cond.fieldLinkNest "SharedTaxis" (219 : Nat) "SharedTaxis$State" "flag" "I" "SharedTaxis") ∈ lw_tbl := lw_at lw_m1 132 rfl
theorem q247 : (Jvm.Cond.fieldLinkNest "SharedTaxis" (222 : Nat) "SharedTaxis$State" "rate" "I" "SharedTaxis") ∈ lw_tbl := lw_at lw_m1 135 rfl
theorem q252 : (Jvm.Cond.fieldLinkNest "SharedTaxis" (209 : Nat) "SharedTaxis$State" "present" "I" "SharedTaxis") ∈ lw_tbl := lw_at lw_m1 140 rfl
theorem q257 : (Jvm.Cond.fieldLinkNest "SharedTaxis" (133 : Nat) "SharedTaxis$State" "taxis" "Ljava/util/List;" "SharedTaxis") ∈ lw_tbl := lw_at lw_m1 145 rfl
theorem q262 : (Jvm.Cond.fieldLinkNest "SharedTaxis" (146 : Nat) "SharedTaxis$State" "rides" "Ljava/util/List;" "SharedTaxis") ∈ lw_tbl := lw_at lw_m1 150 rfl
theorem q278 : (Jvm.Cond.classLink "SharedTaxis" (90 : Nat) "java/util/ArrayDeque") ∈ lw_all := lw_g (lw_at lw_m1 166 rfl) rfl
theorem q280 : (Jvm.Cond.methodLink "SharedTaxis" (92 : Nat) ({ cls := "java/util/ArrayDeque", name := "<init>", desc := "()V" } : Jvm.MethodName)) ∈ lw_all := lw_g (lw_at lw_m1 168 rfl) rfl
theorem q298 : (Jvm.Cond.stringRef "SharedTaxis" (97 : Nat) "") ∈ lw_tbl := lw_at lw_m1 186 rfl
theorem q299 : (Jvm.Cond.fieldLink "SharedTaxis" (69 : Nat) "SharedTaxis" "buffer" "[B") ∈ lw_all := lw_g (lw_at lw_m1 187 rfl) rfl
theorem q300 : (Jvm.Cond.fieldLink "SharedTaxis" (151 : Nat) "SharedTaxis" "bufferLength" "I") ∈ lw_all := lw_g (lw_at lw_m1 188 rfl) rfl
theorem q301 : (Jvm.Cond.fieldLink "SharedTaxis" (73 : Nat) "SharedTaxis" "errorPosition" "I") ∈ lw_all := lw_g (lw_at lw_m1 189 rfl) rfl
theorem q303 : (Jvm.Cond.fieldLink "SharedTaxis" (87 : Nat) "SharedTaxis" "state" "LSharedTaxis$State;") ∈ lw_all := lw_g (lw_at lw_m1 191 rfl) rfl
theorem q304 : (Jvm.Cond.fieldLink "SharedTaxis" (187 : Nat) "SharedTaxis" "snapshot" "LSharedTaxis$State;") ∈ lw_all := lw_g (lw_at lw_m1 192 rfl) rfl
theorem q305 : (Jvm.Cond.fieldLink "SharedTaxis" (93 : Nat) "SharedTaxis" "history" "Ljava/util/ArrayDeque;") ∈ lw_all := lw_g (lw_at lw_m1 193 rfl) rfl
theorem q306 : (Jvm.Cond.fieldLink "SharedTaxis" (99 : Nat) "SharedTaxis" "formatted" "Ljava/lang/String;") ∈ lw_all := lw_g (lw_at lw_m1 194 rfl) rfl
theorem q307 : (Jvm.Cond.laysFinal "SharedTaxis" "SharedTaxis" "buffer" "[B") ∈ lw_all := lw_g (lw_at lw_m1 195 rfl) rfl
theorem q308 : (Jvm.Cond.soleField "SharedTaxis" "buffer") ∈ lw_all := lw_g (lw_at lw_m1 196 rfl) rfl
theorem q309 : (Jvm.Cond.lays "SharedTaxis" "SharedTaxis" "bufferLength" "I") ∈ lw_all := lw_g (lw_at lw_m1 197 rfl) rfl
theorem q310 : (Jvm.Cond.soleField "SharedTaxis" "bufferLength") ∈ lw_all := lw_g (lw_at lw_m1 198 rfl) rfl
theorem q311 : (Jvm.Cond.lays "SharedTaxis" "SharedTaxis" "errorPosition" "I") ∈ lw_all := lw_g (lw_at lw_m1 199 rfl) rfl
theorem q312 : (Jvm.Cond.soleField "SharedTaxis" "errorPosition") ∈ lw_all := lw_g (lw_at lw_m1 200 rfl) rfl
theorem q313 : (Jvm.Cond.lays "SharedTaxis" "SharedTaxis" "state" "LSharedTaxis$State;") ∈ lw_all := lw_g (lw_at lw_m1 201 rfl) rfl
theorem q314 : (Jvm.Cond.soleField "SharedTaxis" "state") ∈ lw_all := lw_g (lw_at lw_m1 202 rfl) rfl
theorem q315 : (Jvm.Cond.lays "SharedTaxis" "SharedTaxis" "snapshot" "LSharedTaxis$State;") ∈ lw_all := lw_g (lw_at lw_m1 203 rfl) rfl
theorem q316 : (Jvm.Cond.soleField "SharedTaxis" "snapshot") ∈ lw_all := lw_g (lw_at lw_m1 204 rfl) rfl
theorem q317 : (Jvm.Cond.laysFinal "SharedTaxis" "SharedTaxis" "history" "Ljava/util/ArrayDeque;") ∈ lw_all := lw_g (lw_at lw_m1 205 rfl) rfl
theorem q318 : (Jvm.Cond.soleField "SharedTaxis" "history") ∈ lw_all := lw_g (lw_at lw_m1 206 rfl) rfl
theorem q319 : (Jvm.Cond.lays "SharedTaxis" "SharedTaxis" "formatted" "Ljava/lang/String;") ∈ lw_all := lw_g (lw_at lw_m1 207 rfl) rfl
theorem q320 : (Jvm.Cond.soleField "SharedTaxis" "formatted") ∈ lw_all := lw_g (lw_at lw_m1 208 rfl) rfl
theorem q321 : (Jvm.Cond.superclass "SharedTaxis" "java/lang/Object") ∈ lw_all := lw_g (lw_at lw_m1 209 rfl) rfl
theorem q323 : (Jvm.Cond.instanceMethod ({ cls := "SharedTaxis", name := "feed", desc := "(IIIII)I" } : Jvm.MethodName)) ∈ lw_all := lw_g (lw_at lw_m1 211 rfl) rfl
theorem q324 : (Jvm.Cond.selects "SharedTaxis" ({ cls := "SharedTaxis", name := "feed", desc := "(IIIII)I" } : Jvm.MethodName) ({ cls := "SharedTaxis", name := "feed", desc := "(IIIII)I" } : Jvm.MethodName)) ∈ lw_all := lw_g (lw_at lw_m1 212 rfl) rfl
theorem q325 : (Jvm.Cond.code ({ cls := "SharedTaxis", name := "feed", desc := "(IIIII)I" } : Jvm.MethodName) prog_1_method_13_code (6 : Nat) (Option.some Jvm.ClassFile.FieldType.int)) ∈ lw_all := lw_g (lw_at lw_m1 213 rfl) rfl
theorem q326 : (Jvm.Cond.methodLink "SharedTaxis" (154 : Nat) ({ cls := "SharedTaxis", name := "append", desc := "([I)V" } : Jvm.MethodName)) ∈ lw_all := lw_g (lw_at lw_m1 214 rfl) rfl
theorem q327 : (Jvm.Cond.privateMethod ({ cls := "SharedTaxis", name := "append", desc := "([I)V" } : Jvm.MethodName)) ∈ lw_tbl := lw_at lw_m1 215 rfl
theorem q328 : (Jvm.Cond.instanceMethod ({ cls := "SharedTaxis", name := "append", desc := "([I)V" } : Jvm.MethodName)) ∈ lw_all := lw_g (lw_at lw_m1 216 rfl) rfl
theorem q329 : (Jvm.Cond.code ({ cls := "SharedTaxis", name := "append", desc := "([I)V" } : Jvm.MethodName) prog_1_method_14_code (7 : Nat) (Option.none : Option Jvm.ClassFile.FieldType)) ∈ lw_all := lw_g (lw_at lw_m1 217 rfl) rfl
theorem q331 : (Jvm.Cond.instanceMethod ({ cls := "SharedTaxis", name := "errorPosition", desc := "()I" } : Jvm.MethodName)) ∈ lw_all := lw_g (lw_at lw_m1 219 rfl) rfl
theorem q332 : (Jvm.Cond.selects "SharedTaxis" ({ cls := "SharedTaxis", name := "errorPosition", desc := "()I" } : Jvm.MethodName) ({ cls := "SharedTaxis", name := "errorPosition", desc := "()I" } : Jvm.MethodName)) ∈ lw_all := lw_g (lw_at lw_m1 220 rfl) rfl
theorem q333 : (Jvm.Cond.code ({ cls := "SharedTaxis", name := "errorPosition", desc := "()I" } : Jvm.MethodName) prog_1_method_16_code (1 : Nat) (Option.some Jvm.ClassFile.FieldType.int)) ∈ lw_all := lw_g (lw_at lw_m1 221 rfl) rfl
theorem q335 : (Jvm.Cond.instanceMethod ({ cls := "SharedTaxis", name := "meanFare", desc := "()D" } : Jvm.MethodName)) ∈ lw_all := lw_g (lw_at lw_m1 223 rfl) rfl
theorem q336 : (Jvm.Cond.selects "SharedTaxis" ({ cls := "SharedTaxis", name := "meanFare", desc := "()D" } : Jvm.MethodName) ({ cls := "SharedTaxis", name := "meanFare", desc := "()D" } : Jvm.MethodName)) ∈ lw_all := lw_g (lw_at lw_m1 224 rfl) rfl
theorem q337 : (Jvm.Cond.code ({ cls := "SharedTaxis", name := "meanFare", desc := "()D" } : Jvm.MethodName) prog_1_method_33_code (5 : Nat) (Option.some Jvm.ClassFile.FieldType.double)) ∈ lw_all := lw_g (lw_at lw_m1 225 rfl) rfl
theorem q338 : (Jvm.Cond.interfaceEntry "SharedTaxis" (190 : Nat)) ∈ lw_tbl := lw_at lw_m1 226 rfl
theorem q339 : (Jvm.Cond.methodLink "SharedTaxis" (190 : Nat) ({ cls := "java/util/List", name := "iterator", desc := "()Ljava/util/Iterator;" } : Jvm.MethodName)) ∈ lw_all := lw_g (lw_at lw_m1 227 rfl) rfl
theorem q367 : (Jvm.Cond.interfaceEntry "SharedTaxis" (194 : Nat)) ∈ lw_tbl := lw_at lw_m2 15 rfl
theorem q368 : (Jvm.Cond.methodLink "SharedTaxis" (194 : Nat) ({ cls := "java/util/Iterator", name := "hasNext", desc := "()Z" } : Jvm.MethodName)) ∈ lw_all := lw_g (lw_at lw_m2 16 rfl) rfl
theorem q398 : (Jvm.Cond.interfaceEntry "SharedTaxis" (200 : Nat)) ∈ lw_tbl := lw_at lw_m2 46 rfl
theorem q399 : (Jvm.Cond.methodLink "SharedTaxis" (200 : Nat) ({ cls := "java/util/Iterator", name := "next", desc := "()Ljava/lang/Object;" } : Jvm.MethodName)) ∈ lw_all := lw_g (lw_at lw_m2 47 rfl) rfl
theorem q413 : (Jvm.Cond.static ({ cls := "SharedTaxis", name := "requireExists", desc := "(Z)V" } : Jvm.MethodName)) ∈ lw_all := lw_g (lw_at lw_m2 61 rfl) rfl
theorem q414 : (Jvm.Cond.code ({ cls := "SharedTaxis", name := "requireExists", desc := "(Z)V" } : Jvm.MethodName) prog_1_method_2_code (1 : Nat) (Option.none : Option Jvm.ClassFile.FieldType)) ∈ lw_all := lw_g (lw_at lw_m2 62 rfl) rfl
theorem q415 : (Jvm.Cond.classLink "SharedTaxis" (1 : Nat) "java/util/NoSuchElementException") ∈ lw_all := lw_g (lw_at lw_m2 63 rfl) rfl
theorem q462 : (Jvm.Cond.methodLink "SharedTaxis" (3 : Nat) ({ cls := "java/util/NoSuchElementException", name := "<init>", desc := "()V" } : Jvm.MethodName)) ∈ lw_all := lw_g (lw_at lw_m2 110 rfl) rfl
theorem q800 : (Jvm.Cond.classLink "SharedTaxis" (149 : Nat) "SharedTaxis$Ride") ∈ lw_all := lw_g (lw_at lw_m3 208 rfl) rfl
theorem q802 : (Jvm.Cond.instanceMethod ({ cls := "SharedTaxis", name := "sharedPart", desc := "()F" } : Jvm.MethodName)) ∈ lw_all := lw_g (lw_at lw_m3 210 rfl) rfl
theorem q803 : (Jvm.Cond.selects "SharedTaxis" ({ cls := "SharedTaxis", name := "sharedPart", desc := "()F" } : Jvm.MethodName) ({ cls := "SharedTaxis", name := "sharedPart", desc := "()F" } : Jvm.MethodName)) ∈ lw_all := lw_g (lw_at lw_m3 211 rfl) rfl
theorem q804 : (Jvm.Cond.code ({ cls := "SharedTaxis", name := "sharedPart", desc := "()F" } : Jvm.MethodName) prog_1_method_34_code (5 : Nat) (Option.some Jvm.ClassFile.FieldType.float)) ∈ lw_all := lw_g (lw_at lw_m3 212 rfl) rfl
theorem q805 : (Jvm.Cond.classLink "SharedTaxis" (144 : Nat) "SharedTaxis$Taxi") ∈ lw_all := lw_g (lw_at lw_m3 213 rfl) rfl
theorem q807 : (Jvm.Cond.instanceMethod ({ cls := "SharedTaxis", name := "formattedByte", desc := "(I)I" } : Jvm.MethodName)) ∈ lw_all := lw_g (lw_at lw_m3 215 rfl) rfl
theorem q808 : (Jvm.Cond.selects "SharedTaxis" ({ cls := "SharedTaxis", name := "formattedByte", desc := "(I)I" } : Jvm.MethodName) ({ cls := "SharedTaxis", name := "formattedByte", desc := "(I)I" } : Jvm.MethodName)) ∈ lw_all := lw_g (lw_at lw_m3 216 rfl) rfl
theorem q809 : (Jvm.Cond.code ({ cls := "SharedTaxis", name := "formattedByte", desc := "(I)I" } : Jvm.MethodName) prog_1_method_47_code (2 : Nat) (Option.some Jvm.ClassFile.FieldType.int)) ∈ lw_all := lw_g (lw_at lw_m3 217 rfl) rfl
theorem q810 : (Jvm.Cond.methodLink "SharedTaxis" (524 : Nat) ({ cls := "java/lang/String", name := "length", desc := "()I" } : Jvm.MethodName)) ∈ lw_all := lw_g (lw_at lw_m3 218 rfl) rfl
theorem q811 : (Jvm.Cond.methodLink "SharedTaxis" (125 : Nat) ({ cls := "SharedTaxis", name := "inRange", desc := "(JJJ)Z" } : Jvm.MethodName)) ∈ lw_all := lw_g (lw_at lw_m3 219 rfl) rfl
theorem q812 : (Jvm.Cond.static ({ cls := "SharedTaxis", name := "inRange", desc := "(JJJ)Z" } : Jvm.MethodName)) ∈ lw_all := lw_g (lw_at lw_m3 220 rfl) rfl
theorem q813 : (Jvm.Cond.code ({ cls := "SharedTaxis", name := "inRange", desc := "(JJJ)Z" } : Jvm.MethodName) prog_1_method_1_code (6 : Nat) (Option.some Jvm.ClassFile.FieldType.boolean)) ∈ lw_all := lw_g (lw_at lw_m3 221 rfl) rfl
theorem q814 : (Jvm.Cond.methodLink "SharedTaxis" (525 : Nat) ({ cls := "java/lang/String", name := "charAt", desc := "(I)C" } : Jvm.MethodName)) ∈ lw_all := lw_g (lw_at lw_m3 222 rfl) rfl
theorem q837 : (Jvm.Cond.instanceMethod ({ cls := "SharedTaxis", name := "undoCount", desc := "()I" } : Jvm.MethodName)) ∈ lw_all := lw_g (lw_at lw_m4 5 rfl) rfl
theorem q838 : (Jvm.Cond.selects "SharedTaxis" ({ cls := "SharedTaxis", name := "undoCount", desc := "()I" } : Jvm.MethodName) ({ cls := "SharedTaxis", name := "undoCount", desc := "()I" } : Jvm.MethodName)) ∈ lw_all := lw_g (lw_at lw_m4 6 rfl) rfl
theorem q839 : (Jvm.Cond.code ({ cls := "SharedTaxis", name := "undoCount", desc := "()I" } : Jvm.MethodName) prog_1_method_48_code (1 : Nat) (Option.some Jvm.ClassFile.FieldType.int)) ∈ lw_all := lw_g (lw_at lw_m4 7 rfl) rfl
theorem q840 : (Jvm.Cond.methodLink "SharedTaxis" (103 : Nat) ({ cls := "java/util/ArrayDeque", name := "size", desc := "()I" } : Jvm.MethodName)) ∈ lw_all := lw_g (lw_at lw_m4 8 rfl) rfl
theorem q848 : (Jvm.Cond.instanceMethod ({ cls := "SharedTaxis", name := "undo", desc := "()I" } : Jvm.MethodName)) ∈ lw_all := lw_g (lw_at lw_m4 16 rfl) rfl
theorem q849 : (Jvm.Cond.selects "SharedTaxis" ({ cls := "SharedTaxis", name := "undo", desc := "()I" } : Jvm.MethodName) ({ cls := "SharedTaxis", name := "undo", desc := "()I" } : Jvm.MethodName)) ∈ lw_all := lw_g (lw_at lw_m4 17 rfl) rfl
theorem q850 : (Jvm.Cond.code ({ cls := "SharedTaxis", name := "undo", desc := "()I" } : Jvm.MethodName) prog_1_method_49_code (1 : Nat) (Option.some Jvm.ClassFile.FieldType.int)) ∈ lw_all := lw_g (lw_at lw_m4 18 rfl) rfl
theorem q851 : (Jvm.Cond.methodLink "SharedTaxis" (529 : Nat) ({ cls := "java/util/ArrayDeque", name := "isEmpty", desc := "()Z" } : Jvm.MethodName)) ∈ lw_all := lw_g (lw_at lw_m4 19 rfl) rfl
theorem q855 : (Jvm.Cond.methodLink "SharedTaxis" (530 : Nat) ({ cls := "java/util/ArrayDeque", name := "removeLast", desc := "()Ljava/lang/Object;" } : Jvm.MethodName)) ∈ lw_all := lw_g (lw_at lw_m4 23 rfl) rfl
theorem q872 : (Jvm.Cond.instanceMethod ({ cls := "SharedTaxis", name := "saveSnapshot", desc := "()V" } : Jvm.MethodName)) ∈ lw_all := lw_g (lw_at lw_m4 40 rfl) rfl
theorem q873 : (Jvm.Cond.selects "SharedTaxis" ({ cls := "SharedTaxis", name := "saveSnapshot", desc := "()V" } : Jvm.MethodName) ({ cls := "SharedTaxis", name := "saveSnapshot", desc := "()V" } : Jvm.MethodName)) ∈ lw_all := lw_g (lw_at lw_m4 41 rfl) rfl
theorem q874 : (Jvm.Cond.code ({ cls := "SharedTaxis", name := "saveSnapshot", desc := "()V" } : Jvm.MethodName) prog_1_method_50_code (1 : Nat) (Option.none : Option Jvm.ClassFile.FieldType)) ∈ lw_all := lw_g (lw_at lw_m4 42 rfl) rfl
theorem q875 : (Jvm.Cond.methodLink "SharedTaxis" (110 : Nat) ({ cls := "SharedTaxis$State", name := "copy", desc := "()LSharedTaxis$State;" } : Jvm.MethodName)) ∈ lw_all := lw_g (lw_at lw_m4 43 rfl) rfl
theorem q907 : (Jvm.Cond.fieldLinkNest "SharedTaxis" (242 : Nat) "SharedTaxis$Taxi" "seats" "I" "SharedTaxis") ∈ lw_tbl := lw_at lw_m4 75 rfl
theorem q909 : (Jvm.Cond.fieldLinkNest "SharedTaxis" (251 : Nat) "SharedTaxis$Taxi" "begin" "I" "SharedTaxis") ∈ lw_tbl := lw_at lw_m4 77 rfl
theorem q913 : (Jvm.Cond.fieldLinkNest "SharedTaxis" (245 : Nat) "SharedTaxis$Taxi" "zone" "I" "SharedTaxis") ∈ lw_tbl := lw_at lw_m4 81 rfl
theorem q917 : (Jvm.Cond.fieldLinkNest "SharedTaxis" (248 : Nat) "SharedTaxis$Taxi" "free" "I" "SharedTaxis") ∈ lw_tbl := lw_at lw_m4 85 rfl
theorem q920 : (Jvm.Cond.fieldLinkNest "SharedTaxis" (254 : Nat) "SharedTaxis$Taxi" "end" "I" "SharedTaxis") ∈ lw_tbl := lw_at lw_m4 88 rfl
theorem q924 : (Jvm.Cond.fieldLinkNest "SharedTaxis" (264 : Nat) "SharedTaxis$Taxi" "stint" "I" "SharedTaxis") ∈ lw_tbl := lw_at lw_m4 92 rfl
theorem q929 : (Jvm.Cond.fieldLinkNest "SharedTaxis" (266 : Nat) "SharedTaxis$Taxi" "left" "I" "SharedTaxis") ∈ lw_tbl := lw_at lw_m4 97 rfl
theorem q934 : (Jvm.Cond.fieldLinkNest "SharedTaxis" (203 : Nat) "SharedTaxis$Taxi" "stops" "Ljava/util/List;" "SharedTaxis") ∈ lw_tbl := lw_at lw_m4 102 rfl
theorem q939 : (Jvm.Cond.fieldLinkNest "SharedTaxis" (261 : Nat) "SharedTaxis$Taxi" "aboard" "Ljava/util/List;" "SharedTaxis") ∈ lw_tbl := lw_at lw_m4 107 rfl
theorem q942 : (Jvm.Cond.fieldLinkNest "SharedTaxis" (463 : Nat) "SharedTaxis$Taxi" "takings" "I" "SharedTaxis") ∈ lw_tbl := lw_at lw_m4 110 rfl
theorem q944 : (Jvm.Cond.fieldLinkNest "SharedTaxis" (474 : Nat) "SharedTaxis$Taxi" "tips" "I" "SharedTaxis") ∈ lw_tbl := lw_at lw_m4 112 rfl
theorem q949 : (Jvm.Cond.fieldLinkNest "SharedTaxis" (421 : Nat) "SharedTaxis$Taxi" "withParties" "I" "SharedTaxis") ∈ lw_tbl := lw_at lw_m4 117 rfl
theorem q952 : (Jvm.Cond.fieldLinkNest "SharedTaxis" (418 : Nat) "SharedTaxis$Taxi" "shared" "I" "SharedTaxis") ∈ lw_tbl := lw_at lw_m4 120 rfl
theorem q1028 : (Jvm.Cond.selects "SharedTaxis" ({ cls := "java/lang/Object", name := "getClass", desc := "()Ljava/lang/Class;" } : Jvm.MethodName) ({ cls := "java/lang/Object", name := "getClass", desc := "()Ljava/lang/Class;" } : Jvm.MethodName)) ∈ lw_all := lw_g (lw_at lw_m4 196 rfl) rfl
theorem q1110 : (Jvm.Cond.fieldLinkNest "SharedTaxis" (315 : Nat) "SharedTaxis$Ride" "from" "I" "SharedTaxis") ∈ lw_tbl := lw_at lw_m5 38 rfl
theorem q1114 : (Jvm.Cond.fieldLinkNest "SharedTaxis" (317 : Nat) "SharedTaxis$Ride" "to" "I" "SharedTaxis") ∈ lw_tbl := lw_at lw_m5 42 rfl
theorem q1118 : (Jvm.Cond.fieldLinkNest "SharedTaxis" (319 : Nat) "SharedTaxis$Ride" "persons" "I" "SharedTaxis") ∈ lw_tbl := lw_at lw_m5 46 rfl
theorem q1121 : (Jvm.Cond.fieldLinkNest "SharedTaxis" (321 : Nat) "SharedTaxis$Ride" "ready" "I" "SharedTaxis") ∈ lw_tbl := lw_at lw_m5 49 rfl
theorem q1124 : (Jvm.Cond.fieldLinkNest "SharedTaxis" (323 : Nat) "SharedTaxis$Ride" "latest" "I" "SharedTaxis") ∈ lw_tbl := lw_at lw_m5 52 rfl
theorem q1126 : (Jvm.Cond.fieldLinkNest "SharedTaxis" (326 : Nat) "SharedTaxis$Ride" "detour" "I" "SharedTaxis") ∈ lw_tbl := lw_at lw_m5 54 rfl
theorem q1128 : (Jvm.Cond.fieldLinkNest "SharedTaxis" (328 : Nat) "SharedTaxis$Ride" "direct" "I" "SharedTaxis") ∈ lw_tbl := lw_at lw_m5 56 rfl
theorem q1132 : (Jvm.Cond.fieldLinkNest "SharedTaxis" (313 : Nat) "SharedTaxis$Ride" "state" "I" "SharedTaxis") ∈ lw_tbl := lw_at lw_m5 60 rfl
theorem q1134 : (Jvm.Cond.fieldLinkNest "SharedTaxis" (334 : Nat) "SharedTaxis$Ride" "taxi" "I" "SharedTaxis") ∈ lw_tbl := lw_at lw_m5 62 rfl
theorem q1138 : (Jvm.Cond.fieldLinkNest "SharedTaxis" (336 : Nat) "SharedTaxis$Ride" "boarded" "I" "SharedTaxis") ∈ lw_tbl := lw_at lw_m5 66 rfl
theorem q1141 : (Jvm.Cond.fieldLinkNest "SharedTaxis" (339 : Nat) "SharedTaxis$Ride" "dropped" "I" "SharedTaxis") ∈ lw_tbl := lw_at lw_m5 69 rfl
theorem q1144 : (Jvm.Cond.fieldLinkNest "SharedTaxis" (342 : Nat) "SharedTaxis$Ride" "paid" "I" "SharedTaxis") ∈ lw_tbl := lw_at lw_m5 72 rfl
theorem q1148 : (Jvm.Cond.fieldLinkNest "SharedTaxis" (345 : Nat) "SharedTaxis$Ride" "absent" "Z" "SharedTaxis") ∈ lw_tbl := lw_at lw_m5 76 rfl
theorem q1151 : (Jvm.Cond.fieldLinkNest "SharedTaxis" (350 : Nat) "SharedTaxis$Ride" "offer" "LSharedTaxis$Offer;" "SharedTaxis") ∈ lw_tbl := lw_at lw_m5 79 rfl
theorem q1184 : (Jvm.Cond.instanceMethod ({ cls := "SharedTaxis", name := "restoreSnapshot", desc := "()Z" } : Jvm.MethodName)) ∈ lw_all := lw_g (lw_at lw_m5 112 rfl) rfl
theorem q1185 : (Jvm.Cond.selects "SharedTaxis" ({ cls := "SharedTaxis", name := "restoreSnapshot", desc := "()Z" } : Jvm.MethodName) ({ cls := "SharedTaxis", name := "restoreSnapshot", desc := "()Z" } : Jvm.MethodName)) ∈ lw_all := lw_g (lw_at lw_m5 113 rfl) rfl
theorem q1186 : (Jvm.Cond.code ({ cls := "SharedTaxis", name := "restoreSnapshot", desc := "()Z" } : Jvm.MethodName) prog_1_method_51_code (1 : Nat) (Option.some Jvm.ClassFile.FieldType.boolean)) ∈ lw_all := lw_g (lw_at lw_m5 114 rfl) rfl
theorem q1187 : (Jvm.Cond.methodLink "SharedTaxis" (184 : Nat) ({ cls := "java/util/ArrayDeque", name := "clear", desc := "()V" } : Jvm.MethodName)) ∈ lw_all := lw_g (lw_at lw_m5 115 rfl) rfl
theorem q1199 : (Jvm.Cond.instanceMethod ({ cls := "SharedTaxis", name := "load", desc := "(I)I" } : Jvm.MethodName)) ∈ lw_all := lw_g (lw_at lw_m5 127 rfl) rfl
theorem q1200 : (Jvm.Cond.selects "SharedTaxis" ({ cls := "SharedTaxis", name := "load", desc := "(I)I" } : Jvm.MethodName) ({ cls := "SharedTaxis", name := "load", desc := "(I)I" } : Jvm.MethodName)) ∈ lw_all := lw_g (lw_at lw_m5 128 rfl) rfl
theorem q1201 : (Jvm.Cond.codeWith ({ cls := "SharedTaxis", name := "load", desc := "(I)I" } : Jvm.MethodName) prog_1_method_15_code (5 : Nat) (Option.some Jvm.ClassFile.FieldType.int) [((14 : Nat), (42 : Nat), (50 : Nat), (176 : Nat)), ((14 : Nat), (42 : Nat), (74 : Nat), (0 : Nat)), ((50 : Nat), (67 : Nat), (74 : Nat), (0 : Nat)), ((74 : Nat), (76 : Nat), (74 : Nat), (0 : Nat))]) ∈ lw_all := lw_g (lw_at lw_m5 129 rfl) rfl
theorem q1202 : (Jvm.Cond.classLink "SharedTaxis" (176 : Nat) "SharedTaxis$TextException") ∈ lw_all := lw_g (lw_at lw_m5 130 rfl) rfl
theorem q1203 : (Jvm.Cond.methodLink "SharedTaxis" (158 : Nat) ({ cls := "SharedTaxis", name := "require", desc := "(Z)V" } : Jvm.MethodName)) ∈ lw_all := lw_g (lw_at lw_m5 131 rfl) rfl
theorem q1204 : (Jvm.Cond.static ({ cls := "SharedTaxis", name := "require", desc := "(Z)V" } : Jvm.MethodName)) ∈ lw_all := lw_g (lw_at lw_m5 132 rfl) rfl
theorem q1205 : (Jvm.Cond.code ({ cls := "SharedTaxis", name := "require", desc := "(Z)V" } : Jvm.MethodName) prog_1_method_3_code (1 : Nat) (Option.none : Option Jvm.ClassFile.FieldType)) ∈ lw_all := lw_g (lw_at lw_m5 133 rfl) rfl
theorem q1206 : (Jvm.Cond.classLink "SharedTaxis" (7 : Nat) "java/lang/IllegalArgumentException") ∈ lw_all := lw_g (lw_at lw_m5 134 rfl) rfl
theorem q1207 : (Jvm.Cond.methodLink "SharedTaxis" (9 : Nat) ({ cls := "java/lang/IllegalArgumentException", name := "<init>", desc := "()V" } : Jvm.MethodName)) ∈ lw_all := lw_g (lw_at lw_m5 135 rfl) rfl
theorem q1211 : (Jvm.Cond.classLink "SharedTaxis" (161 : Nat) "SharedTaxis$Reader") ∈ lw_all := lw_g (lw_at lw_m5 139 rfl) rfl
theorem q1213 : (Jvm.Cond.classLink "SharedTaxis" (163 : Nat) "SharedTaxis$Scanner") ∈ lw_all := lw_g (lw_at lw_m5 141 rfl) rfl
theorem q1215 : (Jvm.Cond.stringRef "SharedTaxis" (165 : Nat) ";") ∈ lw_tbl := lw_at lw_m5 143 rfl
theorem q1216 : (Jvm.Cond.methodLink "SharedTaxis" (167 : Nat) ({ cls := "SharedTaxis$Scanner", name := "<init>", desc := "([BILjava/lang/String;)V" } : Jvm.MethodName)) ∈ lw_all := lw_g (lw_at lw_m5 144 rfl) rfl
theorem q1331 : (Jvm.Cond.methodLink "SharedTaxis" (170 : Nat) ({ cls := "SharedTaxis$Reader", name := "<init>", desc := "(LSharedTaxis$Scanner;)V" } : Jvm.MethodName)) ∈ lw_all := lw_g (lw_at lw_m6 19 rfl) rfl
theorem q1342 : (Jvm.Cond.methodLink "SharedTaxis" (173 : Nat) ({ cls := "SharedTaxis$Reader", name := "read", desc := "()LSharedTaxis$State;" } : Jvm.MethodName)) ∈ lw_all := lw_g (lw_at lw_m6 30 rfl) rfl
theorem q1393 : (Jvm.Cond.fieldLinkNest "SharedTaxis" (178 : Nat) "SharedTaxis$TextException" "place" "I" "SharedTaxis") ∈ lw_tbl := lw_at lw_m6 81 rfl
theorem q1509 : (Jvm.Cond.static ({ cls := "SharedTaxis", name := "mostOf", desc := "(I)I" } : Jvm.MethodName)) ∈ lw_all := lw_g (lw_at lw_m6 197 rfl) rfl
theorem q1510 : (Jvm.Cond.code ({ cls := "SharedTaxis", name := "mostOf", desc := "(I)I" } : Jvm.MethodName) prog_1_method_6_code (1 : Nat) (Option.some Jvm.ClassFile.FieldType.int)) ∈ lw_all := lw_g (lw_at lw_m6 198 rfl) rfl
theorem q1517 : (Jvm.Cond.static ({ cls := "SharedTaxis", name := "ruleName", desc := "(I)Ljava/lang/String;" } : Jvm.MethodName)) ∈ lw_all := lw_g (lw_at lw_m6 205 rfl) rfl
theorem q1518 : (Jvm.Cond.code ({ cls := "SharedTaxis", name := "ruleName", desc := "(I)Ljava/lang/String;" } : Jvm.MethodName) prog_1_method_4_code (1 : Nat) (Option.some (Jvm.ClassFile.FieldType.object "java/lang/String"))) ∈ lw_all := lw_g (lw_at lw_m6 206 rfl) rfl
theorem q1519 : (Jvm.Cond.stringRef "SharedTaxis" (10 : Nat) "wait") ∈ lw_tbl := lw_at lw_m6 207 rfl
theorem q1520 : (Jvm.Cond.stringRef "SharedTaxis" (12 : Nat) "dwell") ∈ lw_tbl := lw_at lw_m6 208 rfl
theorem q1521 : (Jvm.Cond.stringRef "SharedTaxis" (14 : Nat) "offer") ∈ lw_tbl := lw_at lw_m6 209 rfl
theorem q1522 : (Jvm.Cond.stringRef "SharedTaxis" (16 : Nat) "patience") ∈ lw_tbl := lw_at lw_m6 210 rfl
theorem q1523 : (Jvm.Cond.stringRef "SharedTaxis" (18 : Nat) "fee") ∈ lw_tbl := lw_at lw_m6 211 rfl
theorem q1524 : (Jvm.Cond.stringRef "SharedTaxis" (20 : Nat) "stint") ∈ lw_tbl := lw_at lw_m6 212 rfl
theorem q1525 : (Jvm.Cond.stringRef "SharedTaxis" (22 : Nat) "rest") ∈ lw_tbl := lw_at lw_m6 213 rfl
theorem q1527 : (Jvm.Cond.static ({ cls := "SharedTaxis", name := "leastOf", desc := "(I)I" } : Jvm.MethodName)) ∈ lw_all := lw_g (lw_at lw_m6 215 rfl) rfl
theorem q1528 : (Jvm.Cond.code ({ cls := "SharedTaxis", name := "leastOf", desc := "(I)I" } : Jvm.MethodName) prog_1_method_5_code (1 : Nat) (Option.some Jvm.ClassFile.FieldType.int)) ∈ lw_all := lw_g (lw_at lw_m6 216 rfl) rfl
theorem q1538 : (Jvm.Cond.methodLink "SharedTaxis" (181 : Nat) ({ cls := "SharedTaxis$TextException", name := "code", desc := "()I" } : Jvm.MethodName)) ∈ lw_all := lw_g (lw_at lw_m6 226 rfl) rfl
theorem q1553 : (Jvm.Cond.interfaceEntry "SharedTaxis" (137 : Nat)) ∈ lw_tbl := lw_at lw_m7 1 rfl
theorem q1554 : (Jvm.Cond.methodLink "SharedTaxis" (137 : Nat) ({ cls := "java/util/List", name := "size", desc := "()I" } : Jvm.MethodName)) ∈ lw_all := lw_g (lw_at lw_m7 2 rfl) rfl
theorem q1560 : (Jvm.Cond.instanceMethod ({ cls := "SharedTaxis", name := "size", desc := "(I)I" } : Jvm.MethodName)) ∈ lw_all := lw_g (lw_at lw_m7 8 rfl) rfl
theorem q1561 : (Jvm.Cond.selects "SharedTaxis" ({ cls := "SharedTaxis", name := "size", desc := "(I)I" } : Jvm.MethodName) ({ cls := "SharedTaxis", name := "size", desc := "(I)I" } : Jvm.MethodName)) ∈ lw_all := lw_g (lw_at lw_m7 9 rfl) rfl
theorem q1562 : (Jvm.Cond.code ({ cls := "SharedTaxis", name := "size", desc := "(I)I" } : Jvm.MethodName) prog_1_method_18_code (2 : Nat) (Option.some Jvm.ClassFile.FieldType.int)) ∈ lw_all := lw_g (lw_at lw_m7 10 rfl) rfl
theorem q1563 : (Jvm.Cond.methodLink "SharedTaxis" (212 : Nat) ({ cls := "SharedTaxis$State", name := "ridesIn", desc := "(I)I" } : Jvm.MethodName)) ∈ lw_all := lw_g (lw_at lw_m7 11 rfl) rfl
theorem q1567 : (Jvm.Cond.methodLink "SharedTaxis" (216 : Nat) ({ cls := "SharedTaxis", name := "allStops", desc := "()I" } : Jvm.MethodName)) ∈ lw_all := lw_g (lw_at lw_m7 15 rfl) rfl
theorem q1568 : (Jvm.Cond.privateMethod ({ cls := "SharedTaxis", name := "allStops", desc := "()I" } : Jvm.MethodName)) ∈ lw_tbl := lw_at lw_m7 16 rfl
theorem q1569 : (Jvm.Cond.instanceMethod ({ cls := "SharedTaxis", name := "allStops", desc := "()I" } : Jvm.MethodName)) ∈ lw_all := lw_g (lw_at lw_m7 17 rfl) rfl
theorem q1570 : (Jvm.Cond.code ({ cls := "SharedTaxis", name := "allStops", desc := "()I" } : Jvm.MethodName) prog_1_method_17_code (4 : Nat) (Option.some Jvm.ClassFile.FieldType.int)) ∈ lw_all := lw_g (lw_at lw_m7 18 rfl) rfl
theorem q1575 : (Jvm.Cond.instanceMethod ({ cls := "SharedTaxis", name := "rule", desc := "(I)I" } : Jvm.MethodName)) ∈ lw_all := lw_g (lw_at lw_m7 23 rfl) rfl
theorem q1576 : (Jvm.Cond.selects "SharedTaxis" ({ cls := "SharedTaxis", name := "rule", desc := "(I)I" } : Jvm.MethodName) ({ cls := "SharedTaxis", name := "rule", desc := "(I)I" } : Jvm.MethodName)) ∈ lw_all := lw_g (lw_at lw_m7 24 rfl) rfl
theorem q1577 : (Jvm.Cond.code ({ cls := "SharedTaxis", name := "rule", desc := "(I)I" } : Jvm.MethodName) prog_1_method_19_code (2 : Nat) (Option.some Jvm.ClassFile.FieldType.int)) ∈ lw_all := lw_g (lw_at lw_m7 25 rfl) rfl
theorem q1578 : (Jvm.Cond.constantLong "SharedTaxis" (225 : Nat) (9 : Int64)) ∈ lw_all := lw_g (lw_at lw_m7 26 rfl) rfl
theorem q1579 : (Jvm.Cond.methodLink "SharedTaxis" (129 : Nat) ({ cls := "SharedTaxis", name := "requireExists", desc := "(Z)V" } : Jvm.MethodName)) ∈ lw_all := lw_g (lw_at lw_m7 27 rfl) rfl
theorem q1584 : (Jvm.Cond.instanceMethod ({ cls := "SharedTaxis", name := "minutes", desc := "(II)I" } : Jvm.MethodName)) ∈ lw_all := lw_g (lw_at lw_m7 32 rfl) rfl
theorem q1585 : (Jvm.Cond.selects "SharedTaxis" ({ cls := "SharedTaxis", name := "minutes", desc := "(II)I" } : Jvm.MethodName) ({ cls := "SharedTaxis", name := "minutes", desc := "(II)I" } : Jvm.MethodName)) ∈ lw_all := lw_g (lw_at lw_m7 33 rfl) rfl
theorem q1586 : (Jvm.Cond.code ({ cls := "SharedTaxis", name := "minutes", desc := "(II)I" } : Jvm.MethodName) prog_1_method_20_code (3 : Nat) (Option.some Jvm.ClassFile.FieldType.int)) ∈ lw_all := lw_g (lw_at lw_m7 34 rfl) rfl
theorem q1587 : (Jvm.Cond.methodLink "SharedTaxis" (231 : Nat) ({ cls := "SharedTaxis", name := "requireZone", desc := "(I)V" } : Jvm.MethodName)) ∈ lw_all := lw_g (lw_at lw_m7 35 rfl) rfl
theorem q1588 : (Jvm.Cond.privateMethod ({ cls := "SharedTaxis", name := "requireZone", desc := "(I)V" } : Jvm.MethodName)) ∈ lw_tbl := lw_at lw_m7 36 rfl
theorem q1589 : (Jvm.Cond.instanceMethod ({ cls := "SharedTaxis", name := "requireZone", desc := "(I)V" } : Jvm.MethodName)) ∈ lw_all := lw_g (lw_at lw_m7 37 rfl) rfl
theorem q1590 : (Jvm.Cond.code ({ cls := "SharedTaxis", name := "requireZone", desc := "(I)V" } : Jvm.MethodName) prog_1_method_10_code (2 : Nat) (Option.none : Option Jvm.ClassFile.FieldType)) ∈ lw_all := lw_g (lw_at lw_m7 38 rfl) rfl
theorem q1595 : (Jvm.Cond.instanceMethod ({ cls := "SharedTaxis", name := "taxi", desc := "(II)I" } : Jvm.MethodName)) ∈ lw_all := lw_g (lw_at lw_m7 43 rfl) rfl
theorem q1596 : (Jvm.Cond.selects "SharedTaxis" ({ cls := "SharedTaxis", name := "taxi", desc := "(II)I" } : Jvm.MethodName) ({ cls := "SharedTaxis", name := "taxi", desc := "(II)I" } : Jvm.MethodName)) ∈ lw_all := lw_g (lw_at lw_m7 44 rfl) rfl
theorem q1597 : (Jvm.Cond.code ({ cls := "SharedTaxis", name := "taxi", desc := "(II)I" } : Jvm.MethodName) prog_1_method_21_code (4 : Nat) (Option.some Jvm.ClassFile.FieldType.int)) ∈ lw_all := lw_g (lw_at lw_m7 45 rfl) rfl
theorem q1598 : (Jvm.Cond.methodLink "SharedTaxis" (238 : Nat) ({ cls := "SharedTaxis", name := "taxiAt", desc := "(I)LSharedTaxis$Taxi;" } : Jvm.MethodName)) ∈ lw_all := lw_g (lw_at lw_m7 46 rfl) rfl
theorem q1599 : (Jvm.Cond.privateMethod ({ cls := "SharedTaxis", name := "taxiAt", desc := "(I)LSharedTaxis$Taxi;" } : Jvm.MethodName)) ∈ lw_tbl := lw_at lw_m7 47 rfl
theorem q1600 : (Jvm.Cond.instanceMethod ({ cls := "SharedTaxis", name := "taxiAt", desc := "(I)LSharedTaxis$Taxi;" } : Jvm.MethodName)) ∈ lw_all := lw_g (lw_at lw_m7 48 rfl) rfl
theorem q1601 : (Jvm.Cond.code ({ cls := "SharedTaxis", name := "taxiAt", desc := "(I)LSharedTaxis$Taxi;" } : Jvm.MethodName) prog_1_method_11_code (2 : Nat) (Option.some (Jvm.ClassFile.FieldType.object "SharedTaxis$Taxi"))) ∈ lw_all := lw_g (lw_at lw_m7 49 rfl) rfl
theorem q1602 : (Jvm.Cond.interfaceEntry "SharedTaxis" (140 : Nat)) ∈ lw_tbl := lw_at lw_m7 50 rfl
theorem q1603 : (Jvm.Cond.methodLink "SharedTaxis" (140 : Nat) ({ cls := "java/util/List", name := "get", desc := "(I)Ljava/lang/Object;" } : Jvm.MethodName)) ∈ lw_all := lw_g (lw_at lw_m7 51 rfl) rfl
theorem q1604 : (Jvm.Cond.methodLink "SharedTaxis" (257 : Nat) ({ cls := "SharedTaxis$State", name := "personsIn", desc := "(LSharedTaxis$Taxi;)I" } : Jvm.MethodName)) ∈ lw_all := lw_g (lw_at lw_m7 52 rfl) rfl
theorem q1617 : (Jvm.Cond.instanceMethod ({ cls := "SharedTaxis", name := "account", desc := "(II)I" } : Jvm.MethodName)) ∈ lw_all := lw_g (lw_at lw_m7 65 rfl) rfl
theorem q1618 : (Jvm.Cond.selects "SharedTaxis" ({ cls := "SharedTaxis", name := "account", desc := "(II)I" } : Jvm.MethodName) ({ cls := "SharedTaxis", name := "account", desc := "(II)I" } : Jvm.MethodName)) ∈ lw_all := lw_g (lw_at lw_m7 66 rfl) rfl
theorem q1619 : (Jvm.Cond.code ({ cls := "SharedTaxis", name := "account", desc := "(II)I" } : Jvm.MethodName) prog_1_method_22_code (4 : Nat) (Option.some Jvm.ClassFile.FieldType.int)) ∈ lw_all := lw_g (lw_at lw_m7 67 rfl) rfl
theorem q1620 : (Jvm.Cond.constantLong "SharedTaxis" (269 : Nat) (5 : Int64)) ∈ lw_all := lw_g (lw_at lw_m7 68 rfl) rfl
theorem q1621 : (Jvm.Cond.methodLink "SharedTaxis" (271 : Nat) ({ cls := "SharedTaxis$Taxi", name := "account", desc := "(I)I" } : Jvm.MethodName)) ∈ lw_all := lw_g (lw_at lw_m7 69 rfl) rfl
theorem q1629 : (Jvm.Cond.instanceMethod ({ cls := "SharedTaxis", name := "stop", desc := "(III)I" } : Jvm.MethodName)) ∈ lw_all := lw_g (lw_at lw_m7 77 rfl) rfl
theorem q1630 : (Jvm.Cond.selects "SharedTaxis" ({ cls := "SharedTaxis", name := "stop", desc := "(III)I" } : Jvm.MethodName) ({ cls := "SharedTaxis", name := "stop", desc := "(III)I" } : Jvm.MethodName)) ∈ lw_all := lw_g (lw_at lw_m7 78 rfl) rfl
theorem q1631 : (Jvm.Cond.code ({ cls := "SharedTaxis", name := "stop", desc := "(III)I" } : Jvm.MethodName) prog_1_method_23_code (6 : Nat) (Option.some Jvm.ClassFile.FieldType.int)) ∈ lw_all := lw_g (lw_at lw_m7 79 rfl) rfl
theorem q1632 : (Jvm.Cond.classLink "SharedTaxis" (274 : Nat) "SharedTaxis$Walk") ∈ lw_all := lw_g (lw_at lw_m7 80 rfl) rfl
theorem q1634 : (Jvm.Cond.methodLink "SharedTaxis" (276 : Nat) ({ cls := "SharedTaxis$Walk", name := "<init>", desc := "(LSharedTaxis$State;)V" } : Jvm.MethodName)) ∈ lw_all := lw_g (lw_at lw_m7 82 rfl) rfl
theorem q1642 : (Jvm.Cond.fieldLinkNest "SharedTaxis" (284 : Nat) "SharedTaxis$Walk" "index" "I" "SharedTaxis") ∈ lw_tbl := lw_at lw_m7 90 rfl
theorem q1645 : (Jvm.Cond.fieldLinkNest "SharedTaxis" (299 : Nat) "SharedTaxis$Walk" "zone" "I" "SharedTaxis") ∈ lw_tbl := lw_at lw_m7 93 rfl
theorem q1651 : (Jvm.Cond.fieldLinkNest "SharedTaxis" (287 : Nat) "SharedTaxis$Walk" "stop" "LSharedTaxis$Stop;" "SharedTaxis") ∈ lw_tbl := lw_at lw_m7 99 rfl
theorem q1654 : (Jvm.Cond.fieldLinkNest "SharedTaxis" (395 : Nat) "SharedTaxis$Walk" "ride" "LSharedTaxis$Ride;" "SharedTaxis") ∈ lw_tbl := lw_at lw_m7 102 rfl
theorem q1658 : (Jvm.Cond.fieldLinkNest "SharedTaxis" (386 : Nat) "SharedTaxis$Walk" "minutes" "I" "SharedTaxis") ∈ lw_tbl := lw_at lw_m7 106 rfl
theorem q1661 : (Jvm.Cond.fieldLinkNest "SharedTaxis" (300 : Nat) "SharedTaxis$Walk" "leave" "I" "SharedTaxis") ∈ lw_tbl := lw_at lw_m7 109 rfl
theorem q1665 : (Jvm.Cond.fieldLinkNest "SharedTaxis" (303 : Nat) "SharedTaxis$Walk" "arrive" "I" "SharedTaxis") ∈ lw_tbl := lw_at lw_m7 113 rfl
theorem q1668 : (Jvm.Cond.fieldLinkNest "SharedTaxis" (306 : Nat) "SharedTaxis$Walk" "done" "I" "SharedTaxis") ∈ lw_tbl := lw_at lw_m7 116 rfl
theorem q1709 : (Jvm.Cond.methodLink "SharedTaxis" (279 : Nat) ({ cls := "SharedTaxis$Walk", name := "begin", desc := "(LSharedTaxis$Taxi;Ljava/util/List;)LSharedTaxis$Walk;" } : Jvm.MethodName)) ∈ lw_all := lw_g (lw_at lw_m7 157 rfl) rfl
theorem q1721 : (Jvm.Cond.methodLink "SharedTaxis" (282 : Nat) ({ cls := "SharedTaxis$Walk", name := "next", desc := "()V" } : Jvm.MethodName)) ∈ lw_all := lw_g (lw_at lw_m7 169 rfl) rfl
theorem q1735 : (Jvm.Cond.instanceMethod ({ cls := "SharedTaxis", name := "ride", desc := "(II)I" } : Jvm.MethodName)) ∈ lw_all := lw_g (lw_at lw_m7 183 rfl) rfl
theorem q1736 : (Jvm.Cond.selects "SharedTaxis" ({ cls := "SharedTaxis", name := "ride", desc := "(II)I" } : Jvm.MethodName) ({ cls := "SharedTaxis", name := "ride", desc := "(II)I" } : Jvm.MethodName)) ∈ lw_all := lw_g (lw_at lw_m7 184 rfl) rfl
theorem q1737 : (Jvm.Cond.code ({ cls := "SharedTaxis", name := "ride", desc := "(II)I" } : Jvm.MethodName) prog_1_method_24_code (4 : Nat) (Option.some Jvm.ClassFile.FieldType.int)) ∈ lw_all := lw_g (lw_at lw_m7 185 rfl) rfl
theorem q1738 : (Jvm.Cond.methodLink "SharedTaxis" (309 : Nat) ({ cls := "SharedTaxis", name := "rideAt", desc := "(I)LSharedTaxis$Ride;" } : Jvm.MethodName)) ∈ lw_all := lw_g (lw_at lw_m7 186 rfl) rfl
theorem q1739 : (Jvm.Cond.privateMethod ({ cls := "SharedTaxis", name := "rideAt", desc := "(I)LSharedTaxis$Ride;" } : Jvm.MethodName)) ∈ lw_tbl := lw_at lw_m7 187 rfl
theorem q1740 : (Jvm.Cond.instanceMethod ({ cls := "SharedTaxis", name := "rideAt", desc := "(I)LSharedTaxis$Ride;" } : Jvm.MethodName)) ∈ lw_all := lw_g (lw_at lw_m7 188 rfl) rfl
theorem q1741 : (Jvm.Cond.code ({ cls := "SharedTaxis", name := "rideAt", desc := "(I)LSharedTaxis$Ride;" } : Jvm.MethodName) prog_1_method_12_code (2 : Nat) (Option.some (Jvm.ClassFile.FieldType.object "SharedTaxis$Ride"))) ∈ lw_all := lw_g (lw_at lw_m7 189 rfl) rfl
theorem q1742 : (Jvm.Cond.methodLink "SharedTaxis" (331 : Nat) ({ cls := "SharedTaxis$Ride", name := "most", desc := "()I" } : Jvm.MethodName)) ∈ lw_all := lw_g (lw_at lw_m7 190 rfl) rfl
theorem q1750 : (Jvm.Cond.instanceMethod ({ cls := "SharedTaxis", name := "offer", desc := "(II)I" } : Jvm.MethodName)) ∈ lw_all := lw_g (lw_at lw_m7 198 rfl) rfl
theorem q1751 : (Jvm.Cond.selects "SharedTaxis" ({ cls := "SharedTaxis", name := "offer", desc := "(II)I" } : Jvm.MethodName) ({ cls := "SharedTaxis", name := "offer", desc := "(II)I" } : Jvm.MethodName)) ∈ lw_all := lw_g (lw_at lw_m7 199 rfl) rfl
theorem q1752 : (Jvm.Cond.code ({ cls := "SharedTaxis", name := "offer", desc := "(II)I" } : Jvm.MethodName) prog_1_method_25_code (4 : Nat) (Option.some Jvm.ClassFile.FieldType.int)) ∈ lw_all := lw_g (lw_at lw_m7 200 rfl) rfl
theorem q1753 : (Jvm.Cond.constantLong "SharedTaxis" (348 : Nat) (4 : Int64)) ∈ lw_all := lw_g (lw_at lw_m7 201 rfl) rfl
theorem q1754 : (Jvm.Cond.methodLink "SharedTaxis" (353 : Nat) ({ cls := "SharedTaxis$Offer", name := "part", desc := "(I)I" } : Jvm.MethodName)) ∈ lw_all := lw_g (lw_at lw_m7 202 rfl) rfl
theorem q1762 : (Jvm.Cond.instanceMethod ({ cls := "SharedTaxis", name := "extra", desc := "(II)I" } : Jvm.MethodName)) ∈ lw_all := lw_g (lw_at lw_m7 210 rfl) rfl
theorem q1763 : (Jvm.Cond.selects "SharedTaxis" ({ cls := "SharedTaxis", name := "extra", desc := "(II)I" } : Jvm.MethodName) ({ cls := "SharedTaxis", name := "extra", desc := "(II)I" } : Jvm.MethodName)) ∈ lw_all := lw_g (lw_at lw_m7 211 rfl) rfl
theorem q1764 : (Jvm.Cond.code ({ cls := "SharedTaxis", name := "extra", desc := "(II)I" } : Jvm.MethodName) prog_1_method_26_code (6 : Nat) (Option.some Jvm.ClassFile.FieldType.int)) ∈ lw_all := lw_g (lw_at lw_m7 212 rfl) rfl
theorem q1765 : (Jvm.Cond.classLink "SharedTaxis" (358 : Nat) "SharedTaxis$Search") ∈ lw_all := lw_g (lw_at lw_m7 213 rfl) rfl
theorem q1767 : (Jvm.Cond.methodLink "SharedTaxis" (360 : Nat) ({ cls := "SharedTaxis$Search", name := "<init>", desc := "(LSharedTaxis$State;)V" } : Jvm.MethodName)) ∈ lw_all := lw_g (lw_at lw_m7 215 rfl) rfl
theorem q1780 : (Jvm.Cond.fieldLinkNest "SharedTaxis" (365 : Nat) "SharedTaxis$Search" "extra" "I" "SharedTaxis") ∈ lw_tbl := lw_at lw_m7 228 rfl
theorem q1783 : (Jvm.Cond.fieldLinkNest "SharedTaxis" (442 : Nat) "SharedTaxis$Search" "pickup" "I" "SharedTaxis") ∈ lw_tbl := lw_at lw_m7 231 rfl
theorem q1805 : (Jvm.Cond.methodLink "SharedTaxis" (361 : Nat) ({ cls := "SharedTaxis$Search", name := "find", desc := "(LSharedTaxis$Taxi;I)Z" } : Jvm.MethodName)) ∈ lw_all := lw_g (lw_at lw_m8 13 rfl) rfl
theorem q1821 : (Jvm.Cond.fieldLinkNest "SharedTaxis" (291 : Nat) "SharedTaxis$Stop" "ride" "I" "SharedTaxis") ∈ lw_tbl := lw_at lw_m8 29 rfl
theorem q1827 : (Jvm.Cond.fieldLinkNest "SharedTaxis" (295 : Nat) "SharedTaxis$Stop" "pickup" "Z" "SharedTaxis") ∈ lw_tbl := lw_at lw_m8 35 rfl
theorem q1896 : (Jvm.Cond.instanceMethod ({ cls := "SharedTaxis", name := "fare", desc := "(I)I" } : Jvm.MethodName)) ∈ lw_all := lw_g (lw_at lw_m8 104 rfl) rfl
theorem q1897 : (Jvm.Cond.selects "SharedTaxis" ({ cls := "SharedTaxis", name := "fare", desc := "(I)I" } : Jvm.MethodName) ({ cls := "SharedTaxis", name := "fare", desc := "(I)I" } : Jvm.MethodName)) ∈ lw_all := lw_g (lw_at lw_m8 105 rfl) rfl
theorem q1898 : (Jvm.Cond.code ({ cls := "SharedTaxis", name := "fare", desc := "(I)I" } : Jvm.MethodName) prog_1_method_28_code (3 : Nat) (Option.some Jvm.ClassFile.FieldType.int)) ∈ lw_all := lw_g (lw_at lw_m8 106 rfl) rfl
theorem q1899 : (Jvm.Cond.methodLink "SharedTaxis" (404 : Nat) ({ cls := "SharedTaxis", name := "farther", desc := "(LSharedTaxis$Taxi;I)I" } : Jvm.MethodName)) ∈ lw_all := lw_g (lw_at lw_m8 107 rfl) rfl
theorem q1900 : (Jvm.Cond.privateMethod ({ cls := "SharedTaxis", name := "farther", desc := "(LSharedTaxis$Taxi;I)I" } : Jvm.MethodName)) ∈ lw_tbl := lw_at lw_m8 108 rfl
theorem q1901 : (Jvm.Cond.instanceMethod ({ cls := "SharedTaxis", name := "farther", desc := "(LSharedTaxis$Taxi;I)I" } : Jvm.MethodName)) ∈ lw_all := lw_g (lw_at lw_m8 109 rfl) rfl
theorem q1902 : (Jvm.Cond.code ({ cls := "SharedTaxis", name := "farther", desc := "(LSharedTaxis$Taxi;I)I" } : Jvm.MethodName) prog_1_method_27_code (8 : Nat) (Option.some Jvm.ClassFile.FieldType.int)) ∈ lw_all := lw_g (lw_at lw_m8 110 rfl) rfl
theorem q1903 : (Jvm.Cond.classLink "SharedTaxis" (368 : Nat) "java/util/ArrayList") ∈ lw_all := lw_g (lw_at lw_m8 111 rfl) rfl
theorem q1904 : (Jvm.Cond.methodLink "SharedTaxis" (370 : Nat) ({ cls := "java/util/ArrayList", name := "<init>", desc := "(Ljava/util/Collection;)V" } : Jvm.MethodName)) ∈ lw_all := lw_g (lw_at lw_m8 112 rfl) rfl
theorem q1919 : (Jvm.Cond.methodLink "SharedTaxis" (373 : Nat) ({ cls := "SharedTaxis$Walk", name := "goesOn", desc := "()Z" } : Jvm.MethodName)) ∈ lw_all := lw_g (lw_at lw_m8 127 rfl) rfl
theorem q1920 : (Jvm.Cond.methodLink "SharedTaxis" (376 : Nat) ({ cls := "java/lang/Integer", name := "valueOf", desc := "(I)Ljava/lang/Integer;" } : Jvm.MethodName)) ∈ lw_all := lw_g (lw_at lw_m8 128 rfl) rfl
theorem q1940 : (Jvm.Cond.interfaceEntry "SharedTaxis" (382 : Nat)) ∈ lw_tbl := lw_at lw_m8 148 rfl
theorem q1941 : (Jvm.Cond.methodLink "SharedTaxis" (382 : Nat) ({ cls := "java/util/List", name := "indexOf", desc := "(Ljava/lang/Object;)I" } : Jvm.MethodName)) ∈ lw_all := lw_g (lw_at lw_m8 149 rfl) rfl
theorem q1957 : (Jvm.Cond.selects "SharedTaxis" ({ cls := "java/lang/Object", name := "equals", desc := "(Ljava/lang/Object;)Z" } : Jvm.MethodName) ({ cls := "java/lang/Object", name := "equals", desc := "(Ljava/lang/Object;)Z" } : Jvm.MethodName)) ∈ lw_all := lw_g (lw_at lw_m8 165 rfl) rfl
theorem q1989 : (Jvm.Cond.methodLink "SharedTaxis" (388 : Nat) ({ cls := "SharedTaxis$State", name := "amount", desc := "(II)I" } : Jvm.MethodName)) ∈ lw_all := lw_g (lw_at lw_m8 197 rfl) rfl
theorem q1994 : (Jvm.Cond.methodLink "SharedTaxis" (392 : Nat) ({ cls := "SharedTaxis$State", name := "part", desc := "(III)I" } : Jvm.MethodName)) ∈ lw_all := lw_g (lw_at lw_m8 202 rfl) rfl
theorem q1998 : (Jvm.Cond.interfaceEntry "SharedTaxis" (398 : Nat)) ∈ lw_tbl := lw_at lw_m8 206 rfl
theorem q1999 : (Jvm.Cond.methodLink "SharedTaxis" (398 : Nat) ({ cls := "java/util/List", name := "add", desc := "(Ljava/lang/Object;)Z" } : Jvm.MethodName)) ∈ lw_all := lw_g (lw_at lw_m8 207 rfl) rfl
theorem q2000 : (Jvm.Cond.interfaceEntry "SharedTaxis" (401 : Nat)) ∈ lw_tbl := lw_at lw_m8 208 rfl
theorem q2001 : (Jvm.Cond.methodLink "SharedTaxis" (401 : Nat) ({ cls := "java/util/List", name := "remove", desc := "(Ljava/lang/Object;)Z" } : Jvm.MethodName)) ∈ lw_all := lw_g (lw_at lw_m8 209 rfl) rfl
theorem q2017 : (Jvm.Cond.instanceMethod ({ cls := "SharedTaxis", name := "aloneFare", desc := "(II)I" } : Jvm.MethodName)) ∈ lw_all := lw_g (lw_at lw_m8 225 rfl) rfl
theorem q2018 : (Jvm.Cond.selects "SharedTaxis" ({ cls := "SharedTaxis", name := "aloneFare", desc := "(II)I" } : Jvm.MethodName) ({ cls := "SharedTaxis", name := "aloneFare", desc := "(II)I" } : Jvm.MethodName)) ∈ lw_all := lw_g (lw_at lw_m8 226 rfl) rfl
theorem q2019 : (Jvm.Cond.code ({ cls := "SharedTaxis", name := "aloneFare", desc := "(II)I" } : Jvm.MethodName) prog_1_method_29_code (4 : Nat) (Option.some Jvm.ClassFile.FieldType.int)) ∈ lw_all := lw_g (lw_at lw_m8 227 rfl) rfl
theorem q2020 : (Jvm.Cond.methodLink "SharedTaxis" (408 : Nat) ({ cls := "SharedTaxis", name := "minutes", desc := "(II)I" } : Jvm.MethodName)) ∈ lw_all := lw_g (lw_at lw_m8 228 rfl) rfl
theorem q2025 : (Jvm.Cond.instanceMethod ({ cls := "SharedTaxis", name := "keeps", desc := "(I)Z" } : Jvm.MethodName)) ∈ lw_all := lw_g (lw_at lw_m8 233 rfl) rfl
theorem q2026 : (Jvm.Cond.selects "SharedTaxis" ({ cls := "SharedTaxis", name := "keeps", desc := "(I)Z" } : Jvm.MethodName) ({ cls := "SharedTaxis", name := "keeps", desc := "(I)Z" } : Jvm.MethodName)) ∈ lw_all := lw_g (lw_at lw_m8 234 rfl) rfl
theorem q2027 : (Jvm.Cond.code ({ cls := "SharedTaxis", name := "keeps", desc := "(I)Z" } : Jvm.MethodName) prog_1_method_30_code (3 : Nat) (Option.some Jvm.ClassFile.FieldType.boolean)) ∈ lw_all := lw_g (lw_at lw_m8 235 rfl) rfl
theorem q2028 : (Jvm.Cond.methodLink "SharedTaxis" (410 : Nat) ({ cls := "SharedTaxis$Walk", name := "keeps", desc := "()Z" } : Jvm.MethodName)) ∈ lw_all := lw_g (lw_at lw_m8 236 rfl) rfl
theorem q2033 : (Jvm.Cond.instanceMethod ({ cls := "SharedTaxis", name := "routeMinutes", desc := "(I)I" } : Jvm.MethodName)) ∈ lw_all := lw_g (lw_at lw_m9 1 rfl) rfl
theorem q2034 : (Jvm.Cond.selects "SharedTaxis" ({ cls := "SharedTaxis", name := "routeMinutes", desc := "(I)I" } : Jvm.MethodName) ({ cls := "SharedTaxis", name := "routeMinutes", desc := "(I)I" } : Jvm.MethodName)) ∈ lw_all := lw_g (lw_at lw_m9 2 rfl) rfl
theorem q2035 : (Jvm.Cond.code ({ cls := "SharedTaxis", name := "routeMinutes", desc := "(I)I" } : Jvm.MethodName) prog_1_method_31_code (3 : Nat) (Option.some Jvm.ClassFile.FieldType.int)) ∈ lw_all := lw_g (lw_at lw_m9 3 rfl) rfl
theorem q2036 : (Jvm.Cond.methodLink "SharedTaxis" (413 : Nat) ({ cls := "SharedTaxis$Walk", name := "minutesInAll", desc := "()I" } : Jvm.MethodName)) ∈ lw_all := lw_g (lw_at lw_m9 4 rfl) rfl
theorem q2041 : (Jvm.Cond.instanceMethod ({ cls := "SharedTaxis", name := "rides", desc := "(I)I" } : Jvm.MethodName)) ∈ lw_all := lw_g (lw_at lw_m9 9 rfl) rfl
theorem q2042 : (Jvm.Cond.selects "SharedTaxis" ({ cls := "SharedTaxis", name := "rides", desc := "(I)I" } : Jvm.MethodName) ({ cls := "SharedTaxis", name := "rides", desc := "(I)I" } : Jvm.MethodName)) ∈ lw_all := lw_g (lw_at lw_m9 10 rfl) rfl
theorem q2043 : (Jvm.Cond.code ({ cls := "SharedTaxis", name := "rides", desc := "(I)I" } : Jvm.MethodName) prog_1_method_32_code (2 : Nat) (Option.some Jvm.ClassFile.FieldType.int)) ∈ lw_all := lw_g (lw_at lw_m9 11 rfl) rfl
theorem q2044 : (Jvm.Cond.constantLong "SharedTaxis" (416 : Nat) (6 : Int64)) ∈ lw_all := lw_g (lw_at lw_m9 12 rfl) rfl
theorem q2049 : (Jvm.Cond.instanceMethod ({ cls := "SharedTaxis", name := "ask", desc := "(IIIII)I" } : Jvm.MethodName)) ∈ lw_all := lw_g (lw_at lw_m9 17 rfl) rfl
theorem q2050 : (Jvm.Cond.selects "SharedTaxis" ({ cls := "SharedTaxis", name := "ask", desc := "(IIIII)I" } : Jvm.MethodName) ({ cls := "SharedTaxis", name := "ask", desc := "(IIIII)I" } : Jvm.MethodName)) ∈ lw_all := lw_g (lw_at lw_m9 18 rfl) rfl
theorem q2051 : (Jvm.Cond.code ({ cls := "SharedTaxis", name := "ask", desc := "(IIIII)I" } : Jvm.MethodName) prog_1_method_35_code (10 : Nat) (Option.some Jvm.ClassFile.FieldType.int)) ∈ lw_all := lw_g (lw_at lw_m9 19 rfl) rfl
theorem q2052 : (Jvm.Cond.constantLong "SharedTaxis" (424 : Nat) (600 : Int64)) ∈ lw_all := lw_g (lw_at lw_m9 20 rfl) rfl
theorem q2053 : (Jvm.Cond.constantLong "SharedTaxis" (426 : Nat) (200 : Int64)) ∈ lw_all := lw_g (lw_at lw_m9 21 rfl) rfl
theorem q2054 : (Jvm.Cond.methodLink "SharedTaxis" (428 : Nat) ({ cls := "SharedTaxis$Ride", name := "<init>", desc := "(IIIIIIII)V" } : Jvm.MethodName)) ∈ lw_all := lw_g (lw_at lw_m9 22 rfl) rfl
theorem q2055 : (Jvm.Cond.methodLink "SharedTaxis" (431 : Nat) ({ cls := "SharedTaxis", name := "beginOperation", desc := "()LSharedTaxis$State;" } : Jvm.MethodName)) ∈ lw_all := lw_g (lw_at lw_m9 23 rfl) rfl
theorem q2056 : (Jvm.Cond.privateMethod ({ cls := "SharedTaxis", name := "beginOperation", desc := "()LSharedTaxis$State;" } : Jvm.MethodName)) ∈ lw_tbl := lw_at lw_m9 24 rfl
theorem q2057 : (Jvm.Cond.instanceMethod ({ cls := "SharedTaxis", name := "beginOperation", desc := "()LSharedTaxis$State;" } : Jvm.MethodName)) ∈ lw_all := lw_g (lw_at lw_m9 25 rfl) rfl
theorem q2058 : (Jvm.Cond.code ({ cls := "SharedTaxis", name := "beginOperation", desc := "()LSharedTaxis$State;" } : Jvm.MethodName) prog_1_method_9_code (1 : Nat) (Option.some (Jvm.ClassFile.FieldType.object "SharedTaxis$State"))) ∈ lw_all := lw_g (lw_at lw_m9 26 rfl) rfl
theorem q2059 : (Jvm.Cond.methodLink "SharedTaxis" (106 : Nat) ({ cls := "java/util/ArrayDeque", name := "removeFirst", desc := "()Ljava/lang/Object;" } : Jvm.MethodName)) ∈ lw_all := lw_g (lw_at lw_m9 27 rfl) rfl
theorem q2068 : (Jvm.Cond.methodLink "SharedTaxis" (114 : Nat) ({ cls := "java/util/ArrayDeque", name := "addLast", desc := "(Ljava/lang/Object;)V" } : Jvm.MethodName)) ∈ lw_all := lw_g (lw_at lw_m9 36 rfl) rfl
theorem q2083 : (Jvm.Cond.methodLink "SharedTaxis" (434 : Nat) ({ cls := "SharedTaxis$Search", name := "offer", desc := "(I)LSharedTaxis$Offer;" } : Jvm.MethodName)) ∈ lw_all := lw_g (lw_at lw_m9 51 rfl) rfl
theorem q2096 : (Jvm.Cond.fieldLinkNest "SharedTaxis" (437 : Nat) "SharedTaxis$Offer" "taxi" "I" "SharedTaxis") ∈ lw_tbl := lw_at lw_m9 64 rfl
theorem q2119 : (Jvm.Cond.instanceMethod ({ cls := "SharedTaxis", name := "accept", desc := "(I)I" } : Jvm.MethodName)) ∈ lw_all := lw_g (lw_at lw_m9 87 rfl) rfl
theorem q2120 : (Jvm.Cond.selects "SharedTaxis" ({ cls := "SharedTaxis", name := "accept", desc := "(I)I" } : Jvm.MethodName) ({ cls := "SharedTaxis", name := "accept", desc := "(I)I" } : Jvm.MethodName)) ∈ lw_all := lw_g (lw_at lw_m9 88 rfl) rfl
theorem q2121 : (Jvm.Cond.code ({ cls := "SharedTaxis", name := "accept", desc := "(I)I" } : Jvm.MethodName) prog_1_method_36_code (5 : Nat) (Option.some Jvm.ClassFile.FieldType.int)) ∈ lw_all := lw_g (lw_at lw_m9 89 rfl) rfl
theorem q2122 : (Jvm.Cond.methodLink "SharedTaxis" (438 : Nat) ({ cls := "SharedTaxis$Search", name := "insert", desc := "(LSharedTaxis$Taxi;I)V" } : Jvm.MethodName)) ∈ lw_all := lw_g (lw_at lw_m9 90 rfl) rfl
theorem q2143 : (Jvm.Cond.instanceMethod ({ cls := "SharedTaxis", name := "decline", desc := "(I)I" } : Jvm.MethodName)) ∈ lw_all := lw_g (lw_at lw_m9 111 rfl) rfl
theorem q2144 : (Jvm.Cond.selects "SharedTaxis" ({ cls := "SharedTaxis", name := "decline", desc := "(I)I" } : Jvm.MethodName) ({ cls := "SharedTaxis", name := "decline", desc := "(I)I" } : Jvm.MethodName)) ∈ lw_all := lw_g (lw_at lw_m9 112 rfl) rfl
theorem q2145 : (Jvm.Cond.code ({ cls := "SharedTaxis", name := "decline", desc := "(I)I" } : Jvm.MethodName) prog_1_method_37_code (3 : Nat) (Option.some Jvm.ClassFile.FieldType.int)) ∈ lw_all := lw_g (lw_at lw_m9 113 rfl) rfl
theorem q2150 : (Jvm.Cond.instanceMethod ({ cls := "SharedTaxis", name := "cancel", desc := "(I)I" } : Jvm.MethodName)) ∈ lw_all := lw_g (lw_at lw_m9 118 rfl) rfl
theorem q2151 : (Jvm.Cond.selects "SharedTaxis" ({ cls := "SharedTaxis", name := "cancel", desc := "(I)I" } : Jvm.MethodName) ({ cls := "SharedTaxis", name := "cancel", desc := "(I)I" } : Jvm.MethodName)) ∈ lw_all := lw_g (lw_at lw_m9 119 rfl) rfl
theorem q2152 : (Jvm.Cond.code ({ cls := "SharedTaxis", name := "cancel", desc := "(I)I" } : Jvm.MethodName) prog_1_method_38_code (4 : Nat) (Option.some Jvm.ClassFile.FieldType.int)) ∈ lw_all := lw_g (lw_at lw_m9 120 rfl) rfl
theorem q2153 : (Jvm.Cond.methodLink "SharedTaxis" (444 : Nat) ({ cls := "SharedTaxis$Taxi", name := "isOnWayTo", desc := "(I)Z" } : Jvm.MethodName)) ∈ lw_all := lw_g (lw_at lw_m9 121 rfl) rfl
theorem q2160 : (Jvm.Cond.methodLink "SharedTaxis" (448 : Nat) ({ cls := "SharedTaxis$Taxi", name := "remove", desc := "(IZ)V" } : Jvm.MethodName)) ∈ lw_all := lw_g (lw_at lw_m9 128 rfl) rfl
theorem q2233 : (Jvm.Cond.instanceMethod ({ cls := "SharedTaxis", name := "absent", desc := "(I)I" } : Jvm.MethodName)) ∈ lw_all := lw_g (lw_at lw_m9 201 rfl) rfl
theorem q2234 : (Jvm.Cond.selects "SharedTaxis" ({ cls := "SharedTaxis", name := "absent", desc := "(I)I" } : Jvm.MethodName) ({ cls := "SharedTaxis", name := "absent", desc := "(I)I" } : Jvm.MethodName)) ∈ lw_all := lw_g (lw_at lw_m9 202 rfl) rfl
theorem q2235 : (Jvm.Cond.code ({ cls := "SharedTaxis", name := "absent", desc := "(I)I" } : Jvm.MethodName) prog_1_method_39_code (4 : Nat) (Option.some Jvm.ClassFile.FieldType.int)) ∈ lw_all := lw_g (lw_at lw_m9 203 rfl) rfl
theorem q2240 : (Jvm.Cond.instanceMethod ({ cls := "SharedTaxis", name := "advance", desc := "(I)I" } : Jvm.MethodName)) ∈ lw_all := lw_g (lw_at lw_m9 208 rfl) rfl
theorem q2241 : (Jvm.Cond.selects "SharedTaxis" ({ cls := "SharedTaxis", name := "advance", desc := "(I)I" } : Jvm.MethodName) ({ cls := "SharedTaxis", name := "advance", desc := "(I)I" } : Jvm.MethodName)) ∈ lw_all := lw_g (lw_at lw_m9 209 rfl) rfl
theorem q2242 : (Jvm.Cond.code ({ cls := "SharedTaxis", name := "advance", desc := "(I)I" } : Jvm.MethodName) prog_1_method_40_code (2 : Nat) (Option.some Jvm.ClassFile.FieldType.int)) ∈ lw_all := lw_g (lw_at lw_m9 210 rfl) rfl
theorem q2243 : (Jvm.Cond.constantLong "SharedTaxis" (451 : Nat) (1440 : Int64)) ∈ lw_all := lw_g (lw_at lw_m9 211 rfl) rfl
theorem q2244 : (Jvm.Cond.classLink "SharedTaxis" (453 : Nat) "SharedTaxis$Passing") ∈ lw_all := lw_g (lw_at lw_m9 212 rfl) rfl
theorem q2246 : (Jvm.Cond.methodLink "SharedTaxis" (455 : Nat) ({ cls := "SharedTaxis$Passing", name := "<init>", desc := "(LSharedTaxis$State;I)V" } : Jvm.MethodName)) ∈ lw_all := lw_g (lw_at lw_m9 214 rfl) rfl
theorem q2260 : (Jvm.Cond.methodLink "SharedTaxis" (458 : Nat) ({ cls := "SharedTaxis$Passing", name := "all", desc := "()I" } : Jvm.MethodName)) ∈ lw_all := lw_g (lw_at lw_m9 228 rfl) rfl
theorem q2316 : (Jvm.Cond.instanceMethod ({ cls := "SharedTaxis", name := "tip", desc := "(II)I" } : Jvm.MethodName)) ∈ lw_all := lw_g (lw_at lw_m10 44 rfl) rfl
theorem q2317 : (Jvm.Cond.selects "SharedTaxis" ({ cls := "SharedTaxis", name := "tip", desc := "(II)I" } : Jvm.MethodName) ({ cls := "SharedTaxis", name := "tip", desc := "(II)I" } : Jvm.MethodName)) ∈ lw_all := lw_g (lw_at lw_m10 45 rfl) rfl
theorem q2318 : (Jvm.Cond.codeWith ({ cls := "SharedTaxis", name := "tip", desc := "(II)I" } : Jvm.MethodName) prog_1_method_41_code (6 : Nat) (Option.some Jvm.ClassFile.FieldType.int) [((18 : Nat), (28 : Nat), (31 : Nat), (471 : Nat))]) ∈ lw_all := lw_g (lw_at lw_m10 46 rfl) rfl
theorem q2319 : (Jvm.Cond.classLink "SharedTaxis" (471 : Nat) "java/lang/ArithmeticException") ∈ lw_all := lw_g (lw_at lw_m10 47 rfl) rfl
theorem q2333 : (Jvm.Cond.constantLong "SharedTaxis" (461 : Nat) (2000000000 : Int64)) ∈ lw_all := lw_g (lw_at lw_m10 61 rfl) rfl
theorem q2334 : (Jvm.Cond.methodLink "SharedTaxis" (466 : Nat) ({ cls := "java/lang/Math", name := "addExact", desc := "(II)I" } : Jvm.MethodName)) ∈ lw_all := lw_g (lw_at lw_m10 62 rfl) rfl
theorem q2340 : (Jvm.Cond.constant "SharedTaxis" (473 : Nat) (2000000000 : Int32)) ∈ lw_all := lw_g (lw_at lw_m10 68 rfl) rfl
theorem q2345 : (Jvm.Cond.instanceMethod ({ cls := "SharedTaxis", name := "setRate", desc := "(I)I" } : Jvm.MethodName)) ∈ lw_all := lw_g (lw_at lw_m10 73 rfl) rfl
theorem q2346 : (Jvm.Cond.selects "SharedTaxis" ({ cls := "SharedTaxis", name := "setRate", desc := "(I)I" } : Jvm.MethodName) ({ cls := "SharedTaxis", name := "setRate", desc := "(I)I" } : Jvm.MethodName)) ∈ lw_all := lw_g (lw_at lw_m10 74 rfl) rfl
theorem q2347 : (Jvm.Cond.code ({ cls := "SharedTaxis", name := "setRate", desc := "(I)I" } : Jvm.MethodName) prog_1_method_42_code (3 : Nat) (Option.some Jvm.ClassFile.FieldType.int)) ∈ lw_all := lw_g (lw_at lw_m10 75 rfl) rfl
theorem q2348 : (Jvm.Cond.constantLong "SharedTaxis" (477 : Nat) (999 : Int64)) ∈ lw_all := lw_g (lw_at lw_m10 76 rfl) rfl
theorem q2353 : (Jvm.Cond.instanceMethod ({ cls := "SharedTaxis", name := "setEnd", desc := "(II)I" } : Jvm.MethodName)) ∈ lw_all := lw_g (lw_at lw_m10 81 rfl) rfl
theorem q2354 : (Jvm.Cond.selects "SharedTaxis" ({ cls := "SharedTaxis", name := "setEnd", desc := "(II)I" } : Jvm.MethodName) ({ cls := "SharedTaxis", name := "setEnd", desc := "(II)I" } : Jvm.MethodName)) ∈ lw_all := lw_g (lw_at lw_m10 82 rfl) rfl
theorem q2355 : (Jvm.Cond.code ({ cls := "SharedTaxis", name := "setEnd", desc := "(II)I" } : Jvm.MethodName) prog_1_method_43_code (5 : Nat) (Option.some Jvm.ClassFile.FieldType.int)) ∈ lw_all := lw_g (lw_at lw_m10 83 rfl) rfl
theorem q2356 : (Jvm.Cond.constantLong "SharedTaxis" (479 : Nat) (2879 : Int64)) ∈ lw_all := lw_g (lw_at lw_m10 84 rfl) rfl
theorem q2361 : (Jvm.Cond.instanceMethod ({ cls := "SharedTaxis", name := "setRule", desc := "(II)I" } : Jvm.MethodName)) ∈ lw_all := lw_g (lw_at lw_m10 89 rfl) rfl
theorem q2362 : (Jvm.Cond.selects "SharedTaxis" ({ cls := "SharedTaxis", name := "setRule", desc := "(II)I" } : Jvm.MethodName) ({ cls := "SharedTaxis", name := "setRule", desc := "(II)I" } : Jvm.MethodName)) ∈ lw_all := lw_g (lw_at lw_m10 90 rfl) rfl
theorem q2363 : (Jvm.Cond.code ({ cls := "SharedTaxis", name := "setRule", desc := "(II)I" } : Jvm.MethodName) prog_1_method_44_code (4 : Nat) (Option.some Jvm.ClassFile.FieldType.int)) ∈ lw_all := lw_g (lw_at lw_m10 91 rfl) rfl
theorem q2364 : (Jvm.Cond.methodLink "SharedTaxis" (481 : Nat) ({ cls := "SharedTaxis", name := "rule", desc := "(I)I" } : Jvm.MethodName)) ∈ lw_all := lw_g (lw_at lw_m10 92 rfl) rfl
theorem q2365 : (Jvm.Cond.methodLink "SharedTaxis" (484 : Nat) ({ cls := "SharedTaxis", name := "leastOf", desc := "(I)I" } : Jvm.MethodName)) ∈ lw_all := lw_g (lw_at lw_m10 93 rfl) rfl
theorem q2366 : (Jvm.Cond.methodLink "SharedTaxis" (487 : Nat) ({ cls := "SharedTaxis", name := "mostOf", desc := "(I)I" } : Jvm.MethodName)) ∈ lw_all := lw_g (lw_at lw_m10 94 rfl) rfl
theorem q2371 : (Jvm.Cond.instanceMethod ({ cls := "SharedTaxis", name := "format", desc := "(I)I" } : Jvm.MethodName)) ∈ lw_all := lw_g (lw_at lw_m10 99 rfl) rfl
theorem q2372 : (Jvm.Cond.selects "SharedTaxis" ({ cls := "SharedTaxis", name := "format", desc := "(I)I" } : Jvm.MethodName) ({ cls := "SharedTaxis", name := "format", desc := "(I)I" } : Jvm.MethodName)) ∈ lw_all := lw_g (lw_at lw_m10 100 rfl) rfl
theorem q2373 : (Jvm.Cond.code ({ cls := "SharedTaxis", name := "format", desc := "(I)I" } : Jvm.MethodName) prog_1_method_46_code (6 : Nat) (Option.some Jvm.ClassFile.FieldType.int)) ∈ lw_all := lw_g (lw_at lw_m10 101 rfl) rfl
theorem q2374 : (Jvm.Cond.classLink "SharedTaxis" (495 : Nat) "java/lang/StringBuilder") ∈ lw_all := lw_g (lw_at lw_m10 102 rfl) rfl
theorem q2375 : (Jvm.Cond.interfaceEntry "SharedTaxis" (497 : Nat)) ∈ lw_tbl := lw_at lw_m10 103 rfl
theorem q2376 : (Jvm.Cond.methodLink "SharedTaxis" (497 : Nat) ({ cls := "java/util/List", name := "isEmpty", desc := "()Z" } : Jvm.MethodName)) ∈ lw_all := lw_g (lw_at lw_m10 104 rfl) rfl
theorem q2377 : (Jvm.Cond.stringRef "SharedTaxis" (500 : Nat) ".") ∈ lw_tbl := lw_at lw_m10 105 rfl
theorem q2378 : (Jvm.Cond.methodLink "SharedTaxis" (502 : Nat) ({ cls := "java/lang/StringBuilder", name := "<init>", desc := "(Ljava/lang/String;)V" } : Jvm.MethodName)) ∈ lw_all := lw_g (lw_at lw_m10 106 rfl) rfl
theorem q2389 : (Jvm.Cond.methodLink "SharedTaxis" (505 : Nat) ({ cls := "SharedTaxis", name := "wordsOf", desc := "(LSharedTaxis$Taxi;)Ljava/lang/Iterable;" } : Jvm.MethodName)) ∈ lw_all := lw_g (lw_at lw_m10 117 rfl) rfl
theorem q2390 : (Jvm.Cond.privateMethod ({ cls := "SharedTaxis", name := "wordsOf", desc := "(LSharedTaxis$Taxi;)Ljava/lang/Iterable;" } : Jvm.MethodName)) ∈ lw_tbl := lw_at lw_m10 118 rfl
theorem q2391 : (Jvm.Cond.instanceMethod ({ cls := "SharedTaxis", name := "wordsOf", desc := "(LSharedTaxis$Taxi;)Ljava/lang/Iterable;" } : Jvm.MethodName)) ∈ lw_all := lw_g (lw_at lw_m10 119 rfl) rfl
theorem q2392 : (Jvm.Cond.code ({ cls := "SharedTaxis", name := "wordsOf", desc := "(LSharedTaxis$Taxi;)Ljava/lang/Iterable;" } : Jvm.MethodName) prog_1_method_45_code (2 : Nat) (Option.some (Jvm.ClassFile.FieldType.object "java/lang/Iterable"))) ∈ lw_all := lw_g (lw_at lw_m10 120 rfl) rfl
theorem q2393 : (Jvm.Cond.classLink "SharedTaxis" (490 : Nat) "SharedTaxis$Words") ∈ lw_all := lw_g (lw_at lw_m10 121 rfl) rfl
theorem q2395 : (Jvm.Cond.methodLink "SharedTaxis" (492 : Nat) ({ cls := "SharedTaxis$Words", name := "<init>", desc := "(LSharedTaxis;LSharedTaxis$Taxi;)V" } : Jvm.MethodName)) ∈ lw_all := lw_g (lw_at lw_m10 123 rfl) rfl
theorem q2408 : (Jvm.Cond.interfaceEntry "SharedTaxis" (509 : Nat)) ∈ lw_tbl := lw_at lw_m10 136 rfl
theorem q2409 : (Jvm.Cond.methodLink "SharedTaxis" (509 : Nat) ({ cls := "java/lang/Iterable", name := "iterator", desc := "()Ljava/util/Iterator;" } : Jvm.MethodName)) ∈ lw_all := lw_g (lw_at lw_m10 137 rfl) rfl
theorem q2459 : (Jvm.Cond.classLink "SharedTaxis" (27 : Nat) "java/lang/String") ∈ lw_all := lw_g (lw_at lw_m10 187 rfl) rfl
theorem q2460 : (Jvm.Cond.methodLink "SharedTaxis" (512 : Nat) ({ cls := "java/lang/StringBuilder", name := "length", desc := "()I" } : Jvm.MethodName)) ∈ lw_all := lw_g (lw_at lw_m10 188 rfl) rfl
theorem q2461 : (Jvm.Cond.stringRef "SharedTaxis" (515 : Nat) " ") ∈ lw_tbl := lw_at lw_m10 189 rfl
theorem q2462 : (Jvm.Cond.methodLink "SharedTaxis" (517 : Nat) ({ cls := "java/lang/StringBuilder", name := "append", desc := "(Ljava/lang/String;)Ljava/lang/StringBuilder;" } : Jvm.MethodName)) ∈ lw_all := lw_g (lw_at lw_m10 190 rfl) rfl
theorem q2463 : (Jvm.Cond.methodLink "SharedTaxis" (520 : Nat) ({ cls := "java/lang/StringBuilder", name := "toString", desc := "()Ljava/lang/String;" } : Jvm.MethodName)) ∈ lw_all := lw_g (lw_at lw_m10 191 rfl) rfl
theorem q2468 : (Jvm.Cond.instanceMethod ({ cls := "SharedTaxis", name := "query", desc := "(I)I" } : Jvm.MethodName)) ∈ lw_all := lw_g (lw_at lw_m10 196 rfl) rfl
theorem q2469 : (Jvm.Cond.selects "SharedTaxis" ({ cls := "SharedTaxis", name := "query", desc := "(I)I" } : Jvm.MethodName) ({ cls := "SharedTaxis", name := "query", desc := "(I)I" } : Jvm.MethodName)) ∈ lw_all := lw_g (lw_at lw_m10 197 rfl) rfl
theorem q2470 : (Jvm.Cond.codeWith ({ cls := "SharedTaxis", name := "query", desc := "(I)I" } : Jvm.MethodName) prog_1_method_52_code (5 : Nat) (Option.some Jvm.ClassFile.FieldType.int) [((25 : Nat), (48 : Nat), (51 : Nat), (176 : Nat))]) ∈ lw_all := lw_g (lw_at lw_m10 198 rfl) rfl
theorem q2471 : (Jvm.Cond.methodLink "SharedTaxis" (533 : Nat) ({ cls := "java/lang/Math", name := "min", desc := "(II)I" } : Jvm.MethodName)) ∈ lw_all := lw_g (lw_at lw_m10 199 rfl) rfl
theorem q2472 : (Jvm.Cond.classLink "SharedTaxis" (536 : Nat) "SharedTaxis$QueryParser") ∈ lw_all := lw_g (lw_at lw_m10 200 rfl) rfl
theorem q2474 : (Jvm.Cond.stringRef "SharedTaxis" (538 : Nat) ";()<=>") ∈ lw_tbl := lw_at lw_m10 202 rfl
theorem q2475 : (Jvm.Cond.methodLink "SharedTaxis" (540 : Nat) ({ cls := "SharedTaxis$QueryParser", name := "<init>", desc := "(LSharedTaxis$Scanner;)V" } : Jvm.MethodName)) ∈ lw_all := lw_g (lw_at lw_m10 203 rfl) rfl
theorem q2550 : (Jvm.Cond.static ({ cls := "SharedTaxis", name := "property", desc := "(Ljava/lang/String;)LSharedTaxis$Value;" } : Jvm.MethodName)) ∈ lw_all := lw_g (lw_at lw_m11 38 rfl) rfl
theorem q2551 : (Jvm.Cond.code ({ cls := "SharedTaxis", name := "property", desc := "(Ljava/lang/String;)LSharedTaxis$Value;" } : Jvm.MethodName) prog_1_method_7_code (3 : Nat) (Option.some (Jvm.ClassFile.FieldType.object "SharedTaxis$Value"))) ∈ lw_all := lw_g (lw_at lw_m11 39 rfl) rfl
theorem q2552 : (Jvm.Cond.methodLink "SharedTaxis" (26 : Nat) ({ cls := "java/lang/String", name := "hashCode", desc := "()I" } : Jvm.MethodName)) ∈ lw_all := lw_g (lw_at lw_m11 40 rfl) rfl
theorem q2609 : (Jvm.Cond.stringRef "SharedTaxis" (32 : Nat) "ride") ∈ lw_tbl := lw_at lw_m11 97 rfl
theorem q2610 : (Jvm.Cond.methodLink "SharedTaxis" (34 : Nat) ({ cls := "java/lang/String", name := "equals", desc := "(Ljava/lang/Object;)Z" } : Jvm.MethodName)) ∈ lw_all := lw_g (lw_at lw_m11 98 rfl) rfl
theorem q2611 : (Jvm.Cond.stringRef "SharedTaxis" (38 : Nat) "state") ∈ lw_tbl := lw_at lw_m11 99 rfl
theorem q2612 : (Jvm.Cond.stringRef "SharedTaxis" (40 : Nat) "from") ∈ lw_tbl := lw_at lw_m11 100 rfl
theorem q2613 : (Jvm.Cond.stringRef "SharedTaxis" (42 : Nat) "to") ∈ lw_tbl := lw_at lw_m11 101 rfl
theorem q2614 : (Jvm.Cond.stringRef "SharedTaxis" (44 : Nat) "persons") ∈ lw_tbl := lw_at lw_m11 102 rfl
theorem q2615 : (Jvm.Cond.stringRef "SharedTaxis" (46 : Nat) "ready") ∈ lw_tbl := lw_at lw_m11 103 rfl
theorem q2616 : (Jvm.Cond.stringRef "SharedTaxis" (48 : Nat) "detour") ∈ lw_tbl := lw_at lw_m11 104 rfl
theorem q2617 : (Jvm.Cond.stringRef "SharedTaxis" (50 : Nat) "fare") ∈ lw_tbl := lw_at lw_m11 105 rfl
theorem q2618 : (Jvm.Cond.stringRef "SharedTaxis" (52 : Nat) "taxi") ∈ lw_tbl := lw_at lw_m11 106 rfl
theorem q2619 : (Jvm.Cond.static ({ cls := "SharedTaxis", name := "lambda$property$0", desc := "(LSharedTaxis$State;I)I" } : Jvm.MethodName)) ∈ lw_all := lw_g (lw_at lw_m11 107 rfl) rfl
theorem q2620 : (Jvm.Cond.code ({ cls := "SharedTaxis", name := "lambda$property$0", desc := "(LSharedTaxis$State;I)I" } : Jvm.MethodName) prog_1_method_61_code (2 : Nat) (Option.some Jvm.ClassFile.FieldType.int)) ∈ lw_all := lw_g (lw_at lw_m11 108 rfl) rfl
theorem q2621 : (Jvm.Cond.static ({ cls := "SharedTaxis", name := "lambda$property$1", desc := "(LSharedTaxis$State;I)I" } : Jvm.MethodName)) ∈ lw_all := lw_g (lw_at lw_m11 109 rfl) rfl
theorem q2622 : (Jvm.Cond.code ({ cls := "SharedTaxis", name := "lambda$property$1", desc := "(LSharedTaxis$State;I)I" } : Jvm.MethodName) prog_1_method_60_code (2 : Nat) (Option.some Jvm.ClassFile.FieldType.int)) ∈ lw_all := lw_g (lw_at lw_m11 110 rfl) rfl
theorem q2623 : (Jvm.Cond.static ({ cls := "SharedTaxis", name := "lambda$property$2", desc := "(LSharedTaxis$State;I)I" } : Jvm.MethodName)) ∈ lw_all := lw_g (lw_at lw_m11 111 rfl) rfl
theorem q2624 : (Jvm.Cond.code ({ cls := "SharedTaxis", name := "lambda$property$2", desc := "(LSharedTaxis$State;I)I" } : Jvm.MethodName) prog_1_method_59_code (2 : Nat) (Option.some Jvm.ClassFile.FieldType.int)) ∈ lw_all := lw_g (lw_at lw_m11 112 rfl) rfl
theorem q2625 : (Jvm.Cond.static ({ cls := "SharedTaxis", name := "lambda$property$3", desc := "(LSharedTaxis$State;I)I" } : Jvm.MethodName)) ∈ lw_all := lw_g (lw_at lw_m11 113 rfl) rfl
theorem q2626 : (Jvm.Cond.code ({ cls := "SharedTaxis", name := "lambda$property$3", desc := "(LSharedTaxis$State;I)I" } : Jvm.MethodName) prog_1_method_58_code (2 : Nat) (Option.some Jvm.ClassFile.FieldType.int)) ∈ lw_all := lw_g (lw_at lw_m11 114 rfl) rfl
theorem q2627 : (Jvm.Cond.static ({ cls := "SharedTaxis", name := "lambda$property$4", desc := "(LSharedTaxis$State;I)I" } : Jvm.MethodName)) ∈ lw_all := lw_g (lw_at lw_m11 115 rfl) rfl
theorem q2628 : (Jvm.Cond.code ({ cls := "SharedTaxis", name := "lambda$property$4", desc := "(LSharedTaxis$State;I)I" } : Jvm.MethodName) prog_1_method_57_code (2 : Nat) (Option.some Jvm.ClassFile.FieldType.int)) ∈ lw_all := lw_g (lw_at lw_m11 116 rfl) rfl
theorem q2629 : (Jvm.Cond.static ({ cls := "SharedTaxis", name := "lambda$property$5", desc := "(LSharedTaxis$State;I)I" } : Jvm.MethodName)) ∈ lw_all := lw_g (lw_at lw_m11 117 rfl) rfl
theorem q2630 : (Jvm.Cond.code ({ cls := "SharedTaxis", name := "lambda$property$5", desc := "(LSharedTaxis$State;I)I" } : Jvm.MethodName) prog_1_method_56_code (2 : Nat) (Option.some Jvm.ClassFile.FieldType.int)) ∈ lw_all := lw_g (lw_at lw_m11 118 rfl) rfl
theorem q2631 : (Jvm.Cond.static ({ cls := "SharedTaxis", name := "lambda$property$6", desc := "(LSharedTaxis$State;I)I" } : Jvm.MethodName)) ∈ lw_all := lw_g (lw_at lw_m11 119 rfl) rfl
theorem q2632 : (Jvm.Cond.code ({ cls := "SharedTaxis", name := "lambda$property$6", desc := "(LSharedTaxis$State;I)I" } : Jvm.MethodName) prog_1_method_55_code (2 : Nat) (Option.some Jvm.ClassFile.FieldType.int)) ∈ lw_all := lw_g (lw_at lw_m11 120 rfl) rfl
theorem q2633 : (Jvm.Cond.static ({ cls := "SharedTaxis", name := "lambda$property$7", desc := "(LSharedTaxis$State;I)I" } : Jvm.MethodName)) ∈ lw_all := lw_g (lw_at lw_m11 121 rfl) rfl
theorem q2634 : (Jvm.Cond.code ({ cls := "SharedTaxis", name := "lambda$property$7", desc := "(LSharedTaxis$State;I)I" } : Jvm.MethodName) prog_1_method_54_code (2 : Nat) (Option.some Jvm.ClassFile.FieldType.int)) ∈ lw_all := lw_g (lw_at lw_m11 122 rfl) rfl
theorem q2635 : (Jvm.Cond.static ({ cls := "SharedTaxis", name := "lambda$property$8", desc := "(LSharedTaxis$State;I)I" } : Jvm.MethodName)) ∈ lw_all := lw_g (lw_at lw_m11 123 rfl) rfl
theorem q2636 : (Jvm.Cond.code ({ cls := "SharedTaxis", name := "lambda$property$8", desc := "(LSharedTaxis$State;I)I" } : Jvm.MethodName) prog_1_method_53_code (2 : Nat) (Option.some Jvm.ClassFile.FieldType.int)) ∈ lw_all := lw_g (lw_at lw_m11 124 rfl) rfl
theorem q2653 : (Jvm.Cond.fieldLinkNest "SharedTaxis" (552 : Nat) "SharedTaxis$QueryParser" "first" "Z" "SharedTaxis") ∈ lw_tbl := lw_at lw_m11 141 rfl
theorem q2655 : (Jvm.Cond.fieldLinkNest "SharedTaxis" (542 : Nat) "SharedTaxis$QueryParser" "test" "LSharedTaxis$Test;" "SharedTaxis") ∈ lw_tbl := lw_at lw_m11 143 rfl
theorem q2666 : (Jvm.Cond.constant "SharedTaxis" (541 : Nat) (-1000000000 : Int32)) ∈ lw_all := lw_g (lw_at lw_m11 154 rfl) rfl
theorem q2667 : (Jvm.Cond.interfaceEntry "SharedTaxis" (546 : Nat)) ∈ lw_tbl := lw_at lw_m11 155 rfl
theorem q2668 : (Jvm.Cond.methodLink "SharedTaxis" (546 : Nat) ({ cls := "SharedTaxis$Test", name := "holds", desc := "(LSharedTaxis$State;I)Z" } : Jvm.MethodName)) ∈ lw_all := lw_g (lw_at lw_m11 156 rfl) rfl
theorem q3353 : (Jvm.Cond.castable "SharedTaxis" "java/lang/Object") ∈ lw_tbl := lw_at lw_m14 121 rfl
theorem q143 : (Jvm.Cond.initialized "SharedTaxis$LimitException") ∈ lw_all := lw_g (lw_at lw_m1 31 rfl) rfl
theorem q449 : (Jvm.Cond.selects "SharedTaxis$LimitException" ({ cls := "java/lang/Throwable", name := "fillInStackTrace", desc := "()Ljava/lang/Throwable;" } : Jvm.MethodName) ({ cls := "java/lang/Throwable", name := "fillInStackTrace", desc := "()Ljava/lang/Throwable;" } : Jvm.MethodName)) ∈ lw_all := lw_g (lw_at lw_m2 97 rfl) rfl
theorem q1030 : (Jvm.Cond.selects "SharedTaxis$LimitException" ({ cls := "java/lang/Object", name := "getClass", desc := "()Ljava/lang/Class;" } : Jvm.MethodName) ({ cls := "java/lang/Object", name := "getClass", desc := "()Ljava/lang/Class;" } : Jvm.MethodName)) ∈ lw_all := lw_g (lw_at lw_m4 198 rfl) rfl
theorem q1447 : (Jvm.Cond.instantiable "SharedTaxis$LimitException" (7 : Nat)) ∈ lw_all := lw_g (lw_at lw_m6 135 rfl) rfl
theorem q1448 : (Jvm.Cond.castable "SharedTaxis$LimitException" "SharedTaxis$LimitException") ∈ lw_tbl := lw_at lw_m6 136 rfl
theorem q1449 : (Jvm.Cond.selects "SharedTaxis$LimitException" ({ cls := "java/lang/Throwable", name := "fillInStackTrace", desc := "(I)Ljava/lang/Throwable;" } : Jvm.MethodName) ({ cls := "java/lang/Throwable", name := "fillInStackTrace", desc := "(I)Ljava/lang/Throwable;" } : Jvm.MethodName)) ∈ lw_all := lw_g (lw_at lw_m6 137 rfl) rfl
theorem q1450 : (Jvm.Cond.lays "SharedTaxis$LimitException" "java/lang/Throwable" "cause" "Ljava/lang/Throwable;") ∈ lw_all := lw_g (lw_at lw_m6 138 rfl) rfl
theorem q1451 : (Jvm.Cond.lays "SharedTaxis$LimitException" "java/lang/Throwable" "stackTrace" "[Ljava/lang/StackTraceElement;") ∈ lw_all := lw_g (lw_at lw_m6 139 rfl) rfl
theorem q1452 : (Jvm.Cond.lays "SharedTaxis$LimitException" "java/lang/Throwable" "suppressedExceptions" "Ljava/util/List;") ∈ lw_all := lw_g (lw_at lw_m6 140 rfl) rfl
theorem q1453 : (Jvm.Cond.lays "SharedTaxis$LimitException" "java/lang/Throwable" "detailMessage" "Ljava/lang/String;") ∈ lw_all := lw_g (lw_at lw_m6 141 rfl) rfl
theorem q1454 : (Jvm.Cond.lays "SharedTaxis$LimitException" "java/lang/Throwable" "backtrace" "Ljava/lang/Object;") ∈ lw_all := lw_g (lw_at lw_m6 142 rfl) rfl
theorem q1456 : (Jvm.Cond.instanceMethod ({ cls := "SharedTaxis$LimitException", name := "<init>", desc := "(I)V" } : Jvm.MethodName)) ∈ lw_all := lw_g (lw_at lw_m6 144 rfl) rfl
theorem q1457 : (Jvm.Cond.code ({ cls := "SharedTaxis$LimitException", name := "<init>", desc := "(I)V" } : Jvm.MethodName) prog_3_method_1_code (2 : Nat) (Option.none : Option Jvm.ClassFile.FieldType)) ∈ lw_all := lw_g (lw_at lw_m6 145 rfl) rfl
theorem q1458 : (Jvm.Cond.methodLink "SharedTaxis$LimitException" (1 : Nat) ({ cls := "SharedTaxis$TextException", name := "<init>", desc := "(I)V" } : Jvm.MethodName)) ∈ lw_all := lw_g (lw_at lw_m6 146 rfl) rfl
theorem q1459 : (Jvm.Cond.laysFinal "SharedTaxis$LimitException" "SharedTaxis$TextException" "place" "I") ∈ lw_all := lw_g (lw_at lw_m6 147 rfl) rfl
theorem q1460 : (Jvm.Cond.lays "SharedTaxis$LimitException" "java/lang/Throwable" "depth" "I") ∈ lw_all := lw_g (lw_at lw_m6 148 rfl) rfl
theorem q1461 : (Jvm.Cond.superclass "SharedTaxis$LimitException" "SharedTaxis$TextException") ∈ lw_all := lw_g (lw_at lw_m6 149 rfl) rfl
theorem q1544 : (Jvm.Cond.selects "SharedTaxis$LimitException" ({ cls := "SharedTaxis$TextException", name := "code", desc := "()I" } : Jvm.MethodName) ({ cls := "SharedTaxis$LimitException", name := "code", desc := "()I" } : Jvm.MethodName)) ∈ lw_all := lw_g (lw_at lw_m6 232 rfl) rfl
theorem q1545 : (Jvm.Cond.instanceMethod ({ cls := "SharedTaxis$LimitException", name := "code", desc := "()I" } : Jvm.MethodName)) ∈ lw_all := lw_g (lw_at lw_m6 233 rfl) rfl
theorem q1546 : (Jvm.Cond.code ({ cls := "SharedTaxis$LimitException", name := "code", desc := "()I" } : Jvm.MethodName) prog_3_method_2_code (1 : Nat) (Option.some Jvm.ClassFile.FieldType.int)) ∈ lw_all := lw_g (lw_at lw_m6 234 rfl) rfl
theorem q1959 : (Jvm.Cond.selects "SharedTaxis$LimitException" ({ cls := "java/lang/Object", name := "equals", desc := "(Ljava/lang/Object;)Z" } : Jvm.MethodName) ({ cls := "java/lang/Object", name := "equals", desc := "(Ljava/lang/Object;)Z" } : Jvm.MethodName)) ∈ lw_all := lw_g (lw_at lw_m8 167 rfl) rfl
theorem q3349 : (Jvm.Cond.castable "SharedTaxis$LimitException" "SharedTaxis$TextException") ∈ lw_tbl := lw_at lw_m14 117 rfl
theorem q3366 : (Jvm.Cond.castable "SharedTaxis$LimitException" "java/lang/Object") ∈ lw_tbl := lw_at lw_m14 134 rfl
theorem q144 : (Jvm.Cond.initialized "SharedTaxis$ClashException") ∈ lw_all := lw_g (lw_at lw_m1 32 rfl) rfl
theorem q448 : (Jvm.Cond.selects "SharedTaxis$ClashException" ({ cls := "java/lang/Throwable", name := "fillInStackTrace", desc := "()Ljava/lang/Throwable;" } : Jvm.MethodName) ({ cls := "java/lang/Throwable", name := "fillInStackTrace", desc := "()Ljava/lang/Throwable;" } : Jvm.MethodName)) ∈ lw_all := lw_g (lw_at lw_m2 96 rfl) rfl
theorem q1029 : (Jvm.Cond.selects "SharedTaxis$ClashException" ({ cls := "java/lang/Object", name := "getClass", desc := "()Ljava/lang/Class;" } : Jvm.MethodName) ({ cls := "java/lang/Object", name := "getClass", desc := "()Ljava/lang/Class;" } : Jvm.MethodName)) ∈ lw_all := lw_g (lw_at lw_m4 197 rfl) rfl
theorem q1473 : (Jvm.Cond.instantiable "SharedTaxis$ClashException" (7 : Nat)) ∈ lw_all := lw_g (lw_at lw_m6 161 rfl) rfl
theorem q1474 : (Jvm.Cond.castable "SharedTaxis$ClashException" "SharedTaxis$ClashException") ∈ lw_tbl := lw_at lw_m6 162 rfl
theorem q1475 : (Jvm.Cond.selects "SharedTaxis$ClashException" ({ cls := "java/lang/Throwable", name := "fillInStackTrace", desc := "(I)Ljava/lang/Throwable;" } : Jvm.MethodName) ({ cls := "java/lang/Throwable", name := "fillInStackTrace", desc := "(I)Ljava/lang/Throwable;" } : Jvm.MethodName)) ∈ lw_all := lw_g (lw_at lw_m6 163 rfl) rfl
theorem q1476 : (Jvm.Cond.lays "SharedTaxis$ClashException" "java/lang/Throwable" "cause" "Ljava/lang/Throwable;") ∈ lw_all := lw_g (lw_at lw_m6 164 rfl) rfl
theorem q1477 : (Jvm.Cond.lays "SharedTaxis$ClashException" "java/lang/Throwable" "stackTrace" "[Ljava/lang/StackTraceElement;") ∈ lw_all := lw_g (lw_at lw_m6 165 rfl) rfl
theorem q1478 : (Jvm.Cond.lays "SharedTaxis$ClashException" "java/lang/Throwable" "suppressedExceptions" "Ljava/util/List;") ∈ lw_all := lw_g (lw_at lw_m6 166 rfl) rfl
theorem q1479 : (Jvm.Cond.lays "SharedTaxis$ClashException" "java/lang/Throwable" "detailMessage" "Ljava/lang/String;") ∈ lw_all := lw_g (lw_at lw_m6 167 rfl) rfl
theorem q1480 : (Jvm.Cond.lays "SharedTaxis$ClashException" "java/lang/Throwable" "backtrace" "Ljava/lang/Object;") ∈ lw_all := lw_g (lw_at lw_m6 168 rfl) rfl
theorem q1482 : (Jvm.Cond.instanceMethod ({ cls := "SharedTaxis$ClashException", name := "<init>", desc := "(I)V" } : Jvm.MethodName)) ∈ lw_all := lw_g (lw_at lw_m6 170 rfl) rfl
theorem q1483 : (Jvm.Cond.code ({ cls := "SharedTaxis$ClashException", name := "<init>", desc := "(I)V" } : Jvm.MethodName) prog_2_method_1_code (2 : Nat) (Option.none : Option Jvm.ClassFile.FieldType)) ∈ lw_all := lw_g (lw_at lw_m6 171 rfl) rfl
theorem q1484 : (Jvm.Cond.methodLink "SharedTaxis$ClashException" (1 : Nat) ({ cls := "SharedTaxis$TextException", name := "<init>", desc := "(I)V" } : Jvm.MethodName)) ∈ lw_all := lw_g (lw_at lw_m6 172 rfl) rfl
theorem q1485 : (Jvm.Cond.laysFinal "SharedTaxis$ClashException" "SharedTaxis$TextException" "place" "I") ∈ lw_all := lw_g (lw_at lw_m6 173 rfl) rfl
theorem q1486 : (Jvm.Cond.lays "SharedTaxis$ClashException" "java/lang/Throwable" "depth" "I") ∈ lw_all := lw_g (lw_at lw_m6 174 rfl) rfl
theorem q1487 : (Jvm.Cond.superclass "SharedTaxis$ClashException" "SharedTaxis$TextException") ∈ lw_all := lw_g (lw_at lw_m6 175 rfl) rfl
theorem q1541 : (Jvm.Cond.selects "SharedTaxis$ClashException" ({ cls := "SharedTaxis$TextException", name := "code", desc := "()I" } : Jvm.MethodName) ({ cls := "SharedTaxis$ClashException", name := "code", desc := "()I" } : Jvm.MethodName)) ∈ lw_all := lw_g (lw_at lw_m6 229 rfl) rfl
theorem q1542 : (Jvm.Cond.instanceMethod ({ cls := "SharedTaxis$ClashException", name := "code", desc := "()I" } : Jvm.MethodName)) ∈ lw_all := lw_g (lw_at lw_m6 230 rfl) rfl
theorem q1543 : (Jvm.Cond.code ({ cls := "SharedTaxis$ClashException", name := "code", desc := "()I" } : Jvm.MethodName) prog_2_method_2_code (1 : Nat) (Option.some Jvm.ClassFile.FieldType.int)) ∈ lw_all := lw_g (lw_at lw_m6 231 rfl) rfl
theorem q1958 : (Jvm.Cond.selects "SharedTaxis$ClashException" ({ cls := "java/lang/Object", name := "equals", desc := "(Ljava/lang/Object;)Z" } : Jvm.MethodName) ({ cls := "java/lang/Object", name := "equals", desc := "(Ljava/lang/Object;)Z" } : Jvm.MethodName)) ∈ lw_all := lw_g (lw_at lw_m8 166 rfl) rfl
theorem q3348 : (Jvm.Cond.castable "SharedTaxis$ClashException" "SharedTaxis$TextException") ∈ lw_tbl := lw_at lw_m14 116 rfl
theorem q3367 : (Jvm.Cond.castable "SharedTaxis$ClashException" "java/lang/Object") ∈ lw_tbl := lw_at lw_m14 135 rfl
theorem q145 : (Jvm.Cond.initialized "SharedTaxis$Taxi") ∈ lw_all := lw_g (lw_at lw_m1 33 rfl) rfl
theorem q891 : (Jvm.Cond.instanceMethod ({ cls := "SharedTaxis$Taxi", name := "copy", desc := "()LSharedTaxis$Taxi;" } : Jvm.MethodName)) ∈ lw_all := lw_g (lw_at lw_m4 59 rfl) rfl
theorem q892 : (Jvm.Cond.selects "SharedTaxis$Taxi" ({ cls := "SharedTaxis$Taxi", name := "copy", desc := "()LSharedTaxis$Taxi;" } : Jvm.MethodName) ({ cls := "SharedTaxis$Taxi", name := "copy", desc := "()LSharedTaxis$Taxi;" } : Jvm.MethodName)) ∈ lw_all := lw_g (lw_at lw_m4 60 rfl) rfl
theorem q893 : (Jvm.Cond.code ({ cls := "SharedTaxis$Taxi", name := "copy", desc := "()LSharedTaxis$Taxi;" } : Jvm.MethodName) prog_15_method_3_code (1 : Nat) (Option.some (Jvm.ClassFile.FieldType.object "SharedTaxis$Taxi"))) ∈ lw_all := lw_g (lw_at lw_m4 61 rfl) rfl
theorem q894 : (Jvm.Cond.classLink "SharedTaxis$Taxi" (10 : Nat) "SharedTaxis$Taxi") ∈ lw_all := lw_g (lw_at lw_m4 62 rfl) rfl
theorem q895 : (Jvm.Cond.instantiable "SharedTaxis$Taxi" (15 : Nat)) ∈ lw_all := lw_g (lw_at lw_m4 63 rfl) rfl
theorem q896 : (Jvm.Cond.methodLink "SharedTaxis$Taxi" (70 : Nat) ({ cls := "SharedTaxis$Taxi", name := "<init>", desc := "(LSharedTaxis$Taxi;)V" } : Jvm.MethodName)) ∈ lw_all := lw_g (lw_at lw_m4 64 rfl) rfl
theorem q897 : (Jvm.Cond.instanceMethod ({ cls := "SharedTaxis$Taxi", name := "<init>", desc := "(LSharedTaxis$Taxi;)V" } : Jvm.MethodName)) ∈ lw_all := lw_g (lw_at lw_m4 65 rfl) rfl
theorem q898 : (Jvm.Cond.code ({ cls := "SharedTaxis$Taxi", name := "<init>", desc := "(LSharedTaxis$Taxi;)V" } : Jvm.MethodName) prog_15_method_2_code (2 : Nat) (Option.none : Option Jvm.ClassFile.FieldType)) ∈ lw_all := lw_g (lw_at lw_m4 66 rfl) rfl
theorem q899 : (Jvm.Cond.methodLink "SharedTaxis$Taxi" (40 : Nat) ({ cls := "SharedTaxis$Taxi", name := "<init>", desc := "(IIII)V" } : Jvm.MethodName)) ∈ lw_all := lw_g (lw_at lw_m4 67 rfl) rfl
theorem q900 : (Jvm.Cond.instanceMethod ({ cls := "SharedTaxis$Taxi", name := "<init>", desc := "(IIII)V" } : Jvm.MethodName)) ∈ lw_all := lw_g (lw_at lw_m4 68 rfl) rfl
theorem q901 : (Jvm.Cond.code ({ cls := "SharedTaxis$Taxi", name := "<init>", desc := "(IIII)V" } : Jvm.MethodName) prog_15_method_1_code (5 : Nat) (Option.none : Option Jvm.ClassFile.FieldType)) ∈ lw_all := lw_g (lw_at lw_m4 69 rfl) rfl
theorem q902 : (Jvm.Cond.methodLink "SharedTaxis$Taxi" (3 : Nat) ({ cls := "java/lang/Object", name := "<init>", desc := "()V" } : Jvm.MethodName)) ∈ lw_all := lw_g (lw_at lw_m4 70 rfl) rfl
theorem q903 : (Jvm.Cond.classLink "SharedTaxis$Taxi" (15 : Nat) "java/util/ArrayList") ∈ lw_all := lw_g (lw_at lw_m4 71 rfl) rfl
theorem q904 : (Jvm.Cond.methodLink "SharedTaxis$Taxi" (17 : Nat) ({ cls := "java/util/ArrayList", name := "<init>", desc := "()V" } : Jvm.MethodName)) ∈ lw_all := lw_g (lw_at lw_m4 72 rfl) rfl
theorem q905 : (Jvm.Cond.fieldLink "SharedTaxis$Taxi" (25 : Nat) "SharedTaxis$Taxi" "seats" "I") ∈ lw_all := lw_g (lw_at lw_m4 73 rfl) rfl
theorem q908 : (Jvm.Cond.fieldLink "SharedTaxis$Taxi" (31 : Nat) "SharedTaxis$Taxi" "begin" "I") ∈ lw_all := lw_g (lw_at lw_m4 76 rfl) rfl
theorem q910 : (Jvm.Cond.fieldLink "SharedTaxis$Taxi" (28 : Nat) "SharedTaxis$Taxi" "zone" "I") ∈ lw_all := lw_g (lw_at lw_m4 78 rfl) rfl
theorem q914 : (Jvm.Cond.fieldLink "SharedTaxis$Taxi" (37 : Nat) "SharedTaxis$Taxi" "free" "I") ∈ lw_all := lw_g (lw_at lw_m4 82 rfl) rfl
theorem q918 : (Jvm.Cond.fieldLink "SharedTaxis$Taxi" (34 : Nat) "SharedTaxis$Taxi" "end" "I") ∈ lw_all := lw_g (lw_at lw_m4 86 rfl) rfl
theorem q921 : (Jvm.Cond.fieldLink "SharedTaxis$Taxi" (43 : Nat) "SharedTaxis$Taxi" "stint" "I") ∈ lw_all := lw_g (lw_at lw_m4 89 rfl) rfl
theorem q925 : (Jvm.Cond.fieldLink "SharedTaxis$Taxi" (9 : Nat) "SharedTaxis$Taxi" "left" "I") ∈ lw_all := lw_g (lw_at lw_m4 93 rfl) rfl
theorem q930 : (Jvm.Cond.fieldLink "SharedTaxis$Taxi" (18 : Nat) "SharedTaxis$Taxi" "stops" "Ljava/util/List;") ∈ lw_all := lw_g (lw_at lw_m4 98 rfl) rfl
theorem q935 : (Jvm.Cond.fieldLink "SharedTaxis$Taxi" (22 : Nat) "SharedTaxis$Taxi" "aboard" "Ljava/util/List;") ∈ lw_all := lw_g (lw_at lw_m4 103 rfl) rfl
theorem q941 : (Jvm.Cond.fieldLink "SharedTaxis$Taxi" (52 : Nat) "SharedTaxis$Taxi" "takings" "I") ∈ lw_all := lw_g (lw_at lw_m4 109 rfl) rfl
theorem q943 : (Jvm.Cond.fieldLink "SharedTaxis$Taxi" (55 : Nat) "SharedTaxis$Taxi" "tips" "I") ∈ lw_all := lw_g (lw_at lw_m4 111 rfl) rfl
theorem q945 : (Jvm.Cond.fieldLink "SharedTaxis$Taxi" (58 : Nat) "SharedTaxis$Taxi" "driven" "I") ∈ lw_all := lw_g (lw_at lw_m4 113 rfl) rfl
theorem q947 : (Jvm.Cond.fieldLink "SharedTaxis$Taxi" (61 : Nat) "SharedTaxis$Taxi" "withParties" "I") ∈ lw_all := lw_g (lw_at lw_m4 115 rfl) rfl
theorem q950 : (Jvm.Cond.fieldLink "SharedTaxis$Taxi" (64 : Nat) "SharedTaxis$Taxi" "shared" "I") ∈ lw_all := lw_g (lw_at lw_m4 118 rfl) rfl
theorem q953 : (Jvm.Cond.fieldLink "SharedTaxis$Taxi" (67 : Nat) "SharedTaxis$Taxi" "amounts" "I") ∈ lw_all := lw_g (lw_at lw_m4 121 rfl) rfl
theorem q955 : (Jvm.Cond.laysFinal "SharedTaxis$Taxi" "SharedTaxis$Taxi" "seats" "I") ∈ lw_all := lw_g (lw_at lw_m4 123 rfl) rfl
theorem q956 : (Jvm.Cond.soleField "SharedTaxis$Taxi" "seats") ∈ lw_all := lw_g (lw_at lw_m4 124 rfl) rfl
theorem q957 : (Jvm.Cond.laysFinal "SharedTaxis$Taxi" "SharedTaxis$Taxi" "begin" "I") ∈ lw_all := lw_g (lw_at lw_m4 125 rfl) rfl
theorem q958 : (Jvm.Cond.soleField "SharedTaxis$Taxi" "begin") ∈ lw_all := lw_g (lw_at lw_m4 126 rfl) rfl
theorem q959 : (Jvm.Cond.lays "SharedTaxis$Taxi" "SharedTaxis$Taxi" "zone" "I") ∈ lw_all := lw_g (lw_at lw_m4 127 rfl) rfl
theorem q960 : (Jvm.Cond.soleField "SharedTaxis$Taxi" "zone") ∈ lw_all := lw_g (lw_at lw_m4 128 rfl) rfl
theorem q961 : (Jvm.Cond.lays "SharedTaxis$Taxi" "SharedTaxis$Taxi" "free" "I") ∈ lw_all := lw_g (lw_at lw_m4 129 rfl) rfl
theorem q962 : (Jvm.Cond.soleField "SharedTaxis$Taxi" "free") ∈ lw_all := lw_g (lw_at lw_m4 130 rfl) rfl
theorem q963 : (Jvm.Cond.lays "SharedTaxis$Taxi" "SharedTaxis$Taxi" "end" "I") ∈ lw_all := lw_g (lw_at lw_m4 131 rfl) rfl
theorem q964 : (Jvm.Cond.soleField "SharedTaxis$Taxi" "end") ∈ lw_all := lw_g (lw_at lw_m4 132 rfl) rfl
theorem q965 : (Jvm.Cond.lays "SharedTaxis$Taxi" "SharedTaxis$Taxi" "stint" "I") ∈ lw_all := lw_g (lw_at lw_m4 133 rfl) rfl
theorem q966 : (Jvm.Cond.soleField "SharedTaxis$Taxi" "stint") ∈ lw_all := lw_g (lw_at lw_m4 134 rfl) rfl
theorem q967 : (Jvm.Cond.lays "SharedTaxis$Taxi" "SharedTaxis$Taxi" "left" "I") ∈ lw_all := lw_g (lw_at lw_m4 135 rfl) rfl
theorem q968 : (Jvm.Cond.soleField "SharedTaxis$Taxi" "left") ∈ lw_all := lw_g (lw_at lw_m4 136 rfl) rfl
theorem q969 : (Jvm.Cond.laysFinal "SharedTaxis$Taxi" "SharedTaxis$Taxi" "stops" "Ljava/util/List;") ∈ lw_all := lw_g (lw_at lw_m4 137 rfl) rfl
theorem q970 : (Jvm.Cond.soleField "SharedTaxis$Taxi" "stops") ∈ lw_all := lw_g (lw_at lw_m4 138 rfl) rfl
theorem q971 : (Jvm.Cond.laysFinal "SharedTaxis$Taxi" "SharedTaxis$Taxi" "aboard" "Ljava/util/List;") ∈ lw_all := lw_g (lw_at lw_m4 139 rfl) rfl
theorem q972 : (Jvm.Cond.soleField "SharedTaxis$Taxi" "aboard") ∈ lw_all := lw_g (lw_at lw_m4 140 rfl) rfl
theorem q973 : (Jvm.Cond.lays "SharedTaxis$Taxi" "SharedTaxis$Taxi" "takings" "I") ∈ lw_all := lw_g (lw_at lw_m4 141 rfl) rfl
theorem q974 : (Jvm.Cond.soleField "SharedTaxis$Taxi" "takings") ∈ lw_all := lw_g (lw_at lw_m4 142 rfl) rfl
theorem q975 : (Jvm.Cond.lays "SharedTaxis$Taxi" "SharedTaxis$Taxi" "tips" "I") ∈ lw_all := lw_g (lw_at lw_m4 143 rfl) rfl
theorem q976 : (Jvm.Cond.soleField "SharedTaxis$Taxi" "tips") ∈ lw_all := lw_g (lw_at lw_m4 144 rfl) rfl
theorem q977 : (Jvm.Cond.lays "SharedTaxis$Taxi" "SharedTaxis$Taxi" "driven" "I") ∈ lw_all := lw_g (lw_at lw_m4 145 rfl) rfl
theorem q978 : (Jvm.Cond.soleField "SharedTaxis$Taxi" "driven") ∈ lw_all := lw_g (lw_at lw_m4 146 rfl) rfl
theorem q979 : (Jvm.Cond.lays "SharedTaxis$Taxi" "SharedTaxis$Taxi" "withParties" "I") ∈ lw_all := lw_g (lw_at lw_m4 147 rfl) rfl
theorem q980 : (Jvm.Cond.soleField "SharedTaxis$Taxi" "withParties") ∈ lw_all := lw_g (lw_at lw_m4 148 rfl) rfl
theorem q981 : (Jvm.Cond.lays "SharedTaxis$Taxi" "SharedTaxis$Taxi" "shared" "I") ∈ lw_all := lw_g (lw_at lw_m4 149 rfl) rfl
theorem q982 : (Jvm.Cond.soleField "SharedTaxis$Taxi" "shared") ∈ lw_all := lw_g (lw_at lw_m4 150 rfl) rfl
theorem q983 : (Jvm.Cond.lays "SharedTaxis$Taxi" "SharedTaxis$Taxi" "amounts" "I") ∈ lw_all := lw_g (lw_at lw_m4 151 rfl) rfl
theorem q984 : (Jvm.Cond.soleField "SharedTaxis$Taxi" "amounts") ∈ lw_all := lw_g (lw_at lw_m4 152 rfl) rfl
theorem q985 : (Jvm.Cond.superclass "SharedTaxis$Taxi" "java/lang/Object") ∈ lw_all := lw_g (lw_at lw_m4 153 rfl) rfl
theorem q986 : (Jvm.Cond.interfaceEntry "SharedTaxis$Taxi" (46 : Nat)) ∈ lw_tbl := lw_at lw_m4 154 rfl
theorem q987 : (Jvm.Cond.methodLink "SharedTaxis$Taxi" (46 : Nat) ({ cls := "java/util/List", name := "addAll", desc := "(Ljava/util/Collection;)Z" } : Jvm.MethodName)) ∈ lw_all := lw_g (lw_at lw_m4 155 rfl) rfl
theorem q1042 : (Jvm.Cond.selects "SharedTaxis$Taxi" ({ cls := "java/lang/Object", name := "getClass", desc := "()Ljava/lang/Class;" } : Jvm.MethodName) ({ cls := "java/lang/Object", name := "getClass", desc := "()Ljava/lang/Class;" } : Jvm.MethodName)) ∈ lw_all := lw_g (lw_at lw_m4 210 rfl) rfl
theorem q1622 : (Jvm.Cond.instanceMethod ({ cls := "SharedTaxis$Taxi", name := "account", desc := "(I)I" } : Jvm.MethodName)) ∈ lw_all := lw_g (lw_at lw_m7 70 rfl) rfl
theorem q1623 : (Jvm.Cond.selects "SharedTaxis$Taxi" ({ cls := "SharedTaxis$Taxi", name := "account", desc := "(I)I" } : Jvm.MethodName) ({ cls := "SharedTaxis$Taxi", name := "account", desc := "(I)I" } : Jvm.MethodName)) ∈ lw_all := lw_g (lw_at lw_m7 71 rfl) rfl
theorem q1624 : (Jvm.Cond.code ({ cls := "SharedTaxis$Taxi", name := "account", desc := "(I)I" } : Jvm.MethodName) prog_15_method_5_code (2 : Nat) (Option.some Jvm.ClassFile.FieldType.int)) ∈ lw_all := lw_g (lw_at lw_m7 72 rfl) rfl
theorem q1819 : (Jvm.Cond.fieldLinkNest "SharedTaxis$Taxi" (89 : Nat) "SharedTaxis$Stop" "ride" "I" "SharedTaxis") ∈ lw_tbl := lw_at lw_m8 27 rfl
theorem q1824 : (Jvm.Cond.fieldLinkNest "SharedTaxis$Taxi" (92 : Nat) "SharedTaxis$Stop" "pickup" "Z" "SharedTaxis") ∈ lw_tbl := lw_at lw_m8 32 rfl
theorem q1971 : (Jvm.Cond.selects "SharedTaxis$Taxi" ({ cls := "java/lang/Object", name := "equals", desc := "(Ljava/lang/Object;)Z" } : Jvm.MethodName) ({ cls := "java/lang/Object", name := "equals", desc := "(Ljava/lang/Object;)Z" } : Jvm.MethodName)) ∈ lw_all := lw_g (lw_at lw_m8 179 rfl) rfl
theorem q2154 : (Jvm.Cond.instanceMethod ({ cls := "SharedTaxis$Taxi", name := "isOnWayTo", desc := "(I)Z" } : Jvm.MethodName)) ∈ lw_all := lw_g (lw_at lw_m9 122 rfl) rfl
theorem q2155 : (Jvm.Cond.selects "SharedTaxis$Taxi" ({ cls := "SharedTaxis$Taxi", name := "isOnWayTo", desc := "(I)Z" } : Jvm.MethodName) ({ cls := "SharedTaxis$Taxi", name := "isOnWayTo", desc := "(I)Z" } : Jvm.MethodName)) ∈ lw_all := lw_g (lw_at lw_m9 123 rfl) rfl
theorem q2156 : (Jvm.Cond.code ({ cls := "SharedTaxis$Taxi", name := "isOnWayTo", desc := "(I)Z" } : Jvm.MethodName) prog_15_method_6_code (2 : Nat) (Option.some Jvm.ClassFile.FieldType.boolean)) ∈ lw_all := lw_g (lw_at lw_m9 124 rfl) rfl
theorem q2157 : (Jvm.Cond.interfaceEntry "SharedTaxis$Taxi" (99 : Nat)) ∈ lw_tbl := lw_at lw_m9 125 rfl
theorem q2158 : (Jvm.Cond.methodLink "SharedTaxis$Taxi" (99 : Nat) ({ cls := "java/util/List", name := "get", desc := "(I)Ljava/lang/Object;" } : Jvm.MethodName)) ∈ lw_all := lw_g (lw_at lw_m9 126 rfl) rfl
theorem q2159 : (Jvm.Cond.classLink "SharedTaxis$Taxi" (87 : Nat) "SharedTaxis$Stop") ∈ lw_all := lw_g (lw_at lw_m9 127 rfl) rfl
theorem q2161 : (Jvm.Cond.instanceMethod ({ cls := "SharedTaxis$Taxi", name := "remove", desc := "(IZ)V" } : Jvm.MethodName)) ∈ lw_all := lw_g (lw_at lw_m9 129 rfl) rfl
theorem q2162 : (Jvm.Cond.selects "SharedTaxis$Taxi" ({ cls := "SharedTaxis$Taxi", name := "remove", desc := "(IZ)V" } : Jvm.MethodName) ({ cls := "SharedTaxis$Taxi", name := "remove", desc := "(IZ)V" } : Jvm.MethodName)) ∈ lw_all := lw_g (lw_at lw_m9 130 rfl) rfl
theorem q2163 : (Jvm.Cond.code ({ cls := "SharedTaxis$Taxi", name := "remove", desc := "(IZ)V" } : Jvm.MethodName) prog_15_method_4_code (5 : Nat) (Option.none : Option Jvm.ClassFile.FieldType)) ∈ lw_all := lw_g (lw_at lw_m9 131 rfl) rfl
theorem q2164 : (Jvm.Cond.interfaceEntry "SharedTaxis$Taxi" (73 : Nat)) ∈ lw_tbl := lw_at lw_m9 132 rfl
theorem q2165 : (Jvm.Cond.methodLink "SharedTaxis$Taxi" (73 : Nat) ({ cls := "java/util/List", name := "iterator", desc := "()Ljava/util/Iterator;" } : Jvm.MethodName)) ∈ lw_all := lw_g (lw_at lw_m9 133 rfl) rfl
theorem q2166 : (Jvm.Cond.interfaceEntry "SharedTaxis$Taxi" (77 : Nat)) ∈ lw_tbl := lw_at lw_m9 134 rfl
theorem q2167 : (Jvm.Cond.methodLink "SharedTaxis$Taxi" (77 : Nat) ({ cls := "java/util/Iterator", name := "hasNext", desc := "()Z" } : Jvm.MethodName)) ∈ lw_all := lw_g (lw_at lw_m9 135 rfl) rfl
theorem q2168 : (Jvm.Cond.interfaceEntry "SharedTaxis$Taxi" (83 : Nat)) ∈ lw_tbl := lw_at lw_m9 136 rfl
theorem q2169 : (Jvm.Cond.methodLink "SharedTaxis$Taxi" (83 : Nat) ({ cls := "java/util/Iterator", name := "next", desc := "()Ljava/lang/Object;" } : Jvm.MethodName)) ∈ lw_all := lw_g (lw_at lw_m9 137 rfl) rfl
theorem q2170 : (Jvm.Cond.interfaceEntry "SharedTaxis$Taxi" (96 : Nat)) ∈ lw_tbl := lw_at lw_m9 138 rfl
theorem q2171 : (Jvm.Cond.methodLink "SharedTaxis$Taxi" (96 : Nat) ({ cls := "java/util/Iterator", name := "remove", desc := "()V" } : Jvm.MethodName)) ∈ lw_all := lw_g (lw_at lw_m9 139 rfl) rfl
theorem q3368 : (Jvm.Cond.castable "SharedTaxis$Taxi" "java/lang/Object") ∈ lw_tbl := lw_at lw_m14 136 rfl
theorem q149 : (Jvm.Cond.initialized "SharedTaxis$Walk") ∈ lw_all := lw_g (lw_at lw_m1 37 rfl) rfl
theorem q186 : (Jvm.Cond.fieldLinkNest "SharedTaxis$Walk" (126 : Nat) "SharedTaxis$Town" "minutes" "[[I" "SharedTaxis") ∈ lw_tbl := lw_at lw_m1 74 rfl
theorem q233 : (Jvm.Cond.fieldLinkNest "SharedTaxis$Walk" (122 : Nat) "SharedTaxis$State" "town" "LSharedTaxis$Town;" "SharedTaxis") ∈ lw_tbl := lw_at lw_m1 121 rfl
theorem q237 : (Jvm.Cond.fieldLinkNest "SharedTaxis$Walk" (137 : Nat) "SharedTaxis$State" "rules" "[I" "SharedTaxis") ∈ lw_tbl := lw_at lw_m1 125 rfl
theorem q250 : (Jvm.Cond.fieldLinkNest "SharedTaxis$Walk" (86 : Nat) "SharedTaxis$State" "present" "I" "SharedTaxis") ∈ lw_tbl := lw_at lw_m1 138 rfl
theorem q259 : (Jvm.Cond.fieldLinkNest "SharedTaxis$Walk" (76 : Nat) "SharedTaxis$State" "rides" "Ljava/util/List;" "SharedTaxis") ∈ lw_tbl := lw_at lw_m1 147 rfl
theorem q906 : (Jvm.Cond.fieldLinkNest "SharedTaxis$Walk" (159 : Nat) "SharedTaxis$Taxi" "seats" "I" "SharedTaxis") ∈ lw_tbl := lw_at lw_m4 74 rfl
theorem q911 : (Jvm.Cond.fieldLinkNest "SharedTaxis$Walk" (31 : Nat) "SharedTaxis$Taxi" "zone" "I" "SharedTaxis") ∈ lw_tbl := lw_at lw_m4 79 rfl
theorem q915 : (Jvm.Cond.fieldLinkNest "SharedTaxis$Walk" (37 : Nat) "SharedTaxis$Taxi" "free" "I" "SharedTaxis") ∈ lw_tbl := lw_at lw_m4 83 rfl
theorem q919 : (Jvm.Cond.fieldLinkNest "SharedTaxis$Walk" (175 : Nat) "SharedTaxis$Taxi" "end" "I" "SharedTaxis") ∈ lw_tbl := lw_at lw_m4 87 rfl
theorem q922 : (Jvm.Cond.fieldLinkNest "SharedTaxis$Walk" (41 : Nat) "SharedTaxis$Taxi" "stint" "I" "SharedTaxis") ∈ lw_tbl := lw_at lw_m4 90 rfl
theorem q926 : (Jvm.Cond.fieldLinkNest "SharedTaxis$Walk" (83 : Nat) "SharedTaxis$Taxi" "left" "I" "SharedTaxis") ∈ lw_tbl := lw_at lw_m4 94 rfl
theorem q936 : (Jvm.Cond.fieldLinkNest "SharedTaxis$Walk" (58 : Nat) "SharedTaxis$Taxi" "aboard" "Ljava/util/List;" "SharedTaxis") ∈ lw_tbl := lw_at lw_m4 104 rfl
theorem q1045 : (Jvm.Cond.selects "SharedTaxis$Walk" ({ cls := "java/lang/Object", name := "getClass", desc := "()Ljava/lang/Class;" } : Jvm.MethodName) ({ cls := "java/lang/Object", name := "getClass", desc := "()Ljava/lang/Class;" } : Jvm.MethodName)) ∈ lw_all := lw_g (lw_at lw_m4 213 rfl) rfl
theorem q1109 : (Jvm.Cond.fieldLinkNest "SharedTaxis$Walk" (116 : Nat) "SharedTaxis$Ride" "from" "I" "SharedTaxis") ∈ lw_tbl := lw_at lw_m5 37 rfl
theorem q1113 : (Jvm.Cond.fieldLinkNest "SharedTaxis$Walk" (119 : Nat) "SharedTaxis$Ride" "to" "I" "SharedTaxis") ∈ lw_tbl := lw_at lw_m5 41 rfl
theorem q1116 : (Jvm.Cond.fieldLinkNest "SharedTaxis$Walk" (152 : Nat) "SharedTaxis$Ride" "persons" "I" "SharedTaxis") ∈ lw_tbl := lw_at lw_m5 44 rfl
theorem q1120 : (Jvm.Cond.fieldLinkNest "SharedTaxis$Walk" (108 : Nat) "SharedTaxis$Ride" "ready" "I" "SharedTaxis") ∈ lw_tbl := lw_at lw_m5 48 rfl
theorem q1123 : (Jvm.Cond.fieldLinkNest "SharedTaxis$Walk" (153 : Nat) "SharedTaxis$Ride" "latest" "I" "SharedTaxis") ∈ lw_tbl := lw_at lw_m5 51 rfl
theorem q1136 : (Jvm.Cond.fieldLinkNest "SharedTaxis$Walk" (81 : Nat) "SharedTaxis$Ride" "boarded" "I" "SharedTaxis") ∈ lw_tbl := lw_at lw_m5 64 rfl
theorem q1147 : (Jvm.Cond.fieldLinkNest "SharedTaxis$Walk" (143 : Nat) "SharedTaxis$Ride" "absent" "Z" "SharedTaxis") ∈ lw_tbl := lw_at lw_m5 75 rfl
theorem q1633 : (Jvm.Cond.instantiable "SharedTaxis$Walk" (17 : Nat)) ∈ lw_all := lw_g (lw_at lw_m7 81 rfl) rfl
theorem q1635 : (Jvm.Cond.instanceMethod ({ cls := "SharedTaxis$Walk", name := "<init>", desc := "(LSharedTaxis$State;)V" } : Jvm.MethodName)) ∈ lw_all := lw_g (lw_at lw_m7 83 rfl) rfl
theorem q1636 : (Jvm.Cond.code ({ cls := "SharedTaxis$Walk", name := "<init>", desc := "(LSharedTaxis$State;)V" } : Jvm.MethodName) prog_21_method_1_code (2 : Nat) (Option.none : Option Jvm.ClassFile.FieldType)) ∈ lw_all := lw_g (lw_at lw_m7 84 rfl) rfl
theorem q1637 : (Jvm.Cond.methodLink "SharedTaxis$Walk" (3 : Nat) ({ cls := "java/lang/Object", name := "<init>", desc := "()V" } : Jvm.MethodName)) ∈ lw_all := lw_g (lw_at lw_m7 85 rfl) rfl
theorem q1638 : (Jvm.Cond.fieldLink "SharedTaxis$Walk" (15 : Nat) "SharedTaxis$Walk" "state" "LSharedTaxis$State;") ∈ lw_all := lw_g (lw_at lw_m7 86 rfl) rfl
theorem q1639 : (Jvm.Cond.fieldLink "SharedTaxis$Walk" (19 : Nat) "SharedTaxis$Walk" "taxi" "LSharedTaxis$Taxi;") ∈ lw_all := lw_g (lw_at lw_m7 87 rfl) rfl
theorem q1640 : (Jvm.Cond.fieldLink "SharedTaxis$Walk" (23 : Nat) "SharedTaxis$Walk" "route" "Ljava/util/List;") ∈ lw_all := lw_g (lw_at lw_m7 88 rfl) rfl
theorem q1641 : (Jvm.Cond.fieldLink "SharedTaxis$Walk" (27 : Nat) "SharedTaxis$Walk" "index" "I") ∈ lw_all := lw_g (lw_at lw_m7 89 rfl) rfl
theorem q1643 : (Jvm.Cond.fieldLink "SharedTaxis$Walk" (36 : Nat) "SharedTaxis$Walk" "zone" "I") ∈ lw_all := lw_g (lw_at lw_m7 91 rfl) rfl
theorem q1646 : (Jvm.Cond.fieldLink "SharedTaxis$Walk" (40 : Nat) "SharedTaxis$Walk" "free" "I") ∈ lw_all := lw_g (lw_at lw_m7 94 rfl) rfl
theorem q1647 : (Jvm.Cond.fieldLink "SharedTaxis$Walk" (51 : Nat) "SharedTaxis$Walk" "persons" "I") ∈ lw_all := lw_g (lw_at lw_m7 95 rfl) rfl
theorem q1648 : (Jvm.Cond.fieldLink "SharedTaxis$Walk" (95 : Nat) "SharedTaxis$Walk" "stop" "LSharedTaxis$Stop;") ∈ lw_all := lw_g (lw_at lw_m7 96 rfl) rfl
theorem q1652 : (Jvm.Cond.fieldLink "SharedTaxis$Walk" (104 : Nat) "SharedTaxis$Walk" "ride" "LSharedTaxis$Ride;") ∈ lw_all := lw_g (lw_at lw_m7 100 rfl) rfl
theorem q1656 : (Jvm.Cond.fieldLink "SharedTaxis$Walk" (111 : Nat) "SharedTaxis$Walk" "minutes" "I") ∈ lw_all := lw_g (lw_at lw_m7 104 rfl) rfl
theorem q1659 : (Jvm.Cond.fieldLink "SharedTaxis$Walk" (134 : Nat) "SharedTaxis$Walk" "leave" "I") ∈ lw_all := lw_g (lw_at lw_m7 107 rfl) rfl
theorem q1664 : (Jvm.Cond.fieldLink "SharedTaxis$Walk" (140 : Nat) "SharedTaxis$Walk" "arrive" "I") ∈ lw_all := lw_g (lw_at lw_m7 112 rfl) rfl
theorem q1667 : (Jvm.Cond.fieldLink "SharedTaxis$Walk" (146 : Nat) "SharedTaxis$Walk" "done" "I") ∈ lw_all := lw_g (lw_at lw_m7 115 rfl) rfl
theorem q1669 : (Jvm.Cond.fieldLink "SharedTaxis$Walk" (44 : Nat) "SharedTaxis$Walk" "stint" "I") ∈ lw_all := lw_g (lw_at lw_m7 117 rfl) rfl
theorem q1671 : (Jvm.Cond.fieldLink "SharedTaxis$Walk" (149 : Nat) "SharedTaxis$Walk" "carried" "I") ∈ lw_all := lw_g (lw_at lw_m7 119 rfl) rfl
theorem q1672 : (Jvm.Cond.fieldLink "SharedTaxis$Walk" (54 : Nat) "SharedTaxis$Walk" "isBroken" "Z") ∈ lw_all := lw_g (lw_at lw_m7 120 rfl) rfl
theorem q1673 : (Jvm.Cond.fieldLink "SharedTaxis$Walk" (9 : Nat) "SharedTaxis$Walk" "boarded" "[I") ∈ lw_all := lw_g (lw_at lw_m7 121 rfl) rfl
theorem q1674 : (Jvm.Cond.laysFinal "SharedTaxis$Walk" "SharedTaxis$Walk" "state" "LSharedTaxis$State;") ∈ lw_all := lw_g (lw_at lw_m7 122 rfl) rfl
theorem q1675 : (Jvm.Cond.soleField "SharedTaxis$Walk" "state") ∈ lw_all := lw_g (lw_at lw_m7 123 rfl) rfl
theorem q1676 : (Jvm.Cond.lays "SharedTaxis$Walk" "SharedTaxis$Walk" "taxi" "LSharedTaxis$Taxi;") ∈ lw_all := lw_g (lw_at lw_m7 124 rfl) rfl
theorem q1677 : (Jvm.Cond.soleField "SharedTaxis$Walk" "taxi") ∈ lw_all := lw_g (lw_at lw_m7 125 rfl) rfl
theorem q1678 : (Jvm.Cond.lays "SharedTaxis$Walk" "SharedTaxis$Walk" "route" "Ljava/util/List;") ∈ lw_all := lw_g (lw_at lw_m7 126 rfl) rfl
theorem q1679 : (Jvm.Cond.soleField "SharedTaxis$Walk" "route") ∈ lw_all := lw_g (lw_at lw_m7 127 rfl) rfl
theorem q1680 : (Jvm.Cond.lays "SharedTaxis$Walk" "SharedTaxis$Walk" "index" "I") ∈ lw_all := lw_g (lw_at lw_m7 128 rfl) rfl
theorem q1681 : (Jvm.Cond.soleField "SharedTaxis$Walk" "index") ∈ lw_all := lw_g (lw_at lw_m7 129 rfl) rfl
theorem q1682 : (Jvm.Cond.lays "SharedTaxis$Walk" "SharedTaxis$Walk" "zone" "I") ∈ lw_all := lw_g (lw_at lw_m7 130 rfl) rfl
theorem q1683 : (Jvm.Cond.soleField "SharedTaxis$Walk" "zone") ∈ lw_all := lw_g (lw_at lw_m7 131 rfl) rfl
theorem q1684 : (Jvm.Cond.lays "SharedTaxis$Walk" "SharedTaxis$Walk" "free" "I") ∈ lw_all := lw_g (lw_at lw_m7 132 rfl) rfl
theorem q1685 : (Jvm.Cond.soleField "SharedTaxis$Walk" "free") ∈ lw_all := lw_g (lw_at lw_m7 133 rfl) rfl
theorem q1686 : (Jvm.Cond.lays "SharedTaxis$Walk" "SharedTaxis$Walk" "persons" "I") ∈ lw_all := lw_g (lw_at lw_m7 134 rfl) rfl
theorem q1687 : (Jvm.Cond.soleField "SharedTaxis$Walk" "persons") ∈ lw_all := lw_g (lw_at lw_m7 135 rfl) rfl
theorem q1688 : (Jvm.Cond.lays "SharedTaxis$Walk" "SharedTaxis$Walk" "stop" "LSharedTaxis$Stop;") ∈ lw_all := lw_g (lw_at lw_m7 136 rfl) rfl
theorem q1689 : (Jvm.Cond.soleField "SharedTaxis$Walk" "stop") ∈ lw_all := lw_g (lw_at lw_m7 137 rfl) rfl
theorem q1690 : (Jvm.Cond.lays "SharedTaxis$Walk" "SharedTaxis$Walk" "ride" "LSharedTaxis$Ride;") ∈ lw_all := lw_g (lw_at lw_m7 138 rfl) rfl
theorem q1691 : (Jvm.Cond.soleField "SharedTaxis$Walk" "ride") ∈ lw_all := lw_g (lw_at lw_m7 139 rfl) rfl
theorem q1692 : (Jvm.Cond.lays "SharedTaxis$Walk" "SharedTaxis$Walk" "minutes" "I") ∈ lw_all := lw_g (lw_at lw_m7 140 rfl) rfl
theorem q1693 : (Jvm.Cond.soleField "SharedTaxis$Walk" "minutes") ∈ lw_all := lw_g (lw_at lw_m7 141 rfl) rfl
theorem q1694 : (Jvm.Cond.lays "SharedTaxis$Walk" "SharedTaxis$Walk" "leave" "I") ∈ lw_all := lw_g (lw_at lw_m7 142 rfl) rfl
theorem q1695 : (Jvm.Cond.soleField "SharedTaxis$Walk" "leave") ∈ lw_all := lw_g (lw_at lw_m7 143 rfl) rfl
theorem q1696 : (Jvm.Cond.lays "SharedTaxis$Walk" "SharedTaxis$Walk" "arrive" "I") ∈ lw_all := lw_g (lw_at lw_m7 144 rfl) rfl
theorem q1697 : (Jvm.Cond.soleField "SharedTaxis$Walk" "arrive") ∈ lw_all := lw_g (lw_at lw_m7 145 rfl) rfl
theorem q1698 : (Jvm.Cond.lays "SharedTaxis$Walk" "SharedTaxis$Walk" "done" "I") ∈ lw_all := lw_g (lw_at lw_m7 146 rfl) rfl
theorem q1699 : (Jvm.Cond.soleField "SharedTaxis$Walk" "done") ∈ lw_all := lw_g (lw_at lw_m7 147 rfl) rfl
theorem q1700 : (Jvm.Cond.lays "SharedTaxis$Walk" "SharedTaxis$Walk" "stint" "I") ∈ lw_all := lw_g (lw_at lw_m7 148 rfl) rfl
theorem q1701 : (Jvm.Cond.soleField "SharedTaxis$Walk" "stint") ∈ lw_all := lw_g (lw_at lw_m7 149 rfl) rfl
theorem q1702 : (Jvm.Cond.lays "SharedTaxis$Walk" "SharedTaxis$Walk" "carried" "I") ∈ lw_all := lw_g (lw_at lw_m7 150 rfl) rfl
theorem q1703 : (Jvm.Cond.soleField "SharedTaxis$Walk" "carried") ∈ lw_all := lw_g (lw_at lw_m7 151 rfl) rfl
theorem q1704 : (Jvm.Cond.lays "SharedTaxis$Walk" "SharedTaxis$Walk" "isBroken" "Z") ∈ lw_all := lw_g (lw_at lw_m7 152 rfl) rfl
theorem q1705 : (Jvm.Cond.soleField "SharedTaxis$Walk" "isBroken") ∈ lw_all := lw_g (lw_at lw_m7 153 rfl) rfl
theorem q1706 : (Jvm.Cond.laysFinal "SharedTaxis$Walk" "SharedTaxis$Walk" "boarded" "[I") ∈ lw_all := lw_g (lw_at lw_m7 154 rfl) rfl
theorem q1707 : (Jvm.Cond.soleField "SharedTaxis$Walk" "boarded") ∈ lw_all := lw_g (lw_at lw_m7 155 rfl) rfl
theorem q1708 : (Jvm.Cond.superclass "SharedTaxis$Walk" "java/lang/Object") ∈ lw_all := lw_g (lw_at lw_m7 156 rfl) rfl
theorem q1710 : (Jvm.Cond.instanceMethod ({ cls := "SharedTaxis$Walk", name := "begin", desc := "(LSharedTaxis$Taxi;Ljava/util/List;)LSharedTaxis$Walk;" } : Jvm.MethodName)) ∈ lw_all := lw_g (lw_at lw_m7 158 rfl) rfl
theorem q1711 : (Jvm.Cond.selects "SharedTaxis$Walk" ({ cls := "SharedTaxis$Walk", name := "begin", desc := "(LSharedTaxis$Taxi;Ljava/util/List;)LSharedTaxis$Walk;" } : Jvm.MethodName) ({ cls := "SharedTaxis$Walk", name := "begin", desc := "(LSharedTaxis$Taxi;Ljava/util/List;)LSharedTaxis$Walk;" } : Jvm.MethodName)) ∈ lw_all := lw_g (lw_at lw_m7 159 rfl) rfl
theorem q1712 : (Jvm.Cond.code ({ cls := "SharedTaxis$Walk", name := "begin", desc := "(LSharedTaxis$Taxi;Ljava/util/List;)LSharedTaxis$Walk;" } : Jvm.MethodName) prog_21_method_2_code (4 : Nat) (Option.some (Jvm.ClassFile.FieldType.object "SharedTaxis$Walk"))) ∈ lw_all := lw_g (lw_at lw_m7 160 rfl) rfl
theorem q1713 : (Jvm.Cond.methodLink "SharedTaxis$Walk" (45 : Nat) ({ cls := "SharedTaxis$State", name := "personsIn", desc := "(LSharedTaxis$Taxi;)I" } : Jvm.MethodName)) ∈ lw_all := lw_g (lw_at lw_m7 161 rfl) rfl
theorem q1714 : (Jvm.Cond.interfaceEntry "SharedTaxis$Walk" (61 : Nat)) ∈ lw_tbl := lw_at lw_m7 162 rfl
theorem q1715 : (Jvm.Cond.methodLink "SharedTaxis$Walk" (61 : Nat) ({ cls := "java/util/List", name := "size", desc := "()I" } : Jvm.MethodName)) ∈ lw_all := lw_g (lw_at lw_m7 163 rfl) rfl
theorem q1716 : (Jvm.Cond.interfaceEntry "SharedTaxis$Walk" (67 : Nat)) ∈ lw_tbl := lw_at lw_m7 164 rfl
theorem q1717 : (Jvm.Cond.methodLink "SharedTaxis$Walk" (67 : Nat) ({ cls := "java/util/List", name := "get", desc := "(I)Ljava/lang/Object;" } : Jvm.MethodName)) ∈ lw_all := lw_g (lw_at lw_m7 165 rfl) rfl
theorem q1718 : (Jvm.Cond.classLink "SharedTaxis$Walk" (71 : Nat) "java/lang/Integer") ∈ lw_all := lw_g (lw_at lw_m7 166 rfl) rfl
theorem q1719 : (Jvm.Cond.methodLink "SharedTaxis$Walk" (73 : Nat) ({ cls := "java/lang/Integer", name := "intValue", desc := "()I" } : Jvm.MethodName)) ∈ lw_all := lw_g (lw_at lw_m7 167 rfl) rfl
theorem q1720 : (Jvm.Cond.classLink "SharedTaxis$Walk" (79 : Nat) "SharedTaxis$Ride") ∈ lw_all := lw_g (lw_at lw_m7 168 rfl) rfl
theorem q1722 : (Jvm.Cond.instanceMethod ({ cls := "SharedTaxis$Walk", name := "next", desc := "()V" } : Jvm.MethodName)) ∈ lw_all := lw_g (lw_at lw_m7 170 rfl) rfl
theorem q1723 : (Jvm.Cond.selects "SharedTaxis$Walk" ({ cls := "SharedTaxis$Walk", name := "next", desc := "()V" } : Jvm.MethodName) ({ cls := "SharedTaxis$Walk", name := "next", desc := "()V" } : Jvm.MethodName)) ∈ lw_all := lw_g (lw_at lw_m7 171 rfl) rfl
theorem q1724 : (Jvm.Cond.code ({ cls := "SharedTaxis$Walk", name := "next", desc := "()V" } : Jvm.MethodName) prog_21_method_5_code (2 : Nat) (Option.none : Option Jvm.ClassFile.FieldType)) ∈ lw_all := lw_g (lw_at lw_m7 172 rfl) rfl
theorem q1725 : (Jvm.Cond.classLink "SharedTaxis$Walk" (100 : Nat) "SharedTaxis$Stop") ∈ lw_all := lw_g (lw_at lw_m7 173 rfl) rfl
theorem q1726 : (Jvm.Cond.methodLink "SharedTaxis$Walk" (89 : Nat) ({ cls := "java/lang/Math", name := "max", desc := "(II)I" } : Jvm.MethodName)) ∈ lw_all := lw_g (lw_at lw_m7 174 rfl) rfl
theorem q1727 : (Jvm.Cond.methodLink "SharedTaxis$Walk" (131 : Nat) ({ cls := "SharedTaxis$Walk", name := "leaving", desc := "()I" } : Jvm.MethodName)) ∈ lw_all := lw_g (lw_at lw_m7 175 rfl) rfl
theorem q1728 : (Jvm.Cond.privateMethod ({ cls := "SharedTaxis$Walk", name := "leaving", desc := "()I" } : Jvm.MethodName)) ∈ lw_tbl := lw_at lw_m7 176 rfl
theorem q1729 : (Jvm.Cond.instanceMethod ({ cls := "SharedTaxis$Walk", name := "leaving", desc := "()I" } : Jvm.MethodName)) ∈ lw_all := lw_g (lw_at lw_m7 177 rfl) rfl
theorem q1730 : (Jvm.Cond.code ({ cls := "SharedTaxis$Walk", name := "leaving", desc := "()I" } : Jvm.MethodName) prog_21_method_4_code (2 : Nat) (Option.some Jvm.ClassFile.FieldType.int)) ∈ lw_all := lw_g (lw_at lw_m7 178 rfl) rfl
theorem q1820 : (Jvm.Cond.fieldLinkNest "SharedTaxis$Walk" (114 : Nat) "SharedTaxis$Stop" "ride" "I" "SharedTaxis") ∈ lw_tbl := lw_at lw_m8 28 rfl
theorem q1825 : (Jvm.Cond.fieldLinkNest "SharedTaxis$Walk" (99 : Nat) "SharedTaxis$Stop" "pickup" "Z" "SharedTaxis") ∈ lw_tbl := lw_at lw_m8 33 rfl
theorem q1835 : (Jvm.Cond.instanceMethod ({ cls := "SharedTaxis$Walk", name := "minutesInAll", desc := "()I" } : Jvm.MethodName)) ∈ lw_all := lw_g (lw_at lw_m8 43 rfl) rfl
theorem q1836 : (Jvm.Cond.selects "SharedTaxis$Walk" ({ cls := "SharedTaxis$Walk", name := "minutesInAll", desc := "()I" } : Jvm.MethodName) ({ cls := "SharedTaxis$Walk", name := "minutesInAll", desc := "()I" } : Jvm.MethodName)) ∈ lw_all := lw_g (lw_at lw_m8 44 rfl) rfl
theorem q1837 : (Jvm.Cond.code ({ cls := "SharedTaxis$Walk", name := "minutesInAll", desc := "()I" } : Jvm.MethodName) prog_21_method_8_code (2 : Nat) (Option.some Jvm.ClassFile.FieldType.int)) ∈ lw_all := lw_g (lw_at lw_m8 45 rfl) rfl
theorem q1838 : (Jvm.Cond.methodLink "SharedTaxis$Walk" (162 : Nat) ({ cls := "SharedTaxis$Walk", name := "goesOn", desc := "()Z" } : Jvm.MethodName)) ∈ lw_all := lw_g (lw_at lw_m8 46 rfl) rfl
theorem q1839 : (Jvm.Cond.instanceMethod ({ cls := "SharedTaxis$Walk", name := "goesOn", desc := "()Z" } : Jvm.MethodName)) ∈ lw_all := lw_g (lw_at lw_m8 47 rfl) rfl
theorem q1840 : (Jvm.Cond.selects "SharedTaxis$Walk" ({ cls := "SharedTaxis$Walk", name := "goesOn", desc := "()Z" } : Jvm.MethodName) ({ cls := "SharedTaxis$Walk", name := "goesOn", desc := "()Z" } : Jvm.MethodName)) ∈ lw_all := lw_g (lw_at lw_m8 48 rfl) rfl
theorem q1841 : (Jvm.Cond.code ({ cls := "SharedTaxis$Walk", name := "goesOn", desc := "()Z" } : Jvm.MethodName) prog_21_method_3_code (1 : Nat) (Option.some Jvm.ClassFile.FieldType.boolean)) ∈ lw_all := lw_g (lw_at lw_m8 49 rfl) rfl
theorem q1842 : (Jvm.Cond.methodLink "SharedTaxis$Walk" (166 : Nat) ({ cls := "SharedTaxis$Walk", name := "next", desc := "()V" } : Jvm.MethodName)) ∈ lw_all := lw_g (lw_at lw_m8 50 rfl) rfl
theorem q1869 : (Jvm.Cond.instanceMethod ({ cls := "SharedTaxis$Walk", name := "keeps", desc := "()Z" } : Jvm.MethodName)) ∈ lw_all := lw_g (lw_at lw_m8 77 rfl) rfl
theorem q1870 : (Jvm.Cond.selects "SharedTaxis$Walk" ({ cls := "SharedTaxis$Walk", name := "keeps", desc := "()Z" } : Jvm.MethodName) ({ cls := "SharedTaxis$Walk", name := "keeps", desc := "()Z" } : Jvm.MethodName)) ∈ lw_all := lw_g (lw_at lw_m8 78 rfl) rfl
theorem q1871 : (Jvm.Cond.code ({ cls := "SharedTaxis$Walk", name := "keeps", desc := "()Z" } : Jvm.MethodName) prog_21_method_7_code (1 : Nat) (Option.some Jvm.ClassFile.FieldType.boolean)) ∈ lw_all := lw_g (lw_at lw_m8 79 rfl) rfl
theorem q1872 : (Jvm.Cond.methodLink "SharedTaxis$Walk" (169 : Nat) ({ cls := "SharedTaxis$Walk", name := "isWithin", desc := "()Z" } : Jvm.MethodName)) ∈ lw_all := lw_g (lw_at lw_m8 80 rfl) rfl
theorem q1873 : (Jvm.Cond.privateMethod ({ cls := "SharedTaxis$Walk", name := "isWithin", desc := "()Z" } : Jvm.MethodName)) ∈ lw_tbl := lw_at lw_m8 81 rfl
theorem q1874 : (Jvm.Cond.instanceMethod ({ cls := "SharedTaxis$Walk", name := "isWithin", desc := "()Z" } : Jvm.MethodName)) ∈ lw_all := lw_g (lw_at lw_m8 82 rfl) rfl
theorem q1875 : (Jvm.Cond.code ({ cls := "SharedTaxis$Walk", name := "isWithin", desc := "()Z" } : Jvm.MethodName) prog_21_method_6_code (2 : Nat) (Option.some Jvm.ClassFile.FieldType.boolean)) ∈ lw_all := lw_g (lw_at lw_m8 83 rfl) rfl
theorem q1876 : (Jvm.Cond.methodLink "SharedTaxis$Walk" (156 : Nat) ({ cls := "SharedTaxis$Ride", name := "most", desc := "()I" } : Jvm.MethodName)) ∈ lw_all := lw_g (lw_at lw_m8 84 rfl) rfl
theorem q1877 : (Jvm.Cond.interfaceEntry "SharedTaxis$Walk" (172 : Nat)) ∈ lw_tbl := lw_at lw_m8 85 rfl
theorem q1878 : (Jvm.Cond.methodLink "SharedTaxis$Walk" (172 : Nat) ({ cls := "java/util/List", name := "isEmpty", desc := "()Z" } : Jvm.MethodName)) ∈ lw_all := lw_g (lw_at lw_m8 86 rfl) rfl
theorem q1974 : (Jvm.Cond.selects "SharedTaxis$Walk" ({ cls := "java/lang/Object", name := "equals", desc := "(Ljava/lang/Object;)Z" } : Jvm.MethodName) ({ cls := "java/lang/Object", name := "equals", desc := "(Ljava/lang/Object;)Z" } : Jvm.MethodName)) ∈ lw_all := lw_g (lw_at lw_m8 182 rfl) rfl
theorem q3371 : (Jvm.Cond.castable "SharedTaxis$Walk" "java/lang/Object") ∈ lw_tbl := lw_at lw_m14 139 rfl
theorem q150 : (Jvm.Cond.initialized "SharedTaxis$Search") ∈ lw_all := lw_g (lw_at lw_m1 38 rfl) rfl
theorem q239 : (Jvm.Cond.fieldLinkNest "SharedTaxis$Search" (138 : Nat) "SharedTaxis$State" "rules" "[I" "SharedTaxis") ∈ lw_tbl := lw_at lw_m1 127 rfl
theorem q251 : (Jvm.Cond.fieldLinkNest "SharedTaxis$Search" (135 : Nat) "SharedTaxis$State" "present" "I" "SharedTaxis") ∈ lw_tbl := lw_at lw_m1 139 rfl
theorem q256 : (Jvm.Cond.fieldLinkNest "SharedTaxis$Search" (122 : Nat) "SharedTaxis$State" "taxis" "Ljava/util/List;" "SharedTaxis") ∈ lw_tbl := lw_at lw_m1 144 rfl
theorem q928 : (Jvm.Cond.fieldLinkNest "SharedTaxis$Search" (95 : Nat) "SharedTaxis$Taxi" "left" "I" "SharedTaxis") ∈ lw_tbl := lw_at lw_m4 96 rfl
theorem q932 : (Jvm.Cond.fieldLinkNest "SharedTaxis$Search" (36 : Nat) "SharedTaxis$Taxi" "stops" "Ljava/util/List;" "SharedTaxis") ∈ lw_tbl := lw_at lw_m4 100 rfl
theorem q1038 : (Jvm.Cond.selects "SharedTaxis$Search" ({ cls := "java/lang/Object", name := "getClass", desc := "()Ljava/lang/Class;" } : Jvm.MethodName) ({ cls := "java/lang/Object", name := "getClass", desc := "()Ljava/lang/Class;" } : Jvm.MethodName)) ∈ lw_all := lw_g (lw_at lw_m4 206 rfl) rfl
theorem q1649 : (Jvm.Cond.fieldLinkNest "SharedTaxis$Search" (76 : Nat) "SharedTaxis$Walk" "stop" "LSharedTaxis$Stop;" "SharedTaxis") ∈ lw_tbl := lw_at lw_m7 97 rfl
theorem q1655 : (Jvm.Cond.fieldLinkNest "SharedTaxis$Search" (72 : Nat) "SharedTaxis$Walk" "minutes" "I" "SharedTaxis") ∈ lw_tbl := lw_at lw_m7 103 rfl
theorem q1662 : (Jvm.Cond.fieldLinkNest "SharedTaxis$Search" (80 : Nat) "SharedTaxis$Walk" "arrive" "I" "SharedTaxis") ∈ lw_tbl := lw_at lw_m7 110 rfl
theorem q1766 : (Jvm.Cond.instantiable "SharedTaxis$Search" (8 : Nat)) ∈ lw_all := lw_g (lw_at lw_m7 214 rfl) rfl
theorem q1768 : (Jvm.Cond.instanceMethod ({ cls := "SharedTaxis$Search", name := "<init>", desc := "(LSharedTaxis$State;)V" } : Jvm.MethodName)) ∈ lw_all := lw_g (lw_at lw_m7 216 rfl) rfl
theorem q1769 : (Jvm.Cond.code ({ cls := "SharedTaxis$Search", name := "<init>", desc := "(LSharedTaxis$State;)V" } : Jvm.MethodName) prog_11_method_1_code (2 : Nat) (Option.none : Option Jvm.ClassFile.FieldType)) ∈ lw_all := lw_g (lw_at lw_m7 217 rfl) rfl
theorem q1770 : (Jvm.Cond.methodLink "SharedTaxis$Search" (3 : Nat) ({ cls := "java/lang/Object", name := "<init>", desc := "()V" } : Jvm.MethodName)) ∈ lw_all := lw_g (lw_at lw_m7 218 rfl) rfl
theorem q1771 : (Jvm.Cond.classLink "SharedTaxis$Search" (9 : Nat) "java/util/ArrayList") ∈ lw_all := lw_g (lw_at lw_m7 219 rfl) rfl
theorem q1772 : (Jvm.Cond.methodLink "SharedTaxis$Search" (11 : Nat) ({ cls := "java/util/ArrayList", name := "<init>", desc := "()V" } : Jvm.MethodName)) ∈ lw_all := lw_g (lw_at lw_m7 220 rfl) rfl
theorem q1773 : (Jvm.Cond.classLink "SharedTaxis$Search" (22 : Nat) "SharedTaxis$Walk") ∈ lw_all := lw_g (lw_at lw_m7 221 rfl) rfl
theorem q1774 : (Jvm.Cond.methodLink "SharedTaxis$Search" (24 : Nat) ({ cls := "SharedTaxis$Walk", name := "<init>", desc := "(LSharedTaxis$State;)V" } : Jvm.MethodName)) ∈ lw_all := lw_g (lw_at lw_m7 222 rfl) rfl
theorem q1775 : (Jvm.Cond.fieldLink "SharedTaxis$Search" (18 : Nat) "SharedTaxis$Search" "state" "LSharedTaxis$State;") ∈ lw_all := lw_g (lw_at lw_m7 223 rfl) rfl
theorem q1776 : (Jvm.Cond.fieldLink "SharedTaxis$Search" (27 : Nat) "SharedTaxis$Search" "walk" "LSharedTaxis$Walk;") ∈ lw_all := lw_g (lw_at lw_m7 224 rfl) rfl
theorem q1777 : (Jvm.Cond.fieldLink "SharedTaxis$Search" (12 : Nat) "SharedTaxis$Search" "tried" "Ljava/util/List;") ∈ lw_all := lw_g (lw_at lw_m7 225 rfl) rfl
theorem q1779 : (Jvm.Cond.fieldLink "SharedTaxis$Search" (83 : Nat) "SharedTaxis$Search" "extra" "I") ∈ lw_all := lw_g (lw_at lw_m7 227 rfl) rfl
theorem q1782 : (Jvm.Cond.fieldLink "SharedTaxis$Search" (86 : Nat) "SharedTaxis$Search" "pickup" "I") ∈ lw_all := lw_g (lw_at lw_m7 230 rfl) rfl
theorem q1785 : (Jvm.Cond.fieldLink "SharedTaxis$Search" (116 : Nat) "SharedTaxis$Search" "drop" "I") ∈ lw_all := lw_g (lw_at lw_m7 233 rfl) rfl
theorem q1786 : (Jvm.Cond.fieldLink "SharedTaxis$Search" (106 : Nat) "SharedTaxis$Search" "first" "I") ∈ lw_all := lw_g (lw_at lw_m7 234 rfl) rfl
theorem q1787 : (Jvm.Cond.fieldLink "SharedTaxis$Search" (109 : Nat) "SharedTaxis$Search" "second" "I") ∈ lw_all := lw_g (lw_at lw_m7 235 rfl) rfl
theorem q1788 : (Jvm.Cond.laysFinal "SharedTaxis$Search" "SharedTaxis$Search" "state" "LSharedTaxis$State;") ∈ lw_all := lw_g (lw_at lw_m7 236 rfl) rfl
theorem q1789 : (Jvm.Cond.soleField "SharedTaxis$Search" "state") ∈ lw_all := lw_g (lw_at lw_m7 237 rfl) rfl
theorem q1790 : (Jvm.Cond.laysFinal "SharedTaxis$Search" "SharedTaxis$Search" "walk" "LSharedTaxis$Walk;") ∈ lw_all := lw_g (lw_at lw_m7 238 rfl) rfl
theorem q1791 : (Jvm.Cond.soleField "SharedTaxis$Search" "walk") ∈ lw_all := lw_g (lw_at lw_m7 239 rfl) rfl
theorem q1792 : (Jvm.Cond.laysFinal "SharedTaxis$Search" "SharedTaxis$Search" "tried" "Ljava/util/List;") ∈ lw_all := lw_g (lw_at lw_m8 0 rfl) rfl
theorem q1793 : (Jvm.Cond.soleField "SharedTaxis$Search" "tried") ∈ lw_all := lw_g (lw_at lw_m8 1 rfl) rfl
theorem q1794 : (Jvm.Cond.lays "SharedTaxis$Search" "SharedTaxis$Search" "extra" "I") ∈ lw_all := lw_g (lw_at lw_m8 2 rfl) rfl
theorem q1795 : (Jvm.Cond.soleField "SharedTaxis$Search" "extra") ∈ lw_all := lw_g (lw_at lw_m8 3 rfl) rfl
theorem q1796 : (Jvm.Cond.lays "SharedTaxis$Search" "SharedTaxis$Search" "pickup" "I") ∈ lw_all := lw_g (lw_at lw_m8 4 rfl) rfl
theorem q1797 : (Jvm.Cond.soleField "SharedTaxis$Search" "pickup") ∈ lw_all := lw_g (lw_at lw_m8 5 rfl) rfl
theorem q1798 : (Jvm.Cond.lays "SharedTaxis$Search" "SharedTaxis$Search" "drop" "I") ∈ lw_all := lw_g (lw_at lw_m8 6 rfl) rfl
theorem q1799 : (Jvm.Cond.soleField "SharedTaxis$Search" "drop") ∈ lw_all := lw_g (lw_at lw_m8 7 rfl) rfl
theorem q1800 : (Jvm.Cond.lays "SharedTaxis$Search" "SharedTaxis$Search" "first" "I") ∈ lw_all := lw_g (lw_at lw_m8 8 rfl) rfl
theorem q1801 : (Jvm.Cond.soleField "SharedTaxis$Search" "first") ∈ lw_all := lw_g (lw_at lw_m8 9 rfl) rfl
theorem q1802 : (Jvm.Cond.lays "SharedTaxis$Search" "SharedTaxis$Search" "second" "I") ∈ lw_all := lw_g (lw_at lw_m8 10 rfl) rfl
theorem q1803 : (Jvm.Cond.soleField "SharedTaxis$Search" "second") ∈ lw_all := lw_g (lw_at lw_m8 11 rfl) rfl
theorem q1804 : (Jvm.Cond.superclass "SharedTaxis$Search" "java/lang/Object") ∈ lw_all := lw_g (lw_at lw_m8 12 rfl) rfl
theorem q1806 : (Jvm.Cond.instanceMethod ({ cls := "SharedTaxis$Search", name := "find", desc := "(LSharedTaxis$Taxi;I)Z" } : Jvm.MethodName)) ∈ lw_all := lw_g (lw_at lw_m8 14 rfl) rfl
theorem q1807 : (Jvm.Cond.selects "SharedTaxis$Search" ({ cls := "SharedTaxis$Search", name := "find", desc := "(LSharedTaxis$Taxi;I)Z" } : Jvm.MethodName) ({ cls := "SharedTaxis$Search", name := "find", desc := "(LSharedTaxis$Taxi;I)Z" } : Jvm.MethodName)) ∈ lw_all := lw_g (lw_at lw_m8 15 rfl) rfl
theorem q1808 : (Jvm.Cond.code ({ cls := "SharedTaxis$Search", name := "find", desc := "(LSharedTaxis$Taxi;I)Z" } : Jvm.MethodName) prog_11_method_6_code (9 : Nat) (Option.some Jvm.ClassFile.FieldType.boolean)) ∈ lw_all := lw_g (lw_at lw_m8 16 rfl) rfl
theorem q1809 : (Jvm.Cond.interfaceEntry "SharedTaxis$Search" (41 : Nat)) ∈ lw_tbl := lw_at lw_m8 17 rfl
theorem q1810 : (Jvm.Cond.methodLink "SharedTaxis$Search" (41 : Nat) ({ cls := "java/util/List", name := "size", desc := "()I" } : Jvm.MethodName)) ∈ lw_all := lw_g (lw_at lw_m8 18 rfl) rfl
theorem q1811 : (Jvm.Cond.classLink "SharedTaxis$Search" (53 : Nat) "SharedTaxis$Stop") ∈ lw_all := lw_g (lw_at lw_m8 19 rfl) rfl
theorem q1813 : (Jvm.Cond.methodLink "SharedTaxis$Search" (89 : Nat) ({ cls := "SharedTaxis$Stop", name := "<init>", desc := "(IZ)V" } : Jvm.MethodName)) ∈ lw_all := lw_g (lw_at lw_m8 21 rfl) rfl
theorem q1833 : (Jvm.Cond.methodLink "SharedTaxis$Search" (58 : Nat) ({ cls := "SharedTaxis$Walk", name := "begin", desc := "(LSharedTaxis$Taxi;Ljava/util/List;)LSharedTaxis$Walk;" } : Jvm.MethodName)) ∈ lw_all := lw_g (lw_at lw_m8 41 rfl) rfl
theorem q1834 : (Jvm.Cond.methodLink "SharedTaxis$Search" (92 : Nat) ({ cls := "SharedTaxis$Walk", name := "minutesInAll", desc := "()I" } : Jvm.MethodName)) ∈ lw_all := lw_g (lw_at lw_m8 42 rfl) rfl
theorem q1843 : (Jvm.Cond.methodLink "SharedTaxis$Search" (98 : Nat) ({ cls := "SharedTaxis$Search", name := "lay", desc := "(LSharedTaxis$Taxi;LSharedTaxis$Stop;LSharedTaxis$Stop;II)V" } : Jvm.MethodName)) ∈ lw_all := lw_g (lw_at lw_m8 51 rfl) rfl
theorem q1844 : (Jvm.Cond.privateMethod ({ cls := "SharedTaxis$Search", name := "lay", desc := "(LSharedTaxis$Taxi;LSharedTaxis$Stop;LSharedTaxis$Stop;II)V" } : Jvm.MethodName)) ∈ lw_tbl := lw_at lw_m8 52 rfl
theorem q1845 : (Jvm.Cond.instanceMethod ({ cls := "SharedTaxis$Search", name := "lay", desc := "(LSharedTaxis$Taxi;LSharedTaxis$Stop;LSharedTaxis$Stop;II)V" } : Jvm.MethodName)) ∈ lw_all := lw_g (lw_at lw_m8 53 rfl) rfl
theorem q1846 : (Jvm.Cond.code ({ cls := "SharedTaxis$Search", name := "lay", desc := "(LSharedTaxis$Taxi;LSharedTaxis$Stop;LSharedTaxis$Stop;II)V" } : Jvm.MethodName) prog_11_method_2_code (7 : Nat) (Option.none : Option Jvm.ClassFile.FieldType)) ∈ lw_all := lw_g (lw_at lw_m8 54 rfl) rfl
theorem q1847 : (Jvm.Cond.interfaceEntry "SharedTaxis$Search" (31 : Nat)) ∈ lw_tbl := lw_at lw_m8 55 rfl
theorem q1848 : (Jvm.Cond.methodLink "SharedTaxis$Search" (31 : Nat) ({ cls := "java/util/List", name := "clear", desc := "()V" } : Jvm.MethodName)) ∈ lw_all := lw_g (lw_at lw_m8 56 rfl) rfl
theorem q1856 : (Jvm.Cond.methodLink "SharedTaxis$Search" (45 : Nat) ({ cls := "SharedTaxis$Search", name := "add", desc := "(LSharedTaxis$Stop;I)V" } : Jvm.MethodName)) ∈ lw_all := lw_g (lw_at lw_m8 64 rfl) rfl
theorem q1857 : (Jvm.Cond.privateMethod ({ cls := "SharedTaxis$Search", name := "add", desc := "(LSharedTaxis$Stop;I)V" } : Jvm.MethodName)) ∈ lw_tbl := lw_at lw_m8 65 rfl
theorem q1858 : (Jvm.Cond.instanceMethod ({ cls := "SharedTaxis$Search", name := "add", desc := "(LSharedTaxis$Stop;I)V" } : Jvm.MethodName)) ∈ lw_all := lw_g (lw_at lw_m8 66 rfl) rfl
theorem q1859 : (Jvm.Cond.code ({ cls := "SharedTaxis$Search", name := "add", desc := "(LSharedTaxis$Stop;I)V" } : Jvm.MethodName) prog_11_method_3_code (3 : Nat) (Option.none : Option Jvm.ClassFile.FieldType)) ∈ lw_all := lw_g (lw_at lw_m8 67 rfl) rfl
theorem q1860 : (Jvm.Cond.interfaceEntry "SharedTaxis$Search" (55 : Nat)) ∈ lw_tbl := lw_at lw_m8 68 rfl
theorem q1861 : (Jvm.Cond.methodLink "SharedTaxis$Search" (55 : Nat) ({ cls := "java/util/List", name := "add", desc := "(Ljava/lang/Object;)Z" } : Jvm.MethodName)) ∈ lw_all := lw_g (lw_at lw_m8 69 rfl) rfl
theorem q1862 : (Jvm.Cond.interfaceEntry "SharedTaxis$Search" (49 : Nat)) ∈ lw_tbl := lw_at lw_m8 70 rfl
theorem q1863 : (Jvm.Cond.methodLink "SharedTaxis$Search" (49 : Nat) ({ cls := "java/util/List", name := "get", desc := "(I)Ljava/lang/Object;" } : Jvm.MethodName)) ∈ lw_all := lw_g (lw_at lw_m8 71 rfl) rfl
theorem q1864 : (Jvm.Cond.methodLink "SharedTaxis$Search" (102 : Nat) ({ cls := "SharedTaxis$Search", name := "isBetter", desc := "(LSharedTaxis$Taxi;LSharedTaxis$Stop;I)Z" } : Jvm.MethodName)) ∈ lw_all := lw_g (lw_at lw_m8 72 rfl) rfl
theorem q1865 : (Jvm.Cond.privateMethod ({ cls := "SharedTaxis$Search", name := "isBetter", desc := "(LSharedTaxis$Taxi;LSharedTaxis$Stop;I)Z" } : Jvm.MethodName)) ∈ lw_tbl := lw_at lw_m8 73 rfl
theorem q1866 : (Jvm.Cond.instanceMethod ({ cls := "SharedTaxis$Search", name := "isBetter", desc := "(LSharedTaxis$Taxi;LSharedTaxis$Stop;I)Z" } : Jvm.MethodName)) ∈ lw_all := lw_g (lw_at lw_m8 74 rfl) rfl
theorem q1867 : (Jvm.Cond.code ({ cls := "SharedTaxis$Search", name := "isBetter", desc := "(LSharedTaxis$Taxi;LSharedTaxis$Stop;I)Z" } : Jvm.MethodName) prog_11_method_4_code (7 : Nat) (Option.some Jvm.ClassFile.FieldType.boolean)) ∈ lw_all := lw_g (lw_at lw_m8 75 rfl) rfl
theorem q1868 : (Jvm.Cond.methodLink "SharedTaxis$Search" (62 : Nat) ({ cls := "SharedTaxis$Walk", name := "keeps", desc := "()Z" } : Jvm.MethodName)) ∈ lw_all := lw_g (lw_at lw_m8 76 rfl) rfl
theorem q1886 : (Jvm.Cond.methodLink "SharedTaxis$Search" (66 : Nat) ({ cls := "SharedTaxis$Walk", name := "goesOn", desc := "()Z" } : Jvm.MethodName)) ∈ lw_all := lw_g (lw_at lw_m8 94 rfl) rfl
theorem q1887 : (Jvm.Cond.methodLink "SharedTaxis$Search" (69 : Nat) ({ cls := "SharedTaxis$Walk", name := "next", desc := "()V" } : Jvm.MethodName)) ∈ lw_all := lw_g (lw_at lw_m8 95 rfl) rfl
theorem q1888 : (Jvm.Cond.methodLink "SharedTaxis$Search" (112 : Nat) ({ cls := "SharedTaxis$Search", name := "arrival", desc := "(LSharedTaxis$Taxi;LSharedTaxis$Stop;)I" } : Jvm.MethodName)) ∈ lw_all := lw_g (lw_at lw_m8 96 rfl) rfl
theorem q1889 : (Jvm.Cond.privateMethod ({ cls := "SharedTaxis$Search", name := "arrival", desc := "(LSharedTaxis$Taxi;LSharedTaxis$Stop;)I" } : Jvm.MethodName)) ∈ lw_tbl := lw_at lw_m8 97 rfl
theorem q1890 : (Jvm.Cond.instanceMethod ({ cls := "SharedTaxis$Search", name := "arrival", desc := "(LSharedTaxis$Taxi;LSharedTaxis$Stop;)I" } : Jvm.MethodName)) ∈ lw_all := lw_g (lw_at lw_m8 98 rfl) rfl
theorem q1891 : (Jvm.Cond.code ({ cls := "SharedTaxis$Search", name := "arrival", desc := "(LSharedTaxis$Taxi;LSharedTaxis$Stop;)I" } : Jvm.MethodName) prog_11_method_5_code (3 : Nat) (Option.some Jvm.ClassFile.FieldType.int)) ∈ lw_all := lw_g (lw_at lw_m8 99 rfl) rfl
theorem q1967 : (Jvm.Cond.selects "SharedTaxis$Search" ({ cls := "java/lang/Object", name := "equals", desc := "(Ljava/lang/Object;)Z" } : Jvm.MethodName) ({ cls := "java/lang/Object", name := "equals", desc := "(Ljava/lang/Object;)Z" } : Jvm.MethodName)) ∈ lw_all := lw_g (lw_at lw_m8 175 rfl) rfl
theorem q2084 : (Jvm.Cond.instanceMethod ({ cls := "SharedTaxis$Search", name := "offer", desc := "(I)LSharedTaxis$Offer;" } : Jvm.MethodName)) ∈ lw_all := lw_g (lw_at lw_m9 52 rfl) rfl
theorem q2085 : (Jvm.Cond.selects "SharedTaxis$Search" ({ cls := "SharedTaxis$Search", name := "offer", desc := "(I)LSharedTaxis$Offer;" } : Jvm.MethodName) ({ cls := "SharedTaxis$Search", name := "offer", desc := "(I)LSharedTaxis$Offer;" } : Jvm.MethodName)) ∈ lw_all := lw_g (lw_at lw_m9 53 rfl) rfl
theorem q2086 : (Jvm.Cond.code ({ cls := "SharedTaxis$Search", name := "offer", desc := "(I)LSharedTaxis$Offer;" } : Jvm.MethodName) prog_11_method_8_code (4 : Nat) (Option.some (Jvm.ClassFile.FieldType.object "SharedTaxis$Offer"))) ∈ lw_all := lw_g (lw_at lw_m9 54 rfl) rfl
theorem q2087 : (Jvm.Cond.classLink "SharedTaxis$Search" (37 : Nat) "SharedTaxis$Taxi") ∈ lw_all := lw_g (lw_at lw_m9 55 rfl) rfl
theorem q2088 : (Jvm.Cond.methodLink "SharedTaxis$Search" (127 : Nat) ({ cls := "SharedTaxis$Search", name := "find", desc := "(LSharedTaxis$Taxi;I)Z" } : Jvm.MethodName)) ∈ lw_all := lw_g (lw_at lw_m9 56 rfl) rfl
theorem q2089 : (Jvm.Cond.classLink "SharedTaxis$Search" (132 : Nat) "SharedTaxis$Offer") ∈ lw_all := lw_g (lw_at lw_m9 57 rfl) rfl
theorem q2091 : (Jvm.Cond.methodLink "SharedTaxis$Search" (142 : Nat) ({ cls := "SharedTaxis$Offer", name := "<init>", desc := "(ILSharedTaxis$Search;I)V" } : Jvm.MethodName)) ∈ lw_all := lw_g (lw_at lw_m9 59 rfl) rfl
theorem q2098 : (Jvm.Cond.fieldLinkNest "SharedTaxis$Search" (131 : Nat) "SharedTaxis$Offer" "extra" "I" "SharedTaxis") ∈ lw_tbl := lw_at lw_m9 66 rfl
theorem q2100 : (Jvm.Cond.fieldLinkNest "SharedTaxis$Search" (134 : Nat) "SharedTaxis$Offer" "pickup" "I" "SharedTaxis") ∈ lw_tbl := lw_at lw_m9 68 rfl
theorem q2123 : (Jvm.Cond.instanceMethod ({ cls := "SharedTaxis$Search", name := "insert", desc := "(LSharedTaxis$Taxi;I)V" } : Jvm.MethodName)) ∈ lw_all := lw_g (lw_at lw_m9 91 rfl) rfl
theorem q2124 : (Jvm.Cond.selects "SharedTaxis$Search" ({ cls := "SharedTaxis$Search", name := "insert", desc := "(LSharedTaxis$Taxi;I)V" } : Jvm.MethodName) ({ cls := "SharedTaxis$Search", name := "insert", desc := "(LSharedTaxis$Taxi;I)V" } : Jvm.MethodName)) ∈ lw_all := lw_g (lw_at lw_m9 92 rfl) rfl
theorem q2125 : (Jvm.Cond.code ({ cls := "SharedTaxis$Search", name := "insert", desc := "(LSharedTaxis$Taxi;I)V" } : Jvm.MethodName) prog_11_method_7_code (3 : Nat) (Option.none : Option Jvm.ClassFile.FieldType)) ∈ lw_all := lw_g (lw_at lw_m9 93 rfl) rfl
theorem q2126 : (Jvm.Cond.interfaceEntry "SharedTaxis$Search" (119 : Nat)) ∈ lw_tbl := lw_at lw_m9 94 rfl
theorem q2127 : (Jvm.Cond.methodLink "SharedTaxis$Search" (119 : Nat) ({ cls := "java/util/List", name := "add", desc := "(ILjava/lang/Object;)V" } : Jvm.MethodName)) ∈ lw_all := lw_g (lw_at lw_m9 95 rfl) rfl
theorem q3372 : (Jvm.Cond.castable "SharedTaxis$Search" "java/lang/Object") ∈ lw_tbl := lw_at lw_m14 140 rfl
theorem q151 : (Jvm.Cond.initialized "SharedTaxis$Stop") ∈ lw_all := lw_g (lw_at lw_m1 39 rfl) rfl
theorem q1040 : (Jvm.Cond.selects "SharedTaxis$Stop" ({ cls := "java/lang/Object", name := "getClass", desc := "()Ljava/lang/Class;" } : Jvm.MethodName) ({ cls := "java/lang/Object", name := "getClass", desc := "()Ljava/lang/Class;" } : Jvm.MethodName)) ∈ lw_all := lw_g (lw_at lw_m4 208 rfl) rfl
theorem q1812 : (Jvm.Cond.instantiable "SharedTaxis$Stop" (2 : Nat)) ∈ lw_all := lw_g (lw_at lw_m8 20 rfl) rfl
theorem q1814 : (Jvm.Cond.instanceMethod ({ cls := "SharedTaxis$Stop", name := "<init>", desc := "(IZ)V" } : Jvm.MethodName)) ∈ lw_all := lw_g (lw_at lw_m8 22 rfl) rfl
theorem q1815 : (Jvm.Cond.code ({ cls := "SharedTaxis$Stop", name := "<init>", desc := "(IZ)V" } : Jvm.MethodName) prog_13_method_1_code (3 : Nat) (Option.none : Option Jvm.ClassFile.FieldType)) ∈ lw_all := lw_g (lw_at lw_m8 23 rfl) rfl
theorem q1816 : (Jvm.Cond.methodLink "SharedTaxis$Stop" (1 : Nat) ({ cls := "java/lang/Object", name := "<init>", desc := "()V" } : Jvm.MethodName)) ∈ lw_all := lw_g (lw_at lw_m8 24 rfl) rfl
theorem q1817 : (Jvm.Cond.fieldLink "SharedTaxis$Stop" (7 : Nat) "SharedTaxis$Stop" "ride" "I") ∈ lw_all := lw_g (lw_at lw_m8 25 rfl) rfl
theorem q1822 : (Jvm.Cond.fieldLink "SharedTaxis$Stop" (13 : Nat) "SharedTaxis$Stop" "pickup" "Z") ∈ lw_all := lw_g (lw_at lw_m8 30 rfl) rfl
theorem q1828 : (Jvm.Cond.laysFinal "SharedTaxis$Stop" "SharedTaxis$Stop" "ride" "I") ∈ lw_all := lw_g (lw_at lw_m8 36 rfl) rfl
theorem q1829 : (Jvm.Cond.soleField "SharedTaxis$Stop" "ride") ∈ lw_all := lw_g (lw_at lw_m8 37 rfl) rfl
theorem q1830 : (Jvm.Cond.laysFinal "SharedTaxis$Stop" "SharedTaxis$Stop" "pickup" "Z") ∈ lw_all := lw_g (lw_at lw_m8 38 rfl) rfl
theorem q1831 : (Jvm.Cond.soleField "SharedTaxis$Stop" "pickup") ∈ lw_all := lw_g (lw_at lw_m8 39 rfl) rfl
theorem q1832 : (Jvm.Cond.superclass "SharedTaxis$Stop" "java/lang/Object") ∈ lw_all := lw_g (lw_at lw_m8 40 rfl) rfl
theorem q1969 : (Jvm.Cond.selects "SharedTaxis$Stop" ({ cls := "java/lang/Object", name := "equals", desc := "(Ljava/lang/Object;)Z" } : Jvm.MethodName) ({ cls := "java/lang/Object", name := "equals", desc := "(Ljava/lang/Object;)Z" } : Jvm.MethodName)) ∈ lw_all := lw_g (lw_at lw_m8 177 rfl) rfl
theorem q3373 : (Jvm.Cond.castable "SharedTaxis$Stop" "java/lang/Object") ∈ lw_tbl := lw_at lw_m14 141 rfl
theorem q153 : (Jvm.Cond.initialized "SharedTaxis$Ride") ∈ lw_all := lw_g (lw_at lw_m1 41 rfl) rfl
theorem q1036 : (Jvm.Cond.selects "SharedTaxis$Ride" ({ cls := "java/lang/Object", name := "getClass", desc := "()Ljava/lang/Class;" } : Jvm.MethodName) ({ cls := "java/lang/Object", name := "getClass", desc := "()Ljava/lang/Class;" } : Jvm.MethodName)) ∈ lw_all := lw_g (lw_at lw_m4 204 rfl) rfl
theorem q1093 : (Jvm.Cond.instanceMethod ({ cls := "SharedTaxis$Ride", name := "copy", desc := "()LSharedTaxis$Ride;" } : Jvm.MethodName)) ∈ lw_all := lw_g (lw_at lw_m5 21 rfl) rfl
theorem q1094 : (Jvm.Cond.selects "SharedTaxis$Ride" ({ cls := "SharedTaxis$Ride", name := "copy", desc := "()LSharedTaxis$Ride;" } : Jvm.MethodName) ({ cls := "SharedTaxis$Ride", name := "copy", desc := "()LSharedTaxis$Ride;" } : Jvm.MethodName)) ∈ lw_all := lw_g (lw_at lw_m5 22 rfl) rfl
theorem q1095 : (Jvm.Cond.code ({ cls := "SharedTaxis$Ride", name := "copy", desc := "()LSharedTaxis$Ride;" } : Jvm.MethodName) prog_9_method_3_code (1 : Nat) (Option.some (Jvm.ClassFile.FieldType.object "SharedTaxis$Ride"))) ∈ lw_all := lw_g (lw_at lw_m5 23 rfl) rfl
theorem q1096 : (Jvm.Cond.classLink "SharedTaxis$Ride" (10 : Nat) "SharedTaxis$Ride") ∈ lw_all := lw_g (lw_at lw_m5 24 rfl) rfl
theorem q1097 : (Jvm.Cond.instantiable "SharedTaxis$Ride" (15 : Nat)) ∈ lw_all := lw_g (lw_at lw_m5 25 rfl) rfl
theorem q1098 : (Jvm.Cond.methodLink "SharedTaxis$Ride" (62 : Nat) ({ cls := "SharedTaxis$Ride", name := "<init>", desc := "(LSharedTaxis$Ride;)V" } : Jvm.MethodName)) ∈ lw_all := lw_g (lw_at lw_m5 26 rfl) rfl
theorem q1099 : (Jvm.Cond.instanceMethod ({ cls := "SharedTaxis$Ride", name := "<init>", desc := "(LSharedTaxis$Ride;)V" } : Jvm.MethodName)) ∈ lw_all := lw_g (lw_at lw_m5 27 rfl) rfl
theorem q1100 : (Jvm.Cond.code ({ cls := "SharedTaxis$Ride", name := "<init>", desc := "(LSharedTaxis$Ride;)V" } : Jvm.MethodName) prog_9_method_2_code (2 : Nat) (Option.none : Option Jvm.ClassFile.FieldType)) ∈ lw_all := lw_g (lw_at lw_m5 28 rfl) rfl
theorem q1101 : (Jvm.Cond.methodLink "SharedTaxis$Ride" (45 : Nat) ({ cls := "SharedTaxis$Ride", name := "<init>", desc := "(IIIIIIII)V" } : Jvm.MethodName)) ∈ lw_all := lw_g (lw_at lw_m5 29 rfl) rfl
theorem q1102 : (Jvm.Cond.instanceMethod ({ cls := "SharedTaxis$Ride", name := "<init>", desc := "(IIIIIIII)V" } : Jvm.MethodName)) ∈ lw_all := lw_g (lw_at lw_m5 30 rfl) rfl
theorem q1103 : (Jvm.Cond.code ({ cls := "SharedTaxis$Ride", name := "<init>", desc := "(IIIIIIII)V" } : Jvm.MethodName) prog_9_method_1_code (9 : Nat) (Option.none : Option Jvm.ClassFile.FieldType)) ∈ lw_all := lw_g (lw_at lw_m5 31 rfl) rfl
theorem q1104 : (Jvm.Cond.methodLink "SharedTaxis$Ride" (3 : Nat) ({ cls := "java/lang/Object", name := "<init>", desc := "()V" } : Jvm.MethodName)) ∈ lw_all := lw_g (lw_at lw_m5 32 rfl) rfl
theorem q1105 : (Jvm.Cond.fieldLink "SharedTaxis$Ride" (21 : Nat) "SharedTaxis$Ride" "number" "I") ∈ lw_all := lw_g (lw_at lw_m5 33 rfl) rfl
theorem q1107 : (Jvm.Cond.fieldLink "SharedTaxis$Ride" (24 : Nat) "SharedTaxis$Ride" "from" "I") ∈ lw_all := lw_g (lw_at lw_m5 35 rfl) rfl
theorem q1111 : (Jvm.Cond.fieldLink "SharedTaxis$Ride" (27 : Nat) "SharedTaxis$Ride" "to" "I") ∈ lw_all := lw_g (lw_at lw_m5 39 rfl) rfl
theorem q1115 : (Jvm.Cond.fieldLink "SharedTaxis$Ride" (30 : Nat) "SharedTaxis$Ride" "persons" "I") ∈ lw_all := lw_g (lw_at lw_m5 43 rfl) rfl
theorem q1119 : (Jvm.Cond.fieldLink "SharedTaxis$Ride" (33 : Nat) "SharedTaxis$Ride" "ready" "I") ∈ lw_all := lw_g (lw_at lw_m5 47 rfl) rfl
theorem q1122 : (Jvm.Cond.fieldLink "SharedTaxis$Ride" (36 : Nat) "SharedTaxis$Ride" "latest" "I") ∈ lw_all := lw_g (lw_at lw_m5 50 rfl) rfl
theorem q1125 : (Jvm.Cond.fieldLink "SharedTaxis$Ride" (39 : Nat) "SharedTaxis$Ride" "detour" "I") ∈ lw_all := lw_g (lw_at lw_m5 53 rfl) rfl
theorem q1127 : (Jvm.Cond.fieldLink "SharedTaxis$Ride" (42 : Nat) "SharedTaxis$Ride" "direct" "I") ∈ lw_all := lw_g (lw_at lw_m5 55 rfl) rfl
theorem q1129 : (Jvm.Cond.fieldLink "SharedTaxis$Ride" (48 : Nat) "SharedTaxis$Ride" "state" "I") ∈ lw_all := lw_g (lw_at lw_m5 57 rfl) rfl
theorem q1133 : (Jvm.Cond.fieldLink "SharedTaxis$Ride" (9 : Nat) "SharedTaxis$Ride" "taxi" "I") ∈ lw_all := lw_g (lw_at lw_m5 61 rfl) rfl
theorem q1135 : (Jvm.Cond.fieldLink "SharedTaxis$Ride" (15 : Nat) "SharedTaxis$Ride" "boarded" "I") ∈ lw_all := lw_g (lw_at lw_m5 63 rfl) rfl
theorem q1139 : (Jvm.Cond.fieldLink "SharedTaxis$Ride" (18 : Nat) "SharedTaxis$Ride" "dropped" "I") ∈ lw_all := lw_g (lw_at lw_m5 67 rfl) rfl
theorem q1143 : (Jvm.Cond.fieldLink "SharedTaxis$Ride" (51 : Nat) "SharedTaxis$Ride" "paid" "I") ∈ lw_all := lw_g (lw_at lw_m5 71 rfl) rfl
theorem q1145 : (Jvm.Cond.fieldLink "SharedTaxis$Ride" (54 : Nat) "SharedTaxis$Ride" "absent" "Z") ∈ lw_all := lw_g (lw_at lw_m5 73 rfl) rfl
theorem q1149 : (Jvm.Cond.fieldLink "SharedTaxis$Ride" (58 : Nat) "SharedTaxis$Ride" "offer" "LSharedTaxis$Offer;") ∈ lw_all := lw_g (lw_at lw_m5 77 rfl) rfl
theorem q1152 : (Jvm.Cond.laysFinal "SharedTaxis$Ride" "SharedTaxis$Ride" "number" "I") ∈ lw_all := lw_g (lw_at lw_m5 80 rfl) rfl
theorem q1153 : (Jvm.Cond.soleField "SharedTaxis$Ride" "number") ∈ lw_all := lw_g (lw_at lw_m5 81 rfl) rfl
theorem q1154 : (Jvm.Cond.laysFinal "SharedTaxis$Ride" "SharedTaxis$Ride" "from" "I") ∈ lw_all := lw_g (lw_at lw_m5 82 rfl) rfl
theorem q1155 : (Jvm.Cond.soleField "SharedTaxis$Ride" "from") ∈ lw_all := lw_g (lw_at lw_m5 83 rfl) rfl
theorem q1156 : (Jvm.Cond.laysFinal "SharedTaxis$Ride" "SharedTaxis$Ride" "to" "I") ∈ lw_all := lw_g (lw_at lw_m5 84 rfl) rfl
theorem q1157 : (Jvm.Cond.soleField "SharedTaxis$Ride" "to") ∈ lw_all := lw_g (lw_at lw_m5 85 rfl) rfl
theorem q1158 : (Jvm.Cond.laysFinal "SharedTaxis$Ride" "SharedTaxis$Ride" "persons" "I") ∈ lw_all := lw_g (lw_at lw_m5 86 rfl) rfl
theorem q1159 : (Jvm.Cond.soleField "SharedTaxis$Ride" "persons") ∈ lw_all := lw_g (lw_at lw_m5 87 rfl) rfl
theorem q1160 : (Jvm.Cond.laysFinal "SharedTaxis$Ride" "SharedTaxis$Ride" "ready" "I") ∈ lw_all := lw_g (lw_at lw_m5 88 rfl) rfl
theorem q1161 : (Jvm.Cond.soleField "SharedTaxis$Ride" "ready") ∈ lw_all := lw_g (lw_at lw_m5 89 rfl) rfl
theorem q1162 : (Jvm.Cond.laysFinal "SharedTaxis$Ride" "SharedTaxis$Ride" "latest" "I") ∈ lw_all := lw_g (lw_at lw_m5 90 rfl) rfl
theorem q1163 : (Jvm.Cond.soleField "SharedTaxis$Ride" "latest") ∈ lw_all := lw_g (lw_at lw_m5 91 rfl) rfl
theorem q1164 : (Jvm.Cond.laysFinal "SharedTaxis$Ride" "SharedTaxis$Ride" "detour" "I") ∈ lw_all := lw_g (lw_at lw_m5 92 rfl) rfl
theorem q1165 : (Jvm.Cond.soleField "SharedTaxis$Ride" "detour") ∈ lw_all := lw_g (lw_at lw_m5 93 rfl) rfl
theorem q1166 : (Jvm.Cond.laysFinal "SharedTaxis$Ride" "SharedTaxis$Ride" "direct" "I") ∈ lw_all := lw_g (lw_at lw_m5 94 rfl) rfl
theorem q1167 : (Jvm.Cond.soleField "SharedTaxis$Ride" "direct") ∈ lw_all := lw_g (lw_at lw_m5 95 rfl) rfl
theorem q1168 : (Jvm.Cond.lays "SharedTaxis$Ride" "SharedTaxis$Ride" "state" "I") ∈ lw_all := lw_g (lw_at lw_m5 96 rfl) rfl
theorem q1169 : (Jvm.Cond.soleField "SharedTaxis$Ride" "state") ∈ lw_all := lw_g (lw_at lw_m5 97 rfl) rfl
theorem q1170 : (Jvm.Cond.lays "SharedTaxis$Ride" "SharedTaxis$Ride" "taxi" "I") ∈ lw_all := lw_g (lw_at lw_m5 98 rfl) rfl
theorem q1171 : (Jvm.Cond.soleField "SharedTaxis$Ride" "taxi") ∈ lw_all := lw_g (lw_at lw_m5 99 rfl) rfl
theorem q1172 : (Jvm.Cond.lays "SharedTaxis$Ride" "SharedTaxis$Ride" "boarded" "I") ∈ lw_all := lw_g (lw_at lw_m5 100 rfl) rfl
theorem q1173 : (Jvm.Cond.soleField "SharedTaxis$Ride" "boarded") ∈ lw_all := lw_g (lw_at lw_m5 101 rfl) rfl
theorem q1174 : (Jvm.Cond.lays "SharedTaxis$Ride" "SharedTaxis$Ride" "dropped" "I") ∈ lw_all := lw_g (lw_at lw_m5 102 rfl) rfl
theorem q1175 : (Jvm.Cond.soleField "SharedTaxis$Ride" "dropped") ∈ lw_all := lw_g (lw_at lw_m5 103 rfl) rfl
theorem q1176 : (Jvm.Cond.lays "SharedTaxis$Ride" "SharedTaxis$Ride" "paid" "I") ∈ lw_all := lw_g (lw_at lw_m5 104 rfl) rfl
theorem q1177 : (Jvm.Cond.soleField "SharedTaxis$Ride" "paid") ∈ lw_all := lw_g (lw_at lw_m5 105 rfl) rfl
theorem q1178 : (Jvm.Cond.lays "SharedTaxis$Ride" "SharedTaxis$Ride" "absent" "Z") ∈ lw_all := lw_g (lw_at lw_m5 106 rfl) rfl
theorem q1179 : (Jvm.Cond.soleField "SharedTaxis$Ride" "absent") ∈ lw_all := lw_g (lw_at lw_m5 107 rfl) rfl
theorem q1180 : (Jvm.Cond.lays "SharedTaxis$Ride" "SharedTaxis$Ride" "offer" "LSharedTaxis$Offer;") ∈ lw_all := lw_g (lw_at lw_m5 108 rfl) rfl
theorem q1181 : (Jvm.Cond.soleField "SharedTaxis$Ride" "offer") ∈ lw_all := lw_g (lw_at lw_m5 109 rfl) rfl
theorem q1182 : (Jvm.Cond.superclass "SharedTaxis$Ride" "java/lang/Object") ∈ lw_all := lw_g (lw_at lw_m5 110 rfl) rfl
theorem q1743 : (Jvm.Cond.instanceMethod ({ cls := "SharedTaxis$Ride", name := "most", desc := "()I" } : Jvm.MethodName)) ∈ lw_all := lw_g (lw_at lw_m7 191 rfl) rfl
theorem q1744 : (Jvm.Cond.selects "SharedTaxis$Ride" ({ cls := "SharedTaxis$Ride", name := "most", desc := "()I" } : Jvm.MethodName) ({ cls := "SharedTaxis$Ride", name := "most", desc := "()I" } : Jvm.MethodName)) ∈ lw_all := lw_g (lw_at lw_m7 192 rfl) rfl
theorem q1745 : (Jvm.Cond.code ({ cls := "SharedTaxis$Ride", name := "most", desc := "()I" } : Jvm.MethodName) prog_9_method_4_code (1 : Nat) (Option.some Jvm.ClassFile.FieldType.int)) ∈ lw_all := lw_g (lw_at lw_m7 193 rfl) rfl
theorem q1965 : (Jvm.Cond.selects "SharedTaxis$Ride" ({ cls := "java/lang/Object", name := "equals", desc := "(Ljava/lang/Object;)Z" } : Jvm.MethodName) ({ cls := "java/lang/Object", name := "equals", desc := "(Ljava/lang/Object;)Z" } : Jvm.MethodName)) ∈ lw_all := lw_g (lw_at lw_m8 173 rfl) rfl
theorem q3375 : (Jvm.Cond.castable "SharedTaxis$Ride" "java/lang/Object") ∈ lw_tbl := lw_at lw_m14 143 rfl
theorem q154 : (Jvm.Cond.initialized "SharedTaxis$Offer") ∈ lw_all := lw_g (lw_at lw_m1 42 rfl) rfl
theorem q1031 : (Jvm.Cond.selects "SharedTaxis$Offer" ({ cls := "java/lang/Object", name := "getClass", desc := "()Ljava/lang/Class;" } : Jvm.MethodName) ({ cls := "java/lang/Object", name := "getClass", desc := "()Ljava/lang/Class;" } : Jvm.MethodName)) ∈ lw_all := lw_g (lw_at lw_m4 199 rfl) rfl
theorem q1755 : (Jvm.Cond.instanceMethod ({ cls := "SharedTaxis$Offer", name := "part", desc := "(I)I" } : Jvm.MethodName)) ∈ lw_all := lw_g (lw_at lw_m7 203 rfl) rfl
theorem q1756 : (Jvm.Cond.selects "SharedTaxis$Offer" ({ cls := "SharedTaxis$Offer", name := "part", desc := "(I)I" } : Jvm.MethodName) ({ cls := "SharedTaxis$Offer", name := "part", desc := "(I)I" } : Jvm.MethodName)) ∈ lw_all := lw_g (lw_at lw_m7 204 rfl) rfl
theorem q1757 : (Jvm.Cond.code ({ cls := "SharedTaxis$Offer", name := "part", desc := "(I)I" } : Jvm.MethodName) prog_4_method_2_code (2 : Nat) (Option.some Jvm.ClassFile.FieldType.int)) ∈ lw_all := lw_g (lw_at lw_m7 205 rfl) rfl
theorem q1778 : (Jvm.Cond.fieldLinkNest "SharedTaxis$Offer" (13 : Nat) "SharedTaxis$Search" "extra" "I" "SharedTaxis") ∈ lw_tbl := lw_at lw_m7 226 rfl
theorem q1781 : (Jvm.Cond.fieldLinkNest "SharedTaxis$Offer" (19 : Nat) "SharedTaxis$Search" "pickup" "I" "SharedTaxis") ∈ lw_tbl := lw_at lw_m7 229 rfl
theorem q1784 : (Jvm.Cond.fieldLinkNest "SharedTaxis$Offer" (23 : Nat) "SharedTaxis$Search" "drop" "I" "SharedTaxis") ∈ lw_tbl := lw_at lw_m7 232 rfl
theorem q1960 : (Jvm.Cond.selects "SharedTaxis$Offer" ({ cls := "java/lang/Object", name := "equals", desc := "(Ljava/lang/Object;)Z" } : Jvm.MethodName) ({ cls := "java/lang/Object", name := "equals", desc := "(Ljava/lang/Object;)Z" } : Jvm.MethodName)) ∈ lw_all := lw_g (lw_at lw_m8 168 rfl) rfl
theorem q2090 : (Jvm.Cond.instantiable "SharedTaxis$Offer" (5 : Nat)) ∈ lw_all := lw_g (lw_at lw_m9 58 rfl) rfl
theorem q2092 : (Jvm.Cond.instanceMethod ({ cls := "SharedTaxis$Offer", name := "<init>", desc := "(ILSharedTaxis$Search;I)V" } : Jvm.MethodName)) ∈ lw_all := lw_g (lw_at lw_m9 60 rfl) rfl
theorem q2093 : (Jvm.Cond.code ({ cls := "SharedTaxis$Offer", name := "<init>", desc := "(ILSharedTaxis$Search;I)V" } : Jvm.MethodName) prog_4_method_1_code (4 : Nat) (Option.none : Option Jvm.ClassFile.FieldType)) ∈ lw_all := lw_g (lw_at lw_m9 61 rfl) rfl
theorem q2094 : (Jvm.Cond.methodLink "SharedTaxis$Offer" (1 : Nat) ({ cls := "java/lang/Object", name := "<init>", desc := "()V" } : Jvm.MethodName)) ∈ lw_all := lw_g (lw_at lw_m9 62 rfl) rfl
theorem q2095 : (Jvm.Cond.fieldLink "SharedTaxis$Offer" (7 : Nat) "SharedTaxis$Offer" "taxi" "I") ∈ lw_all := lw_g (lw_at lw_m9 63 rfl) rfl
theorem q2097 : (Jvm.Cond.fieldLink "SharedTaxis$Offer" (18 : Nat) "SharedTaxis$Offer" "extra" "I") ∈ lw_all := lw_g (lw_at lw_m9 65 rfl) rfl
theorem q2099 : (Jvm.Cond.fieldLink "SharedTaxis$Offer" (22 : Nat) "SharedTaxis$Offer" "pickup" "I") ∈ lw_all := lw_g (lw_at lw_m9 67 rfl) rfl
theorem q2101 : (Jvm.Cond.fieldLink "SharedTaxis$Offer" (26 : Nat) "SharedTaxis$Offer" "drop" "I") ∈ lw_all := lw_g (lw_at lw_m9 69 rfl) rfl
theorem q2102 : (Jvm.Cond.fieldLink "SharedTaxis$Offer" (27 : Nat) "SharedTaxis$Offer" "last" "I") ∈ lw_all := lw_g (lw_at lw_m9 70 rfl) rfl
theorem q2104 : (Jvm.Cond.laysFinal "SharedTaxis$Offer" "SharedTaxis$Offer" "taxi" "I") ∈ lw_all := lw_g (lw_at lw_m9 72 rfl) rfl
theorem q2105 : (Jvm.Cond.soleField "SharedTaxis$Offer" "taxi") ∈ lw_all := lw_g (lw_at lw_m9 73 rfl) rfl
theorem q2106 : (Jvm.Cond.laysFinal "SharedTaxis$Offer" "SharedTaxis$Offer" "extra" "I") ∈ lw_all := lw_g (lw_at lw_m9 74 rfl) rfl
theorem q2107 : (Jvm.Cond.soleField "SharedTaxis$Offer" "extra") ∈ lw_all := lw_g (lw_at lw_m9 75 rfl) rfl
theorem q2108 : (Jvm.Cond.laysFinal "SharedTaxis$Offer" "SharedTaxis$Offer" "pickup" "I") ∈ lw_all := lw_g (lw_at lw_m9 76 rfl) rfl
theorem q2109 : (Jvm.Cond.soleField "SharedTaxis$Offer" "pickup") ∈ lw_all := lw_g (lw_at lw_m9 77 rfl) rfl
theorem q2110 : (Jvm.Cond.laysFinal "SharedTaxis$Offer" "SharedTaxis$Offer" "drop" "I") ∈ lw_all := lw_g (lw_at lw_m9 78 rfl) rfl
theorem q2111 : (Jvm.Cond.soleField "SharedTaxis$Offer" "drop") ∈ lw_all := lw_g (lw_at lw_m9 79 rfl) rfl
theorem q2112 : (Jvm.Cond.laysFinal "SharedTaxis$Offer" "SharedTaxis$Offer" "last" "I") ∈ lw_all := lw_g (lw_at lw_m9 80 rfl) rfl
theorem q2113 : (Jvm.Cond.soleField "SharedTaxis$Offer" "last") ∈ lw_all := lw_g (lw_at lw_m9 81 rfl) rfl
theorem q2114 : (Jvm.Cond.superclass "SharedTaxis$Offer" "java/lang/Object") ∈ lw_all := lw_g (lw_at lw_m9 82 rfl) rfl
theorem q3376 : (Jvm.Cond.castable "SharedTaxis$Offer" "java/lang/Object") ∈ lw_tbl := lw_at lw_m14 144 rfl
theorem q157 : (Jvm.Cond.initialized "SharedTaxis$Passing") ∈ lw_all := lw_g (lw_at lw_m1 45 rfl) rfl
theorem q236 : (Jvm.Cond.fieldLinkNest "SharedTaxis$Passing" (89 : Nat) "SharedTaxis$State" "rules" "[I" "SharedTaxis") ∈ lw_tbl := lw_at lw_m1 124 rfl
theorem q242 : (Jvm.Cond.fieldLinkNest "SharedTaxis$Passing" (93 : Nat) "SharedTaxis$State" "flag" "I" "SharedTaxis") ∈ lw_tbl := lw_at lw_m1 130 rfl
theorem q248 : (Jvm.Cond.fieldLinkNest "SharedTaxis$Passing" (15 : Nat) "SharedTaxis$State" "present" "I" "SharedTaxis") ∈ lw_tbl := lw_at lw_m1 136 rfl
theorem q255 : (Jvm.Cond.fieldLinkNest "SharedTaxis$Passing" (187 : Nat) "SharedTaxis$State" "taxis" "Ljava/util/List;" "SharedTaxis") ∈ lw_tbl := lw_at lw_m1 143 rfl
theorem q261 : (Jvm.Cond.fieldLinkNest "SharedTaxis$Passing" (60 : Nat) "SharedTaxis$State" "rides" "Ljava/util/List;" "SharedTaxis") ∈ lw_tbl := lw_at lw_m1 149 rfl
theorem q912 : (Jvm.Cond.fieldLinkNest "SharedTaxis$Passing" (147 : Nat) "SharedTaxis$Taxi" "zone" "I" "SharedTaxis") ∈ lw_tbl := lw_at lw_m4 80 rfl
theorem q916 : (Jvm.Cond.fieldLinkNest "SharedTaxis$Passing" (148 : Nat) "SharedTaxis$Taxi" "free" "I" "SharedTaxis") ∈ lw_tbl := lw_at lw_m4 84 rfl
theorem q923 : (Jvm.Cond.fieldLinkNest "SharedTaxis$Passing" (154 : Nat) "SharedTaxis$Taxi" "stint" "I" "SharedTaxis") ∈ lw_tbl := lw_at lw_m4 91 rfl
theorem q927 : (Jvm.Cond.fieldLinkNest "SharedTaxis$Passing" (155 : Nat) "SharedTaxis$Taxi" "left" "I" "SharedTaxis") ∈ lw_tbl := lw_at lw_m4 95 rfl
theorem q933 : (Jvm.Cond.fieldLinkNest "SharedTaxis$Passing" (158 : Nat) "SharedTaxis$Taxi" "stops" "Ljava/util/List;" "SharedTaxis") ∈ lw_tbl := lw_at lw_m4 101 rfl
theorem q937 : (Jvm.Cond.fieldLinkNest "SharedTaxis$Passing" (34 : Nat) "SharedTaxis$Taxi" "aboard" "Ljava/util/List;" "SharedTaxis") ∈ lw_tbl := lw_at lw_m4 105 rfl
theorem q940 : (Jvm.Cond.fieldLinkNest "SharedTaxis$Passing" (24 : Nat) "SharedTaxis$Taxi" "takings" "I" "SharedTaxis") ∈ lw_tbl := lw_at lw_m4 108 rfl
theorem q946 : (Jvm.Cond.fieldLinkNest "SharedTaxis$Passing" (44 : Nat) "SharedTaxis$Taxi" "driven" "I" "SharedTaxis") ∈ lw_tbl := lw_at lw_m4 114 rfl
theorem q948 : (Jvm.Cond.fieldLinkNest "SharedTaxis$Passing" (47 : Nat) "SharedTaxis$Taxi" "withParties" "I" "SharedTaxis") ∈ lw_tbl := lw_at lw_m4 116 rfl
theorem q951 : (Jvm.Cond.fieldLinkNest "SharedTaxis$Passing" (50 : Nat) "SharedTaxis$Taxi" "shared" "I" "SharedTaxis") ∈ lw_tbl := lw_at lw_m4 119 rfl
theorem q954 : (Jvm.Cond.fieldLinkNest "SharedTaxis$Passing" (57 : Nat) "SharedTaxis$Taxi" "amounts" "I" "SharedTaxis") ∈ lw_tbl := lw_at lw_m4 122 rfl
theorem q1032 : (Jvm.Cond.selects "SharedTaxis$Passing" ({ cls := "java/lang/Object", name := "getClass", desc := "()Ljava/lang/Class;" } : Jvm.MethodName) ({ cls := "java/lang/Object", name := "getClass", desc := "()Ljava/lang/Class;" } : Jvm.MethodName)) ∈ lw_all := lw_g (lw_at lw_m4 200 rfl) rfl
theorem q1106 : (Jvm.Cond.fieldLinkNest "SharedTaxis$Passing" (96 : Nat) "SharedTaxis$Ride" "number" "I" "SharedTaxis") ∈ lw_tbl := lw_at lw_m5 34 rfl
theorem q1130 : (Jvm.Cond.fieldLinkNest "SharedTaxis$Passing" (87 : Nat) "SharedTaxis$Ride" "state" "I" "SharedTaxis") ∈ lw_tbl := lw_at lw_m5 58 rfl
theorem q1137 : (Jvm.Cond.fieldLinkNest "SharedTaxis$Passing" (80 : Nat) "SharedTaxis$Ride" "boarded" "I" "SharedTaxis") ∈ lw_tbl := lw_at lw_m5 65 rfl
theorem q1140 : (Jvm.Cond.fieldLinkNest "SharedTaxis$Passing" (138 : Nat) "SharedTaxis$Ride" "dropped" "I" "SharedTaxis") ∈ lw_tbl := lw_at lw_m5 68 rfl
theorem q1142 : (Jvm.Cond.fieldLinkNest "SharedTaxis$Passing" (29 : Nat) "SharedTaxis$Ride" "paid" "I" "SharedTaxis") ∈ lw_tbl := lw_at lw_m5 70 rfl
theorem q1146 : (Jvm.Cond.fieldLinkNest "SharedTaxis$Passing" (83 : Nat) "SharedTaxis$Ride" "absent" "Z" "SharedTaxis") ∈ lw_tbl := lw_at lw_m5 74 rfl
theorem q1150 : (Jvm.Cond.fieldLinkNest "SharedTaxis$Passing" (194 : Nat) "SharedTaxis$Ride" "offer" "LSharedTaxis$Offer;" "SharedTaxis") ∈ lw_tbl := lw_at lw_m5 78 rfl
theorem q1644 : (Jvm.Cond.fieldLinkNest "SharedTaxis$Passing" (144 : Nat) "SharedTaxis$Walk" "zone" "I" "SharedTaxis") ∈ lw_tbl := lw_at lw_m7 92 rfl
theorem q1650 : (Jvm.Cond.fieldLinkNest "SharedTaxis$Passing" (116 : Nat) "SharedTaxis$Walk" "stop" "LSharedTaxis$Stop;" "SharedTaxis") ∈ lw_tbl := lw_at lw_m7 98 rfl
theorem q1653 : (Jvm.Cond.fieldLinkNest "SharedTaxis$Passing" (125 : Nat) "SharedTaxis$Walk" "ride" "LSharedTaxis$Ride;" "SharedTaxis") ∈ lw_tbl := lw_at lw_m7 101 rfl
theorem q1657 : (Jvm.Cond.fieldLinkNest "SharedTaxis$Passing" (107 : Nat) "SharedTaxis$Walk" "minutes" "I" "SharedTaxis") ∈ lw_tbl := lw_at lw_m7 105 rfl
theorem q1660 : (Jvm.Cond.fieldLinkNest "SharedTaxis$Passing" (180 : Nat) "SharedTaxis$Walk" "leave" "I" "SharedTaxis") ∈ lw_tbl := lw_at lw_m7 108 rfl
theorem q1663 : (Jvm.Cond.fieldLinkNest "SharedTaxis$Passing" (135 : Nat) "SharedTaxis$Walk" "arrive" "I" "SharedTaxis") ∈ lw_tbl := lw_at lw_m7 111 rfl
theorem q1666 : (Jvm.Cond.fieldLinkNest "SharedTaxis$Passing" (129 : Nat) "SharedTaxis$Walk" "done" "I" "SharedTaxis") ∈ lw_tbl := lw_at lw_m7 114 rfl
theorem q1670 : (Jvm.Cond.fieldLinkNest "SharedTaxis$Passing" (151 : Nat) "SharedTaxis$Walk" "stint" "I" "SharedTaxis") ∈ lw_tbl := lw_at lw_m7 118 rfl
theorem q1826 : (Jvm.Cond.fieldLinkNest "SharedTaxis$Passing" (120 : Nat) "SharedTaxis$Stop" "pickup" "Z" "SharedTaxis") ∈ lw_tbl := lw_at lw_m8 34 rfl
theorem q1961 : (Jvm.Cond.selects "SharedTaxis$Passing" ({ cls := "java/lang/Object", name := "equals", desc := "(Ljava/lang/Object;)Z" } : Jvm.MethodName) ({ cls := "java/lang/Object", name := "equals", desc := "(Ljava/lang/Object;)Z" } : Jvm.MethodName)) ∈ lw_all := lw_g (lw_at lw_m8 169 rfl) rfl
theorem q2103 : (Jvm.Cond.fieldLinkNest "SharedTaxis$Passing" (198 : Nat) "SharedTaxis$Offer" "last" "I" "SharedTaxis") ∈ lw_tbl := lw_at lw_m9 71 rfl
theorem q2245 : (Jvm.Cond.instantiable "SharedTaxis$Passing" (3 : Nat)) ∈ lw_all := lw_g (lw_at lw_m9 213 rfl) rfl
theorem q2247 : (Jvm.Cond.instanceMethod ({ cls := "SharedTaxis$Passing", name := "<init>", desc := "(LSharedTaxis$State;I)V" } : Jvm.MethodName)) ∈ lw_all := lw_g (lw_at lw_m9 215 rfl) rfl
theorem q2248 : (Jvm.Cond.code ({ cls := "SharedTaxis$Passing", name := "<init>", desc := "(LSharedTaxis$State;I)V" } : Jvm.MethodName) prog_5_method_1_code (3 : Nat) (Option.none : Option Jvm.ClassFile.FieldType)) ∈ lw_all := lw_g (lw_at lw_m9 216 rfl) rfl
theorem q2249 : (Jvm.Cond.methodLink "SharedTaxis$Passing" (3 : Nat) ({ cls := "java/lang/Object", name := "<init>", desc := "()V" } : Jvm.MethodName)) ∈ lw_all := lw_g (lw_at lw_m9 217 rfl) rfl
theorem q2250 : (Jvm.Cond.fieldLink "SharedTaxis$Passing" (9 : Nat) "SharedTaxis$Passing" "state" "LSharedTaxis$State;") ∈ lw_all := lw_g (lw_at lw_m9 218 rfl) rfl
theorem q2251 : (Jvm.Cond.fieldLink "SharedTaxis$Passing" (21 : Nat) "SharedTaxis$Passing" "until" "I") ∈ lw_all := lw_g (lw_at lw_m9 219 rfl) rfl
theorem q2252 : (Jvm.Cond.fieldLink "SharedTaxis$Passing" (163 : Nat) "SharedTaxis$Passing" "count" "I") ∈ lw_all := lw_g (lw_at lw_m9 220 rfl) rfl
theorem q2253 : (Jvm.Cond.laysFinal "SharedTaxis$Passing" "SharedTaxis$Passing" "state" "LSharedTaxis$State;") ∈ lw_all := lw_g (lw_at lw_m9 221 rfl) rfl
theorem q2254 : (Jvm.Cond.soleField "SharedTaxis$Passing" "state") ∈ lw_all := lw_g (lw_at lw_m9 222 rfl) rfl
theorem q2255 : (Jvm.Cond.laysFinal "SharedTaxis$Passing" "SharedTaxis$Passing" "until" "I") ∈ lw_all := lw_g (lw_at lw_m9 223 rfl) rfl
theorem q2256 : (Jvm.Cond.soleField "SharedTaxis$Passing" "until") ∈ lw_all := lw_g (lw_at lw_m9 224 rfl) rfl
theorem q2257 : (Jvm.Cond.lays "SharedTaxis$Passing" "SharedTaxis$Passing" "count" "I") ∈ lw_all := lw_g (lw_at lw_m9 225 rfl) rfl
theorem q2258 : (Jvm.Cond.soleField "SharedTaxis$Passing" "count") ∈ lw_all := lw_g (lw_at lw_m9 226 rfl) rfl
theorem q2259 : (Jvm.Cond.superclass "SharedTaxis$Passing" "java/lang/Object") ∈ lw_all := lw_g (lw_at lw_m9 227 rfl) rfl
theorem q2261 : (Jvm.Cond.instanceMethod ({ cls := "SharedTaxis$Passing", name := "all", desc := "()I" } : Jvm.MethodName)) ∈ lw_all := lw_g (lw_at lw_m9 229 rfl) rfl
theorem q2262 : (Jvm.Cond.selects "SharedTaxis$Passing" ({ cls := "SharedTaxis$Passing", name := "all", desc := "()I" } : Jvm.MethodName) ({ cls := "SharedTaxis$Passing", name := "all", desc := "()I" } : Jvm.MethodName)) ∈ lw_all := lw_g (lw_at lw_m9 230 rfl) rfl
theorem q2263 : (Jvm.Cond.code ({ cls := "SharedTaxis$Passing", name := "all", desc := "()I" } : Jvm.MethodName) prog_5_method_7_code (3 : Nat) (Option.some Jvm.ClassFile.FieldType.int)) ∈ lw_all := lw_g (lw_at lw_m9 231 rfl) rfl
theorem q2264 : (Jvm.Cond.interfaceEntry "SharedTaxis$Passing" (38 : Nat)) ∈ lw_tbl := lw_at lw_m9 232 rfl
theorem q2265 : (Jvm.Cond.methodLink "SharedTaxis$Passing" (38 : Nat) ({ cls := "java/util/List", name := "size", desc := "()I" } : Jvm.MethodName)) ∈ lw_all := lw_g (lw_at lw_m9 233 rfl) rfl
theorem q2266 : (Jvm.Cond.interfaceEntry "SharedTaxis$Passing" (63 : Nat)) ∈ lw_tbl := lw_at lw_m9 234 rfl
theorem q2267 : (Jvm.Cond.methodLink "SharedTaxis$Passing" (63 : Nat) ({ cls := "java/util/List", name := "get", desc := "(I)Ljava/lang/Object;" } : Jvm.MethodName)) ∈ lw_all := lw_g (lw_at lw_m9 235 rfl) rfl
theorem q2268 : (Jvm.Cond.classLink "SharedTaxis$Passing" (25 : Nat) "SharedTaxis$Taxi") ∈ lw_all := lw_g (lw_at lw_m9 236 rfl) rfl
theorem q2269 : (Jvm.Cond.methodLink "SharedTaxis$Passing" (190 : Nat) ({ cls := "SharedTaxis$Passing", name := "run", desc := "(LSharedTaxis$Taxi;)V" } : Jvm.MethodName)) ∈ lw_all := lw_g (lw_at lw_m9 237 rfl) rfl
theorem q2270 : (Jvm.Cond.privateMethod ({ cls := "SharedTaxis$Passing", name := "run", desc := "(LSharedTaxis$Taxi;)V" } : Jvm.MethodName)) ∈ lw_tbl := lw_at lw_m9 238 rfl
theorem q2271 : (Jvm.Cond.instanceMethod ({ cls := "SharedTaxis$Passing", name := "run", desc := "(LSharedTaxis$Taxi;)V" } : Jvm.MethodName)) ∈ lw_all := lw_g (lw_at lw_m9 239 rfl) rfl
theorem q2272 : (Jvm.Cond.code ({ cls := "SharedTaxis$Passing", name := "run", desc := "(LSharedTaxis$Taxi;)V" } : Jvm.MethodName) prog_5_method_6_code (3 : Nat) (Option.none : Option Jvm.ClassFile.FieldType)) ∈ lw_all := lw_g (lw_at lw_m10 0 rfl) rfl
theorem q2273 : (Jvm.Cond.classLink "SharedTaxis$Passing" (108 : Nat) "SharedTaxis$Walk") ∈ lw_all := lw_g (lw_at lw_m10 1 rfl) rfl
theorem q2274 : (Jvm.Cond.methodLink "SharedTaxis$Passing" (166 : Nat) ({ cls := "SharedTaxis$Walk", name := "<init>", desc := "(LSharedTaxis$State;)V" } : Jvm.MethodName)) ∈ lw_all := lw_g (lw_at lw_m10 2 rfl) rfl
theorem q2275 : (Jvm.Cond.interfaceEntry "SharedTaxis$Passing" (169 : Nat)) ∈ lw_tbl := lw_at lw_m10 3 rfl
theorem q2276 : (Jvm.Cond.methodLink "SharedTaxis$Passing" (169 : Nat) ({ cls := "java/util/List", name := "isEmpty", desc := "()Z" } : Jvm.MethodName)) ∈ lw_all := lw_g (lw_at lw_m10 4 rfl) rfl
theorem q2277 : (Jvm.Cond.methodLink "SharedTaxis$Passing" (173 : Nat) ({ cls := "SharedTaxis$Walk", name := "begin", desc := "(LSharedTaxis$Taxi;Ljava/util/List;)LSharedTaxis$Walk;" } : Jvm.MethodName)) ∈ lw_all := lw_g (lw_at lw_m10 5 rfl) rfl
theorem q2278 : (Jvm.Cond.methodLink "SharedTaxis$Passing" (177 : Nat) ({ cls := "SharedTaxis$Walk", name := "next", desc := "()V" } : Jvm.MethodName)) ∈ lw_all := lw_g (lw_at lw_m10 6 rfl) rfl
theorem q2279 : (Jvm.Cond.methodLink "SharedTaxis$Passing" (183 : Nat) ({ cls := "SharedTaxis$Passing", name := "happen", desc := "(LSharedTaxis$Taxi;LSharedTaxis$Walk;)V" } : Jvm.MethodName)) ∈ lw_all := lw_g (lw_at lw_m10 7 rfl) rfl
theorem q2280 : (Jvm.Cond.privateMethod ({ cls := "SharedTaxis$Passing", name := "happen", desc := "(LSharedTaxis$Taxi;LSharedTaxis$Walk;)V" } : Jvm.MethodName)) ∈ lw_tbl := lw_at lw_m10 8 rfl
theorem q2281 : (Jvm.Cond.instanceMethod ({ cls := "SharedTaxis$Passing", name := "happen", desc := "(LSharedTaxis$Taxi;LSharedTaxis$Walk;)V" } : Jvm.MethodName)) ∈ lw_all := lw_g (lw_at lw_m10 9 rfl) rfl
theorem q2282 : (Jvm.Cond.code ({ cls := "SharedTaxis$Passing", name := "happen", desc := "(LSharedTaxis$Taxi;LSharedTaxis$Walk;)V" } : Jvm.MethodName) prog_5_method_5_code (3 : Nat) (Option.none : Option Jvm.ClassFile.FieldType)) ∈ lw_all := lw_g (lw_at lw_m10 10 rfl) rfl
theorem q2283 : (Jvm.Cond.methodLink "SharedTaxis$Passing" (112 : Nat) ({ cls := "SharedTaxis$Passing", name := "pay", desc := "(LSharedTaxis$Taxi;I)V" } : Jvm.MethodName)) ∈ lw_all := lw_g (lw_at lw_m10 11 rfl) rfl
theorem q2284 : (Jvm.Cond.privateMethod ({ cls := "SharedTaxis$Passing", name := "pay", desc := "(LSharedTaxis$Taxi;I)V" } : Jvm.MethodName)) ∈ lw_tbl := lw_at lw_m10 12 rfl
theorem q2285 : (Jvm.Cond.instanceMethod ({ cls := "SharedTaxis$Passing", name := "pay", desc := "(LSharedTaxis$Taxi;I)V" } : Jvm.MethodName)) ∈ lw_all := lw_g (lw_at lw_m10 13 rfl) rfl
theorem q2286 : (Jvm.Cond.code ({ cls := "SharedTaxis$Passing", name := "pay", desc := "(LSharedTaxis$Taxi;I)V" } : Jvm.MethodName) prog_5_method_3_code (6 : Nat) (Option.none : Option Jvm.ClassFile.FieldType)) ∈ lw_all := lw_g (lw_at lw_m10 14 rfl) rfl
theorem q2287 : (Jvm.Cond.methodLink "SharedTaxis$Passing" (53 : Nat) ({ cls := "SharedTaxis$State", name := "amount", desc := "(II)I" } : Jvm.MethodName)) ∈ lw_all := lw_g (lw_at lw_m10 15 rfl) rfl
theorem q2288 : (Jvm.Cond.classLink "SharedTaxis$Passing" (67 : Nat) "java/lang/Integer") ∈ lw_all := lw_g (lw_at lw_m10 16 rfl) rfl
theorem q2289 : (Jvm.Cond.methodLink "SharedTaxis$Passing" (69 : Nat) ({ cls := "java/lang/Integer", name := "intValue", desc := "()I" } : Jvm.MethodName)) ∈ lw_all := lw_g (lw_at lw_m10 17 rfl) rfl
theorem q2290 : (Jvm.Cond.classLink "SharedTaxis$Passing" (30 : Nat) "SharedTaxis$Ride") ∈ lw_all := lw_g (lw_at lw_m10 18 rfl) rfl
theorem q2291 : (Jvm.Cond.methodLink "SharedTaxis$Passing" (72 : Nat) ({ cls := "SharedTaxis$State", name := "part", desc := "(III)I" } : Jvm.MethodName)) ∈ lw_all := lw_g (lw_at lw_m10 19 rfl) rfl
theorem q2292 : (Jvm.Cond.methodLink "SharedTaxis$Passing" (76 : Nat) ({ cls := "SharedTaxis$Passing", name := "charge", desc := "(LSharedTaxis$Taxi;LSharedTaxis$Ride;I)V" } : Jvm.MethodName)) ∈ lw_all := lw_g (lw_at lw_m10 20 rfl) rfl
theorem q2293 : (Jvm.Cond.privateMethod ({ cls := "SharedTaxis$Passing", name := "charge", desc := "(LSharedTaxis$Taxi;LSharedTaxis$Ride;I)V" } : Jvm.MethodName)) ∈ lw_tbl := lw_at lw_m10 21 rfl
theorem q2294 : (Jvm.Cond.instanceMethod ({ cls := "SharedTaxis$Passing", name := "charge", desc := "(LSharedTaxis$Taxi;LSharedTaxis$Ride;I)V" } : Jvm.MethodName)) ∈ lw_all := lw_g (lw_at lw_m10 22 rfl) rfl
theorem q2295 : (Jvm.Cond.code ({ cls := "SharedTaxis$Passing", name := "charge", desc := "(LSharedTaxis$Taxi;LSharedTaxis$Ride;I)V" } : Jvm.MethodName) prog_5_method_2_code (4 : Nat) (Option.none : Option Jvm.ClassFile.FieldType)) ∈ lw_all := lw_g (lw_at lw_m10 23 rfl) rfl
theorem q2296 : (Jvm.Cond.methodLink "SharedTaxis$Passing" (132 : Nat) ({ cls := "SharedTaxis$Passing", name := "pick", desc := "(LSharedTaxis$Taxi;LSharedTaxis$Ride;I)V" } : Jvm.MethodName)) ∈ lw_all := lw_g (lw_at lw_m10 24 rfl) rfl
theorem q2297 : (Jvm.Cond.privateMethod ({ cls := "SharedTaxis$Passing", name := "pick", desc := "(LSharedTaxis$Taxi;LSharedTaxis$Ride;I)V" } : Jvm.MethodName)) ∈ lw_tbl := lw_at lw_m10 25 rfl
theorem q2298 : (Jvm.Cond.instanceMethod ({ cls := "SharedTaxis$Passing", name := "pick", desc := "(LSharedTaxis$Taxi;LSharedTaxis$Ride;I)V" } : Jvm.MethodName)) ∈ lw_all := lw_g (lw_at lw_m10 26 rfl) rfl
theorem q2299 : (Jvm.Cond.code ({ cls := "SharedTaxis$Passing", name := "pick", desc := "(LSharedTaxis$Taxi;LSharedTaxis$Ride;I)V" } : Jvm.MethodName) prog_5_method_4_code (4 : Nat) (Option.none : Option Jvm.ClassFile.FieldType)) ∈ lw_all := lw_g (lw_at lw_m10 27 rfl) rfl
theorem q2300 : (Jvm.Cond.methodLink "SharedTaxis$Passing" (99 : Nat) ({ cls := "java/lang/Integer", name := "valueOf", desc := "(I)Ljava/lang/Integer;" } : Jvm.MethodName)) ∈ lw_all := lw_g (lw_at lw_m10 28 rfl) rfl
theorem q2301 : (Jvm.Cond.interfaceEntry "SharedTaxis$Passing" (103 : Nat)) ∈ lw_tbl := lw_at lw_m10 29 rfl
theorem q2302 : (Jvm.Cond.methodLink "SharedTaxis$Passing" (103 : Nat) ({ cls := "java/util/List", name := "add", desc := "(Ljava/lang/Object;)Z" } : Jvm.MethodName)) ∈ lw_all := lw_g (lw_at lw_m10 30 rfl) rfl
theorem q2303 : (Jvm.Cond.interfaceEntry "SharedTaxis$Passing" (141 : Nat)) ∈ lw_tbl := lw_at lw_m10 31 rfl
theorem q2304 : (Jvm.Cond.methodLink "SharedTaxis$Passing" (141 : Nat) ({ cls := "java/util/List", name := "remove", desc := "(Ljava/lang/Object;)Z" } : Jvm.MethodName)) ∈ lw_all := lw_g (lw_at lw_m10 32 rfl) rfl
theorem q2305 : (Jvm.Cond.interfaceEntry "SharedTaxis$Passing" (161 : Nat)) ∈ lw_tbl := lw_at lw_m10 33 rfl
theorem q2306 : (Jvm.Cond.methodLink "SharedTaxis$Passing" (161 : Nat) ({ cls := "java/util/List", name := "remove", desc := "(I)Ljava/lang/Object;" } : Jvm.MethodName)) ∈ lw_all := lw_g (lw_at lw_m10 34 rfl) rfl
theorem q3379 : (Jvm.Cond.castable "SharedTaxis$Passing" "java/lang/Object") ∈ lw_tbl := lw_at lw_m14 147 rfl
theorem q159 : (Jvm.Cond.initialized "SharedTaxis$Words") ∈ lw_all := lw_g (lw_at lw_m1 47 rfl) rfl
theorem q1046 : (Jvm.Cond.selects "SharedTaxis$Words" ({ cls := "java/lang/Object", name := "getClass", desc := "()Ljava/lang/Class;" } : Jvm.MethodName) ({ cls := "java/lang/Object", name := "getClass", desc := "()Ljava/lang/Class;" } : Jvm.MethodName)) ∈ lw_all := lw_g (lw_at lw_m4 214 rfl) rfl
theorem q1975 : (Jvm.Cond.selects "SharedTaxis$Words" ({ cls := "java/lang/Object", name := "equals", desc := "(Ljava/lang/Object;)Z" } : Jvm.MethodName) ({ cls := "java/lang/Object", name := "equals", desc := "(Ljava/lang/Object;)Z" } : Jvm.MethodName)) ∈ lw_all := lw_g (lw_at lw_m8 183 rfl) rfl
theorem q2394 : (Jvm.Cond.instantiable "SharedTaxis$Words" (2 : Nat)) ∈ lw_all := lw_g (lw_at lw_m10 122 rfl) rfl
theorem q2396 : (Jvm.Cond.instanceMethod ({ cls := "SharedTaxis$Words", name := "<init>", desc := "(LSharedTaxis;LSharedTaxis$Taxi;)V" } : Jvm.MethodName)) ∈ lw_all := lw_g (lw_at lw_m10 124 rfl) rfl
theorem q2397 : (Jvm.Cond.code ({ cls := "SharedTaxis$Words", name := "<init>", desc := "(LSharedTaxis;LSharedTaxis$Taxi;)V" } : Jvm.MethodName) prog_22_method_1_code (3 : Nat) (Option.none : Option Jvm.ClassFile.FieldType)) ∈ lw_all := lw_g (lw_at lw_m10 125 rfl) rfl
theorem q2398 : (Jvm.Cond.methodLink "SharedTaxis$Words" (7 : Nat) ({ cls := "java/lang/Object", name := "<init>", desc := "()V" } : Jvm.MethodName)) ∈ lw_all := lw_g (lw_at lw_m10 126 rfl) rfl
theorem q2399 : (Jvm.Cond.fieldLink "SharedTaxis$Words" (13 : Nat) "SharedTaxis$Words" "taxi" "LSharedTaxis$Taxi;") ∈ lw_all := lw_g (lw_at lw_m10 127 rfl) rfl
theorem q2401 : (Jvm.Cond.fieldLink "SharedTaxis$Words" (1 : Nat) "SharedTaxis$Words" "this$0" "LSharedTaxis;") ∈ lw_all := lw_g (lw_at lw_m10 129 rfl) rfl
theorem q2403 : (Jvm.Cond.laysFinal "SharedTaxis$Words" "SharedTaxis$Words" "taxi" "LSharedTaxis$Taxi;") ∈ lw_all := lw_g (lw_at lw_m10 131 rfl) rfl
theorem q2404 : (Jvm.Cond.soleField "SharedTaxis$Words" "taxi") ∈ lw_all := lw_g (lw_at lw_m10 132 rfl) rfl
theorem q2405 : (Jvm.Cond.laysFinal "SharedTaxis$Words" "SharedTaxis$Words" "this$0" "LSharedTaxis;") ∈ lw_all := lw_g (lw_at lw_m10 133 rfl) rfl
theorem q2406 : (Jvm.Cond.soleField "SharedTaxis$Words" "this$0") ∈ lw_all := lw_g (lw_at lw_m10 134 rfl) rfl
theorem q2407 : (Jvm.Cond.superclass "SharedTaxis$Words" "java/lang/Object") ∈ lw_all := lw_g (lw_at lw_m10 135 rfl) rfl
theorem q2412 : (Jvm.Cond.castable "SharedTaxis$Words" "java/lang/Iterable") ∈ lw_tbl := lw_at lw_m10 140 rfl
theorem q2413 : (Jvm.Cond.selects "SharedTaxis$Words" ({ cls := "java/lang/Iterable", name := "iterator", desc := "()Ljava/util/Iterator;" } : Jvm.MethodName) ({ cls := "SharedTaxis$Words", name := "iterator", desc := "()Ljava/util/Iterator;" } : Jvm.MethodName)) ∈ lw_all := lw_g (lw_at lw_m10 141 rfl) rfl
theorem q2414 : (Jvm.Cond.unhidden "SharedTaxis$Words" "iterator" "()Ljava/util/Iterator;") ∈ lw_tbl := lw_at lw_m10 142 rfl
theorem q2415 : (Jvm.Cond.instanceMethod ({ cls := "SharedTaxis$Words", name := "iterator", desc := "()Ljava/util/Iterator;" } : Jvm.MethodName)) ∈ lw_all := lw_g (lw_at lw_m10 143 rfl) rfl
theorem q2416 : (Jvm.Cond.publicMethod ({ cls := "SharedTaxis$Words", name := "iterator", desc := "()Ljava/util/Iterator;" } : Jvm.MethodName)) ∈ lw_tbl := lw_at lw_m10 144 rfl
theorem q2417 : (Jvm.Cond.code ({ cls := "SharedTaxis$Words", name := "iterator", desc := "()Ljava/util/Iterator;" } : Jvm.MethodName) prog_22_method_2_code (1 : Nat) (Option.some (Jvm.ClassFile.FieldType.object "java/util/Iterator"))) ∈ lw_all := lw_g (lw_at lw_m10 145 rfl) rfl
theorem q2418 : (Jvm.Cond.classLink "SharedTaxis$Words" (17 : Nat) "SharedTaxis$Words$1") ∈ lw_all := lw_g (lw_at lw_m10 146 rfl) rfl
theorem q2420 : (Jvm.Cond.methodLink "SharedTaxis$Words" (19 : Nat) ({ cls := "SharedTaxis$Words$1", name := "<init>", desc := "(LSharedTaxis$Words;)V" } : Jvm.MethodName)) ∈ lw_all := lw_g (lw_at lw_m10 148 rfl) rfl
theorem q3381 : (Jvm.Cond.castable "SharedTaxis$Words" "java/lang/Object") ∈ lw_tbl := lw_at lw_m14 149 rfl
theorem q114 : (Jvm.Cond.initialized "SharedTaxis$State") ∈ lw_all := lw_g (lw_at lw_m1 2 rfl) rfl
theorem q173 : (Jvm.Cond.instantiable "SharedTaxis$State" (7 : Nat)) ∈ lw_all := lw_g (lw_at lw_m1 61 rfl) rfl
theorem q200 : (Jvm.Cond.instanceMethod ({ cls := "SharedTaxis$State", name := "<init>", desc := "(LSharedTaxis$Town;)V" } : Jvm.MethodName)) ∈ lw_all := lw_g (lw_at lw_m1 88 rfl) rfl
theorem q201 : (Jvm.Cond.code ({ cls := "SharedTaxis$State", name := "<init>", desc := "(LSharedTaxis$Town;)V" } : Jvm.MethodName) prog_12_method_1_code (2 : Nat) (Option.none : Option Jvm.ClassFile.FieldType)) ∈ lw_all := lw_g (lw_at lw_m1 89 rfl) rfl
theorem q202 : (Jvm.Cond.methodLink "SharedTaxis$State" (3 : Nat) ({ cls := "java/lang/Object", name := "<init>", desc := "()V" } : Jvm.MethodName)) ∈ lw_all := lw_g (lw_at lw_m1 90 rfl) rfl
theorem q203 : (Jvm.Cond.classLink "SharedTaxis$State" (15 : Nat) "java/util/ArrayList") ∈ lw_all := lw_g (lw_at lw_m1 91 rfl) rfl
theorem q205 : (Jvm.Cond.methodLink "SharedTaxis$State" (17 : Nat) ({ cls := "java/util/ArrayList", name := "<init>", desc := "()V" } : Jvm.MethodName)) ∈ lw_all := lw_g (lw_at lw_m1 93 rfl) rfl
theorem q232 : (Jvm.Cond.fieldLink "SharedTaxis$State" (25 : Nat) "SharedTaxis$State" "town" "LSharedTaxis$Town;") ∈ lw_all := lw_g (lw_at lw_m1 120 rfl) rfl
theorem q235 : (Jvm.Cond.fieldLink "SharedTaxis$State" (9 : Nat) "SharedTaxis$State" "rules" "[I") ∈ lw_all := lw_g (lw_at lw_m1 123 rfl) rfl
theorem q241 : (Jvm.Cond.fieldLink "SharedTaxis$State" (38 : Nat) "SharedTaxis$State" "flag" "I") ∈ lw_all := lw_g (lw_at lw_m1 129 rfl) rfl
theorem q245 : (Jvm.Cond.fieldLink "SharedTaxis$State" (42 : Nat) "SharedTaxis$State" "rate" "I") ∈ lw_all := lw_g (lw_at lw_m1 133 rfl) rfl
theorem q249 : (Jvm.Cond.fieldLink "SharedTaxis$State" (45 : Nat) "SharedTaxis$State" "present" "I") ∈ lw_all := lw_g (lw_at lw_m1 137 rfl) rfl
theorem q253 : (Jvm.Cond.fieldLink "SharedTaxis$State" (18 : Nat) "SharedTaxis$State" "taxis" "Ljava/util/List;") ∈ lw_all := lw_g (lw_at lw_m1 141 rfl) rfl
theorem q258 : (Jvm.Cond.fieldLink "SharedTaxis$State" (22 : Nat) "SharedTaxis$State" "rides" "Ljava/util/List;") ∈ lw_all := lw_g (lw_at lw_m1 146 rfl) rfl
theorem q263 : (Jvm.Cond.laysFinal "SharedTaxis$State" "SharedTaxis$State" "town" "LSharedTaxis$Town;") ∈ lw_all := lw_g (lw_at lw_m1 151 rfl) rfl
theorem q264 : (Jvm.Cond.soleField "SharedTaxis$State" "town") ∈ lw_all := lw_g (lw_at lw_m1 152 rfl) rfl
theorem q265 : (Jvm.Cond.laysFinal "SharedTaxis$State" "SharedTaxis$State" "rules" "[I") ∈ lw_all := lw_g (lw_at lw_m1 153 rfl) rfl
theorem q266 : (Jvm.Cond.soleField "SharedTaxis$State" "rules") ∈ lw_all := lw_g (lw_at lw_m1 154 rfl) rfl
theorem q267 : (Jvm.Cond.lays "SharedTaxis$State" "SharedTaxis$State" "flag" "I") ∈ lw_all := lw_g (lw_at lw_m1 155 rfl) rfl
theorem q268 : (Jvm.Cond.soleField "SharedTaxis$State" "flag") ∈ lw_all := lw_g (lw_at lw_m1 156 rfl) rfl
theorem q269 : (Jvm.Cond.lays "SharedTaxis$State" "SharedTaxis$State" "rate" "I") ∈ lw_all := lw_g (lw_at lw_m1 157 rfl) rfl
theorem q270 : (Jvm.Cond.soleField "SharedTaxis$State" "rate") ∈ lw_all := lw_g (lw_at lw_m1 158 rfl) rfl
theorem q271 : (Jvm.Cond.lays "SharedTaxis$State" "SharedTaxis$State" "present" "I") ∈ lw_all := lw_g (lw_at lw_m1 159 rfl) rfl
theorem q272 : (Jvm.Cond.soleField "SharedTaxis$State" "present") ∈ lw_all := lw_g (lw_at lw_m1 160 rfl) rfl
theorem q273 : (Jvm.Cond.laysFinal "SharedTaxis$State" "SharedTaxis$State" "taxis" "Ljava/util/List;") ∈ lw_all := lw_g (lw_at lw_m1 161 rfl) rfl
theorem q274 : (Jvm.Cond.soleField "SharedTaxis$State" "taxis") ∈ lw_all := lw_g (lw_at lw_m1 162 rfl) rfl
theorem q275 : (Jvm.Cond.laysFinal "SharedTaxis$State" "SharedTaxis$State" "rides" "Ljava/util/List;") ∈ lw_all := lw_g (lw_at lw_m1 163 rfl) rfl
theorem q276 : (Jvm.Cond.soleField "SharedTaxis$State" "rides") ∈ lw_all := lw_g (lw_at lw_m1 164 rfl) rfl
theorem q277 : (Jvm.Cond.superclass "SharedTaxis$State" "java/lang/Object") ∈ lw_all := lw_g (lw_at lw_m1 165 rfl) rfl
theorem q876 : (Jvm.Cond.instanceMethod ({ cls := "SharedTaxis$State", name := "copy", desc := "()LSharedTaxis$State;" } : Jvm.MethodName)) ∈ lw_all := lw_g (lw_at lw_m4 44 rfl) rfl
theorem q877 : (Jvm.Cond.selects "SharedTaxis$State" ({ cls := "SharedTaxis$State", name := "copy", desc := "()LSharedTaxis$State;" } : Jvm.MethodName) ({ cls := "SharedTaxis$State", name := "copy", desc := "()LSharedTaxis$State;" } : Jvm.MethodName)) ∈ lw_all := lw_g (lw_at lw_m4 45 rfl) rfl
theorem q878 : (Jvm.Cond.code ({ cls := "SharedTaxis$State", name := "copy", desc := "()LSharedTaxis$State;" } : Jvm.MethodName) prog_12_method_3_code (1 : Nat) (Option.some (Jvm.ClassFile.FieldType.object "SharedTaxis$State"))) ∈ lw_all := lw_g (lw_at lw_m4 46 rfl) rfl
theorem q879 : (Jvm.Cond.classLink "SharedTaxis$State" (10 : Nat) "SharedTaxis$State") ∈ lw_all := lw_g (lw_at lw_m4 47 rfl) rfl
theorem q880 : (Jvm.Cond.methodLink "SharedTaxis$State" (73 : Nat) ({ cls := "SharedTaxis$State", name := "<init>", desc := "(LSharedTaxis$State;)V" } : Jvm.MethodName)) ∈ lw_all := lw_g (lw_at lw_m4 48 rfl) rfl
theorem q881 : (Jvm.Cond.instanceMethod ({ cls := "SharedTaxis$State", name := "<init>", desc := "(LSharedTaxis$State;)V" } : Jvm.MethodName)) ∈ lw_all := lw_g (lw_at lw_m4 49 rfl) rfl
theorem q882 : (Jvm.Cond.code ({ cls := "SharedTaxis$State", name := "<init>", desc := "(LSharedTaxis$State;)V" } : Jvm.MethodName) prog_12_method_2_code (3 : Nat) (Option.none : Option Jvm.ClassFile.FieldType)) ∈ lw_all := lw_g (lw_at lw_m4 50 rfl) rfl
theorem q883 : (Jvm.Cond.methodLink "SharedTaxis$State" (29 : Nat) ({ cls := "SharedTaxis$State", name := "<init>", desc := "(LSharedTaxis$Town;)V" } : Jvm.MethodName)) ∈ lw_all := lw_g (lw_at lw_m4 51 rfl) rfl
theorem q884 : (Jvm.Cond.methodLink "SharedTaxis$State" (32 : Nat) ({ cls := "java/lang/System", name := "arraycopy", desc := "(Ljava/lang/Object;ILjava/lang/Object;II)V" } : Jvm.MethodName)) ∈ lw_all := lw_g (lw_at lw_m4 52 rfl) rfl
theorem q885 : (Jvm.Cond.interfaceEntry "SharedTaxis$State" (48 : Nat)) ∈ lw_tbl := lw_at lw_m4 53 rfl
theorem q886 : (Jvm.Cond.methodLink "SharedTaxis$State" (48 : Nat) ({ cls := "java/util/List", name := "size", desc := "()I" } : Jvm.MethodName)) ∈ lw_all := lw_g (lw_at lw_m4 54 rfl) rfl
theorem q887 : (Jvm.Cond.interfaceEntry "SharedTaxis$State" (54 : Nat)) ∈ lw_tbl := lw_at lw_m4 55 rfl
theorem q888 : (Jvm.Cond.methodLink "SharedTaxis$State" (54 : Nat) ({ cls := "java/util/List", name := "get", desc := "(I)Ljava/lang/Object;" } : Jvm.MethodName)) ∈ lw_all := lw_g (lw_at lw_m4 56 rfl) rfl
theorem q889 : (Jvm.Cond.classLink "SharedTaxis$State" (58 : Nat) "SharedTaxis$Taxi") ∈ lw_all := lw_g (lw_at lw_m4 57 rfl) rfl
theorem q890 : (Jvm.Cond.methodLink "SharedTaxis$State" (60 : Nat) ({ cls := "SharedTaxis$Taxi", name := "copy", desc := "()LSharedTaxis$Taxi;" } : Jvm.MethodName)) ∈ lw_all := lw_g (lw_at lw_m4 58 rfl) rfl
theorem q938 : (Jvm.Cond.fieldLinkNest "SharedTaxis$State" (85 : Nat) "SharedTaxis$Taxi" "aboard" "Ljava/util/List;" "SharedTaxis") ∈ lw_tbl := lw_at lw_m4 106 rfl
theorem q1039 : (Jvm.Cond.selects "SharedTaxis$State" ({ cls := "java/lang/Object", name := "getClass", desc := "()Ljava/lang/Class;" } : Jvm.MethodName) ({ cls := "java/lang/Object", name := "getClass", desc := "()Ljava/lang/Class;" } : Jvm.MethodName)) ∈ lw_all := lw_g (lw_at lw_m4 207 rfl) rfl
theorem q1074 : (Jvm.Cond.interfaceEntry "SharedTaxis$State" (64 : Nat)) ∈ lw_tbl := lw_at lw_m5 2 rfl
theorem q1075 : (Jvm.Cond.methodLink "SharedTaxis$State" (64 : Nat) ({ cls := "java/util/List", name := "add", desc := "(Ljava/lang/Object;)Z" } : Jvm.MethodName)) ∈ lw_all := lw_g (lw_at lw_m5 3 rfl) rfl
theorem q1091 : (Jvm.Cond.classLink "SharedTaxis$State" (68 : Nat) "SharedTaxis$Ride") ∈ lw_all := lw_g (lw_at lw_m5 19 rfl) rfl
theorem q1092 : (Jvm.Cond.methodLink "SharedTaxis$State" (70 : Nat) ({ cls := "SharedTaxis$Ride", name := "copy", desc := "()LSharedTaxis$Ride;" } : Jvm.MethodName)) ∈ lw_all := lw_g (lw_at lw_m5 20 rfl) rfl
theorem q1117 : (Jvm.Cond.fieldLinkNest "SharedTaxis$State" (93 : Nat) "SharedTaxis$Ride" "persons" "I" "SharedTaxis") ∈ lw_tbl := lw_at lw_m5 45 rfl
theorem q1131 : (Jvm.Cond.fieldLinkNest "SharedTaxis$State" (82 : Nat) "SharedTaxis$Ride" "state" "I" "SharedTaxis") ∈ lw_tbl := lw_at lw_m5 59 rfl
theorem q1564 : (Jvm.Cond.instanceMethod ({ cls := "SharedTaxis$State", name := "ridesIn", desc := "(I)I" } : Jvm.MethodName)) ∈ lw_all := lw_g (lw_at lw_m7 12 rfl) rfl
theorem q1565 : (Jvm.Cond.selects "SharedTaxis$State" ({ cls := "SharedTaxis$State", name := "ridesIn", desc := "(I)I" } : Jvm.MethodName) ({ cls := "SharedTaxis$State", name := "ridesIn", desc := "(I)I" } : Jvm.MethodName)) ∈ lw_all := lw_g (lw_at lw_m7 13 rfl) rfl
theorem q1566 : (Jvm.Cond.code ({ cls := "SharedTaxis$State", name := "ridesIn", desc := "(I)I" } : Jvm.MethodName) prog_12_method_6_code (4 : Nat) (Option.some Jvm.ClassFile.FieldType.int)) ∈ lw_all := lw_g (lw_at lw_m7 14 rfl) rfl
theorem q1605 : (Jvm.Cond.instanceMethod ({ cls := "SharedTaxis$State", name := "personsIn", desc := "(LSharedTaxis$Taxi;)I" } : Jvm.MethodName)) ∈ lw_all := lw_g (lw_at lw_m7 53 rfl) rfl
theorem q1606 : (Jvm.Cond.selects "SharedTaxis$State" ({ cls := "SharedTaxis$State", name := "personsIn", desc := "(LSharedTaxis$Taxi;)I" } : Jvm.MethodName) ({ cls := "SharedTaxis$State", name := "personsIn", desc := "(LSharedTaxis$Taxi;)I" } : Jvm.MethodName)) ∈ lw_all := lw_g (lw_at lw_m7 54 rfl) rfl
theorem q1607 : (Jvm.Cond.code ({ cls := "SharedTaxis$State", name := "personsIn", desc := "(LSharedTaxis$Taxi;)I" } : Jvm.MethodName) prog_12_method_7_code (4 : Nat) (Option.some Jvm.ClassFile.FieldType.int)) ∈ lw_all := lw_g (lw_at lw_m7 55 rfl) rfl
theorem q1608 : (Jvm.Cond.classLink "SharedTaxis$State" (88 : Nat) "java/lang/Integer") ∈ lw_all := lw_g (lw_at lw_m7 56 rfl) rfl
theorem q1609 : (Jvm.Cond.methodLink "SharedTaxis$State" (90 : Nat) ({ cls := "java/lang/Integer", name := "intValue", desc := "()I" } : Jvm.MethodName)) ∈ lw_all := lw_g (lw_at lw_m7 57 rfl) rfl
theorem q1968 : (Jvm.Cond.selects "SharedTaxis$State" ({ cls := "java/lang/Object", name := "equals", desc := "(Ljava/lang/Object;)Z" } : Jvm.MethodName) ({ cls := "java/lang/Object", name := "equals", desc := "(Ljava/lang/Object;)Z" } : Jvm.MethodName)) ∈ lw_all := lw_g (lw_at lw_m8 176 rfl) rfl
theorem q1990 : (Jvm.Cond.instanceMethod ({ cls := "SharedTaxis$State", name := "amount", desc := "(II)I" } : Jvm.MethodName)) ∈ lw_all := lw_g (lw_at lw_m8 198 rfl) rfl
theorem q1991 : (Jvm.Cond.selects "SharedTaxis$State" ({ cls := "SharedTaxis$State", name := "amount", desc := "(II)I" } : Jvm.MethodName) ({ cls := "SharedTaxis$State", name := "amount", desc := "(II)I" } : Jvm.MethodName)) ∈ lw_all := lw_g (lw_at lw_m8 199 rfl) rfl
theorem q1992 : (Jvm.Cond.code ({ cls := "SharedTaxis$State", name := "amount", desc := "(II)I" } : Jvm.MethodName) prog_12_method_4_code (5 : Nat) (Option.some Jvm.ClassFile.FieldType.int)) ∈ lw_all := lw_g (lw_at lw_m8 200 rfl) rfl
theorem q1993 : (Jvm.Cond.methodLink "SharedTaxis$State" (76 : Nat) ({ cls := "java/lang/Math", name := "min", desc := "(II)I" } : Jvm.MethodName)) ∈ lw_all := lw_g (lw_at lw_m8 201 rfl) rfl
theorem q1995 : (Jvm.Cond.instanceMethod ({ cls := "SharedTaxis$State", name := "part", desc := "(III)I" } : Jvm.MethodName)) ∈ lw_all := lw_g (lw_at lw_m8 203 rfl) rfl
theorem q1996 : (Jvm.Cond.selects "SharedTaxis$State" ({ cls := "SharedTaxis$State", name := "part", desc := "(III)I" } : Jvm.MethodName) ({ cls := "SharedTaxis$State", name := "part", desc := "(III)I" } : Jvm.MethodName)) ∈ lw_all := lw_g (lw_at lw_m8 204 rfl) rfl
theorem q1997 : (Jvm.Cond.code ({ cls := "SharedTaxis$State", name := "part", desc := "(III)I" } : Jvm.MethodName) prog_12_method_5_code (4 : Nat) (Option.some Jvm.ClassFile.FieldType.int)) ∈ lw_all := lw_g (lw_at lw_m8 205 rfl) rfl
theorem q3354 : (Jvm.Cond.castable "SharedTaxis$State" "java/lang/Object") ∈ lw_tbl := lw_at lw_m14 122 rfl
theorem q160 : (Jvm.Cond.initialized "SharedTaxis$Words$1") ∈ lw_all := lw_g (lw_at lw_m1 48 rfl) rfl
theorem q260 : (Jvm.Cond.fieldLinkNest "SharedTaxis$Words$1" (59 : Nat) "SharedTaxis$State" "rides" "Ljava/util/List;" "SharedTaxis") ∈ lw_tbl := lw_at lw_m1 148 rfl
theorem q302 : (Jvm.Cond.fieldLinkNest "SharedTaxis$Words$1" (55 : Nat) "SharedTaxis" "state" "LSharedTaxis$State;" "SharedTaxis") ∈ lw_tbl := lw_at lw_m1 190 rfl
theorem q371 : (Jvm.Cond.castable "SharedTaxis$Words$1" "java/util/Iterator") ∈ lw_tbl := lw_at lw_m2 19 rfl
theorem q372 : (Jvm.Cond.selects "SharedTaxis$Words$1" ({ cls := "java/util/Iterator", name := "hasNext", desc := "()Z" } : Jvm.MethodName) ({ cls := "SharedTaxis$Words$1", name := "hasNext", desc := "()Z" } : Jvm.MethodName)) ∈ lw_all := lw_g (lw_at lw_m2 20 rfl) rfl
theorem q373 : (Jvm.Cond.unhidden "SharedTaxis$Words$1" "hasNext" "()Z") ∈ lw_tbl := lw_at lw_m2 21 rfl
theorem q374 : (Jvm.Cond.instanceMethod ({ cls := "SharedTaxis$Words$1", name := "hasNext", desc := "()Z" } : Jvm.MethodName)) ∈ lw_all := lw_g (lw_at lw_m2 22 rfl) rfl
theorem q375 : (Jvm.Cond.publicMethod ({ cls := "SharedTaxis$Words$1", name := "hasNext", desc := "()Z" } : Jvm.MethodName)) ∈ lw_tbl := lw_at lw_m2 23 rfl
theorem q376 : (Jvm.Cond.code ({ cls := "SharedTaxis$Words$1", name := "hasNext", desc := "()Z" } : Jvm.MethodName) prog_23_method_2_code (1 : Nat) (Option.some Jvm.ClassFile.FieldType.boolean)) ∈ lw_all := lw_g (lw_at lw_m2 24 rfl) rfl
theorem q377 : (Jvm.Cond.interfaceEntry "SharedTaxis$Words$1" (29 : Nat)) ∈ lw_tbl := lw_at lw_m2 25 rfl
theorem q378 : (Jvm.Cond.methodLink "SharedTaxis$Words$1" (29 : Nat) ({ cls := "java/util/List", name := "size", desc := "()I" } : Jvm.MethodName)) ∈ lw_all := lw_g (lw_at lw_m2 26 rfl) rfl
theorem q402 : (Jvm.Cond.selects "SharedTaxis$Words$1" ({ cls := "java/util/Iterator", name := "next", desc := "()Ljava/lang/Object;" } : Jvm.MethodName) ({ cls := "SharedTaxis$Words$1", name := "next", desc := "()Ljava/lang/Object;" } : Jvm.MethodName)) ∈ lw_all := lw_g (lw_at lw_m2 50 rfl) rfl
theorem q403 : (Jvm.Cond.unhidden "SharedTaxis$Words$1" "next" "()Ljava/lang/Object;") ∈ lw_tbl := lw_at lw_m2 51 rfl
theorem q404 : (Jvm.Cond.instanceMethod ({ cls := "SharedTaxis$Words$1", name := "next", desc := "()Ljava/lang/Object;" } : Jvm.MethodName)) ∈ lw_all := lw_g (lw_at lw_m2 52 rfl) rfl
theorem q405 : (Jvm.Cond.publicMethod ({ cls := "SharedTaxis$Words$1", name := "next", desc := "()Ljava/lang/Object;" } : Jvm.MethodName)) ∈ lw_tbl := lw_at lw_m2 53 rfl
theorem q406 : (Jvm.Cond.code ({ cls := "SharedTaxis$Words$1", name := "next", desc := "()Ljava/lang/Object;" } : Jvm.MethodName) prog_23_method_4_code (1 : Nat) (Option.some (Jvm.ClassFile.FieldType.object "java/lang/Object"))) ∈ lw_all := lw_g (lw_at lw_m2 54 rfl) rfl
theorem q407 : (Jvm.Cond.methodLink "SharedTaxis$Words$1" (99 : Nat) ({ cls := "SharedTaxis$Words$1", name := "next", desc := "()Ljava/lang/String;" } : Jvm.MethodName)) ∈ lw_all := lw_g (lw_at lw_m2 55 rfl) rfl
theorem q408 : (Jvm.Cond.instanceMethod ({ cls := "SharedTaxis$Words$1", name := "next", desc := "()Ljava/lang/String;" } : Jvm.MethodName)) ∈ lw_all := lw_g (lw_at lw_m2 56 rfl) rfl
theorem q409 : (Jvm.Cond.selects "SharedTaxis$Words$1" ({ cls := "SharedTaxis$Words$1", name := "next", desc := "()Ljava/lang/String;" } : Jvm.MethodName) ({ cls := "SharedTaxis$Words$1", name := "next", desc := "()Ljava/lang/String;" } : Jvm.MethodName)) ∈ lw_all := lw_g (lw_at lw_m2 57 rfl) rfl
theorem q410 : (Jvm.Cond.code ({ cls := "SharedTaxis$Words$1", name := "next", desc := "()Ljava/lang/String;" } : Jvm.MethodName) prog_23_method_3_code (3 : Nat) (Option.some (Jvm.ClassFile.FieldType.object "java/lang/String"))) ∈ lw_all := lw_g (lw_at lw_m2 58 rfl) rfl
theorem q411 : (Jvm.Cond.methodLink "SharedTaxis$Words$1" (35 : Nat) ({ cls := "SharedTaxis$Words$1", name := "hasNext", desc := "()Z" } : Jvm.MethodName)) ∈ lw_all := lw_g (lw_at lw_m2 59 rfl) rfl
theorem q412 : (Jvm.Cond.methodLinkNest "SharedTaxis$Words$1" (39 : Nat) ({ cls := "SharedTaxis", name := "requireExists", desc := "(Z)V" } : Jvm.MethodName) "SharedTaxis") ∈ lw_tbl := lw_at lw_m2 60 rfl
theorem q485 : (Jvm.Cond.interfaceEntry "SharedTaxis$Words$1" (45 : Nat)) ∈ lw_tbl := lw_at lw_m2 133 rfl
theorem q486 : (Jvm.Cond.methodLink "SharedTaxis$Words$1" (45 : Nat) ({ cls := "java/util/List", name := "get", desc := "(I)Ljava/lang/Object;" } : Jvm.MethodName)) ∈ lw_all := lw_g (lw_at lw_m2 134 rfl) rfl
theorem q504 : (Jvm.Cond.classLink "SharedTaxis$Words$1" (49 : Nat) "SharedTaxis$Stop") ∈ lw_all := lw_g (lw_at lw_m2 152 rfl) rfl
theorem q505 : (Jvm.Cond.classLink "SharedTaxis$Words$1" (67 : Nat) "SharedTaxis$Ride") ∈ lw_all := lw_g (lw_at lw_m2 153 rfl) rfl
theorem q506 : (Jvm.Cond.classLink "SharedTaxis$Words$1" (69 : Nat) "java/lang/StringBuilder") ∈ lw_all := lw_g (lw_at lw_m2 154 rfl) rfl
theorem q508 : (Jvm.Cond.methodLink "SharedTaxis$Words$1" (71 : Nat) ({ cls := "java/lang/StringBuilder", name := "<init>", desc := "()V" } : Jvm.MethodName)) ∈ lw_all := lw_g (lw_at lw_m2 156 rfl) rfl
theorem q537 : (Jvm.Cond.stringRef "SharedTaxis$Words$1" (76 : Nat) "+") ∈ lw_tbl := lw_at lw_m2 185 rfl
theorem q538 : (Jvm.Cond.stringRef "SharedTaxis$Words$1" (78 : Nat) "-") ∈ lw_tbl := lw_at lw_m2 186 rfl
theorem q539 : (Jvm.Cond.methodLink "SharedTaxis$Words$1" (80 : Nat) ({ cls := "java/lang/StringBuilder", name := "append", desc := "(Ljava/lang/String;)Ljava/lang/StringBuilder;" } : Jvm.MethodName)) ∈ lw_all := lw_g (lw_at lw_m2 187 rfl) rfl
theorem q659 : (Jvm.Cond.methodLink "SharedTaxis$Words$1" (84 : Nat) ({ cls := "java/lang/StringBuilder", name := "append", desc := "(I)Ljava/lang/StringBuilder;" } : Jvm.MethodName)) ∈ lw_all := lw_g (lw_at lw_m3 67 rfl) rfl
theorem q684 : (Jvm.Cond.stringRef "SharedTaxis$Words$1" (87 : Nat) "@") ∈ lw_tbl := lw_at lw_m3 92 rfl
theorem q685 : (Jvm.Cond.methodLink "SharedTaxis$Words$1" (95 : Nat) ({ cls := "java/lang/StringBuilder", name := "toString", desc := "()Ljava/lang/String;" } : Jvm.MethodName)) ∈ lw_all := lw_g (lw_at lw_m3 93 rfl) rfl
theorem q931 : (Jvm.Cond.fieldLinkNest "SharedTaxis$Words$1" (23 : Nat) "SharedTaxis$Taxi" "stops" "Ljava/util/List;" "SharedTaxis") ∈ lw_tbl := lw_at lw_m4 99 rfl
theorem q1047 : (Jvm.Cond.selects "SharedTaxis$Words$1" ({ cls := "java/lang/Object", name := "getClass", desc := "()Ljava/lang/Class;" } : Jvm.MethodName) ({ cls := "java/lang/Object", name := "getClass", desc := "()Ljava/lang/Class;" } : Jvm.MethodName)) ∈ lw_all := lw_g (lw_at lw_m4 215 rfl) rfl
theorem q1108 : (Jvm.Cond.fieldLinkNest "SharedTaxis$Words$1" (89 : Nat) "SharedTaxis$Ride" "from" "I" "SharedTaxis") ∈ lw_tbl := lw_at lw_m5 36 rfl
theorem q1112 : (Jvm.Cond.fieldLinkNest "SharedTaxis$Words$1" (92 : Nat) "SharedTaxis$Ride" "to" "I" "SharedTaxis") ∈ lw_tbl := lw_at lw_m5 40 rfl
theorem q1818 : (Jvm.Cond.fieldLinkNest "SharedTaxis$Words$1" (64 : Nat) "SharedTaxis$Stop" "ride" "I" "SharedTaxis") ∈ lw_tbl := lw_at lw_m8 26 rfl
theorem q1823 : (Jvm.Cond.fieldLinkNest "SharedTaxis$Words$1" (72 : Nat) "SharedTaxis$Stop" "pickup" "Z" "SharedTaxis") ∈ lw_tbl := lw_at lw_m8 31 rfl
theorem q1976 : (Jvm.Cond.selects "SharedTaxis$Words$1" ({ cls := "java/lang/Object", name := "equals", desc := "(Ljava/lang/Object;)Z" } : Jvm.MethodName) ({ cls := "java/lang/Object", name := "equals", desc := "(Ljava/lang/Object;)Z" } : Jvm.MethodName)) ∈ lw_all := lw_g (lw_at lw_m8 184 rfl) rfl
theorem q2174 : (Jvm.Cond.unhidden "SharedTaxis$Words$1" "remove" "()V") ∈ lw_tbl := lw_at lw_m9 142 rfl
theorem q2400 : (Jvm.Cond.fieldLinkNest "SharedTaxis$Words$1" (17 : Nat) "SharedTaxis$Words" "taxi" "LSharedTaxis$Taxi;" "SharedTaxis") ∈ lw_tbl := lw_at lw_m10 128 rfl
theorem q2402 : (Jvm.Cond.fieldLink "SharedTaxis$Words$1" (51 : Nat) "SharedTaxis$Words" "this$0" "LSharedTaxis;") ∈ lw_all := lw_g (lw_at lw_m10 130 rfl) rfl
theorem q2419 : (Jvm.Cond.instantiable "SharedTaxis$Words$1" (2 : Nat)) ∈ lw_all := lw_g (lw_at lw_m10 147 rfl) rfl
theorem q2421 : (Jvm.Cond.instanceMethod ({ cls := "SharedTaxis$Words$1", name := "<init>", desc := "(LSharedTaxis$Words;)V" } : Jvm.MethodName)) ∈ lw_all := lw_g (lw_at lw_m10 149 rfl) rfl
theorem q2422 : (Jvm.Cond.code ({ cls := "SharedTaxis$Words$1", name := "<init>", desc := "(LSharedTaxis$Words;)V" } : Jvm.MethodName) prog_23_method_1_code (2 : Nat) (Option.none : Option Jvm.ClassFile.FieldType)) ∈ lw_all := lw_g (lw_at lw_m10 150 rfl) rfl
theorem q2423 : (Jvm.Cond.methodLink "SharedTaxis$Words$1" (7 : Nat) ({ cls := "java/lang/Object", name := "<init>", desc := "()V" } : Jvm.MethodName)) ∈ lw_all := lw_g (lw_at lw_m10 151 rfl) rfl
theorem q2424 : (Jvm.Cond.fieldLink "SharedTaxis$Words$1" (13 : Nat) "SharedTaxis$Words$1" "next" "I") ∈ lw_all := lw_g (lw_at lw_m10 152 rfl) rfl
theorem q2425 : (Jvm.Cond.fieldLink "SharedTaxis$Words$1" (1 : Nat) "SharedTaxis$Words$1" "this$1" "LSharedTaxis$Words;") ∈ lw_all := lw_g (lw_at lw_m10 153 rfl) rfl
theorem q2426 : (Jvm.Cond.lays "SharedTaxis$Words$1" "SharedTaxis$Words$1" "next" "I") ∈ lw_all := lw_g (lw_at lw_m10 154 rfl) rfl
theorem q2427 : (Jvm.Cond.soleField "SharedTaxis$Words$1" "next") ∈ lw_all := lw_g (lw_at lw_m10 155 rfl) rfl
theorem q2428 : (Jvm.Cond.laysFinal "SharedTaxis$Words$1" "SharedTaxis$Words$1" "this$1" "LSharedTaxis$Words;") ∈ lw_all := lw_g (lw_at lw_m10 156 rfl) rfl
theorem q2429 : (Jvm.Cond.soleField "SharedTaxis$Words$1" "this$1") ∈ lw_all := lw_g (lw_at lw_m10 157 rfl) rfl
theorem q2430 : (Jvm.Cond.superclass "SharedTaxis$Words$1" "java/lang/Object") ∈ lw_all := lw_g (lw_at lw_m10 158 rfl) rfl
theorem q3335 : (Jvm.Cond.selects "SharedTaxis$Words$1" ({ cls := "SharedTaxis$Words$1", name := "hasNext", desc := "()Z" } : Jvm.MethodName) ({ cls := "SharedTaxis$Words$1", name := "hasNext", desc := "()Z" } : Jvm.MethodName)) ∈ lw_all := lw_g (lw_at lw_m14 103 rfl) rfl
theorem q3382 : (Jvm.Cond.castable "SharedTaxis$Words$1" "java/lang/Object") ∈ lw_tbl := lw_at lw_m14 150 rfl
theorem q162 : (Jvm.Cond.initialized "SharedTaxis$QueryParser") ∈ lw_all := lw_g (lw_at lw_m1 50 rfl) rfl
theorem q1033 : (Jvm.Cond.selects "SharedTaxis$QueryParser" ({ cls := "java/lang/Object", name := "getClass", desc := "()Ljava/lang/Class;" } : Jvm.MethodName) ({ cls := "java/lang/Object", name := "getClass", desc := "()Ljava/lang/Class;" } : Jvm.MethodName)) ∈ lw_all := lw_g (lw_at lw_m4 201 rfl) rfl
theorem q1304 : (Jvm.Cond.fieldLinkNest "SharedTaxis$QueryParser" (42 : Nat) "SharedTaxis$Scanner" "kind" "I" "SharedTaxis") ∈ lw_tbl := lw_at lw_m5 232 rfl
theorem q1309 : (Jvm.Cond.fieldLinkNest "SharedTaxis$QueryParser" (73 : Nat) "SharedTaxis$Scanner" "begin" "I" "SharedTaxis") ∈ lw_tbl := lw_at lw_m5 237 rfl
theorem q1313 : (Jvm.Cond.fieldLinkNest "SharedTaxis$QueryParser" (115 : Nat) "SharedTaxis$Scanner" "word" "Ljava/lang/String;" "SharedTaxis") ∈ lw_tbl := lw_at lw_m6 1 rfl
theorem q1962 : (Jvm.Cond.selects "SharedTaxis$QueryParser" ({ cls := "java/lang/Object", name := "equals", desc := "(Ljava/lang/Object;)Z" } : Jvm.MethodName) ({ cls := "java/lang/Object", name := "equals", desc := "(Ljava/lang/Object;)Z" } : Jvm.MethodName)) ∈ lw_all := lw_g (lw_at lw_m8 170 rfl) rfl
theorem q2473 : (Jvm.Cond.instantiable "SharedTaxis$QueryParser" (4 : Nat)) ∈ lw_all := lw_g (lw_at lw_m10 201 rfl) rfl
theorem q2476 : (Jvm.Cond.instanceMethod ({ cls := "SharedTaxis$QueryParser", name := "<init>", desc := "(LSharedTaxis$Scanner;)V" } : Jvm.MethodName)) ∈ lw_all := lw_g (lw_at lw_m10 204 rfl) rfl
theorem q2477 : (Jvm.Cond.code ({ cls := "SharedTaxis$QueryParser", name := "<init>", desc := "(LSharedTaxis$Scanner;)V" } : Jvm.MethodName) prog_6_method_1_code (2 : Nat) (Option.none : Option Jvm.ClassFile.FieldType)) ∈ lw_all := lw_g (lw_at lw_m10 205 rfl) rfl
theorem q2478 : (Jvm.Cond.methodLink "SharedTaxis$QueryParser" (3 : Nat) ({ cls := "java/lang/Object", name := "<init>", desc := "()V" } : Jvm.MethodName)) ∈ lw_all := lw_g (lw_at lw_m10 206 rfl) rfl
theorem q2479 : (Jvm.Cond.stringRef "SharedTaxis$QueryParser" (15 : Nat) "first") ∈ lw_tbl := lw_at lw_m10 207 rfl
theorem q2480 : (Jvm.Cond.methodLink "SharedTaxis$QueryParser" (17 : Nat) ({ cls := "SharedTaxis$Scanner", name := "isWord", desc := "(Ljava/lang/String;)Z" } : Jvm.MethodName)) ∈ lw_all := lw_g (lw_at lw_m10 208 rfl) rfl
theorem q2481 : (Jvm.Cond.stringRef "SharedTaxis$QueryParser" (26 : Nat) "many") ∈ lw_tbl := lw_at lw_m10 209 rfl
theorem q2482 : (Jvm.Cond.methodLink "SharedTaxis$QueryParser" (28 : Nat) ({ cls := "SharedTaxis$Scanner", name := "wrong", desc := "()LSharedTaxis$SyntaxException;" } : Jvm.MethodName)) ∈ lw_all := lw_g (lw_at lw_m10 210 rfl) rfl
theorem q2483 : (Jvm.Cond.methodLink "SharedTaxis$QueryParser" (32 : Nat) ({ cls := "SharedTaxis$Scanner", name := "advance", desc := "()V" } : Jvm.MethodName)) ∈ lw_all := lw_g (lw_at lw_m10 211 rfl) rfl
theorem q2484 : (Jvm.Cond.methodLink "SharedTaxis$QueryParser" (35 : Nat) ({ cls := "SharedTaxis$QueryParser", name := "test", desc := "()LSharedTaxis$Test;" } : Jvm.MethodName)) ∈ lw_all := lw_g (lw_at lw_m10 212 rfl) rfl
theorem q2485 : (Jvm.Cond.privateMethod ({ cls := "SharedTaxis$QueryParser", name := "test", desc := "()LSharedTaxis$Test;" } : Jvm.MethodName)) ∈ lw_tbl := lw_at lw_m10 213 rfl
theorem q2486 : (Jvm.Cond.instanceMethod ({ cls := "SharedTaxis$QueryParser", name := "test", desc := "()LSharedTaxis$Test;" } : Jvm.MethodName)) ∈ lw_all := lw_g (lw_at lw_m10 214 rfl) rfl
theorem q2487 : (Jvm.Cond.code ({ cls := "SharedTaxis$QueryParser", name := "test", desc := "()LSharedTaxis$Test;" } : Jvm.MethodName) prog_6_method_2_code (2 : Nat) (Option.some (Jvm.ClassFile.FieldType.object "SharedTaxis$Test"))) ∈ lw_all := lw_g (lw_at lw_m10 215 rfl) rfl
theorem q2488 : (Jvm.Cond.classLink "SharedTaxis$QueryParser" (46 : Nat) "SharedTaxis$Tests") ∈ lw_all := lw_g (lw_at lw_m10 216 rfl) rfl
theorem q2490 : (Jvm.Cond.methodLink "SharedTaxis$QueryParser" (48 : Nat) ({ cls := "SharedTaxis$Tests", name := "<init>", desc := "(Z)V" } : Jvm.MethodName)) ∈ lw_all := lw_g (lw_at lw_m10 218 rfl) rfl
theorem q2506 : (Jvm.Cond.methodLink "SharedTaxis$QueryParser" (51 : Nat) ({ cls := "SharedTaxis$QueryParser", name := "conjunction", desc := "()LSharedTaxis$Test;" } : Jvm.MethodName)) ∈ lw_all := lw_g (lw_at lw_m10 234 rfl) rfl
theorem q2507 : (Jvm.Cond.privateMethod ({ cls := "SharedTaxis$QueryParser", name := "conjunction", desc := "()LSharedTaxis$Test;" } : Jvm.MethodName)) ∈ lw_tbl := lw_at lw_m10 235 rfl
theorem q2508 : (Jvm.Cond.instanceMethod ({ cls := "SharedTaxis$QueryParser", name := "conjunction", desc := "()LSharedTaxis$Test;" } : Jvm.MethodName)) ∈ lw_all := lw_g (lw_at lw_m10 236 rfl) rfl
theorem q2509 : (Jvm.Cond.code ({ cls := "SharedTaxis$QueryParser", name := "conjunction", desc := "()LSharedTaxis$Test;" } : Jvm.MethodName) prog_6_method_3_code (2 : Nat) (Option.some (Jvm.ClassFile.FieldType.object "SharedTaxis$Test"))) ∈ lw_all := lw_g (lw_at lw_m10 237 rfl) rfl
theorem q2510 : (Jvm.Cond.methodLink "SharedTaxis$QueryParser" (63 : Nat) ({ cls := "SharedTaxis$QueryParser", name := "factor", desc := "()LSharedTaxis$Test;" } : Jvm.MethodName)) ∈ lw_all := lw_g (lw_at lw_m10 238 rfl) rfl
theorem q2511 : (Jvm.Cond.privateMethod ({ cls := "SharedTaxis$QueryParser", name := "factor", desc := "()LSharedTaxis$Test;" } : Jvm.MethodName)) ∈ lw_tbl := lw_at lw_m10 239 rfl
theorem q2512 : (Jvm.Cond.instanceMethod ({ cls := "SharedTaxis$QueryParser", name := "factor", desc := "()LSharedTaxis$Test;" } : Jvm.MethodName)) ∈ lw_all := lw_g (lw_at lw_m11 0 rfl) rfl
theorem q2513 : (Jvm.Cond.code ({ cls := "SharedTaxis$QueryParser", name := "factor", desc := "()LSharedTaxis$Test;" } : Jvm.MethodName) prog_6_method_5_code (2 : Nat) (Option.some (Jvm.ClassFile.FieldType.object "SharedTaxis$Test"))) ∈ lw_all := lw_g (lw_at lw_m11 1 rfl) rfl
theorem q2514 : (Jvm.Cond.stringRef "SharedTaxis$QueryParser" (79 : Nat) "not") ∈ lw_tbl := lw_at lw_m11 2 rfl
theorem q2515 : (Jvm.Cond.methodLink "SharedTaxis$QueryParser" (81 : Nat) ({ cls := "SharedTaxis$QueryParser", name := "enter", desc := "()V" } : Jvm.MethodName)) ∈ lw_all := lw_g (lw_at lw_m11 3 rfl) rfl
theorem q2516 : (Jvm.Cond.privateMethod ({ cls := "SharedTaxis$QueryParser", name := "enter", desc := "()V" } : Jvm.MethodName)) ∈ lw_tbl := lw_at lw_m11 4 rfl
theorem q2517 : (Jvm.Cond.instanceMethod ({ cls := "SharedTaxis$QueryParser", name := "enter", desc := "()V" } : Jvm.MethodName)) ∈ lw_all := lw_g (lw_at lw_m11 5 rfl) rfl
theorem q2518 : (Jvm.Cond.code ({ cls := "SharedTaxis$QueryParser", name := "enter", desc := "()V" } : Jvm.MethodName) prog_6_method_4_code (1 : Nat) (Option.none : Option Jvm.ClassFile.FieldType)) ∈ lw_all := lw_g (lw_at lw_m11 6 rfl) rfl
theorem q2519 : (Jvm.Cond.classLink "SharedTaxis$QueryParser" (71 : Nat) "SharedTaxis$LimitException") ∈ lw_all := lw_g (lw_at lw_m11 7 rfl) rfl
theorem q2520 : (Jvm.Cond.methodLink "SharedTaxis$QueryParser" (76 : Nat) ({ cls := "SharedTaxis$LimitException", name := "<init>", desc := "(I)V" } : Jvm.MethodName)) ∈ lw_all := lw_g (lw_at lw_m11 8 rfl) rfl
theorem q2521 : (Jvm.Cond.static ({ cls := "SharedTaxis$QueryParser", name := "lambda$factor$0", desc := "(LSharedTaxis$Test;LSharedTaxis$State;I)Z" } : Jvm.MethodName)) ∈ lw_all := lw_g (lw_at lw_m11 9 rfl) rfl
theorem q2522 : (Jvm.Cond.code ({ cls := "SharedTaxis$QueryParser", name := "lambda$factor$0", desc := "(LSharedTaxis$Test;LSharedTaxis$State;I)Z" } : Jvm.MethodName) prog_6_method_10_code (3 : Nat) (Option.some Jvm.ClassFile.FieldType.boolean)) ∈ lw_all := lw_g (lw_at lw_m11 10 rfl) rfl
theorem q2523 : (Jvm.Cond.interfaceEntry "SharedTaxis$QueryParser" (128 : Nat)) ∈ lw_tbl := lw_at lw_m11 11 rfl
theorem q2524 : (Jvm.Cond.methodLink "SharedTaxis$QueryParser" (128 : Nat) ({ cls := "SharedTaxis$Test", name := "holds", desc := "(LSharedTaxis$State;I)Z" } : Jvm.MethodName)) ∈ lw_all := lw_g (lw_at lw_m11 12 rfl) rfl
theorem q2535 : (Jvm.Cond.methodLink "SharedTaxis$QueryParser" (88 : Nat) ({ cls := "SharedTaxis$Scanner", name := "isAt", desc := "(C)Z" } : Jvm.MethodName)) ∈ lw_all := lw_g (lw_at lw_m11 23 rfl) rfl
theorem q2536 : (Jvm.Cond.methodLink "SharedTaxis$QueryParser" (92 : Nat) ({ cls := "SharedTaxis$Scanner", name := "expect", desc := "(C)V" } : Jvm.MethodName)) ∈ lw_all := lw_g (lw_at lw_m11 24 rfl) rfl
theorem q2537 : (Jvm.Cond.methodLink "SharedTaxis$QueryParser" (96 : Nat) ({ cls := "SharedTaxis$QueryParser", name := "comparison", desc := "()LSharedTaxis$Test;" } : Jvm.MethodName)) ∈ lw_all := lw_g (lw_at lw_m11 25 rfl) rfl
theorem q2538 : (Jvm.Cond.privateMethod ({ cls := "SharedTaxis$QueryParser", name := "comparison", desc := "()LSharedTaxis$Test;" } : Jvm.MethodName)) ∈ lw_tbl := lw_at lw_m11 26 rfl
theorem q2539 : (Jvm.Cond.instanceMethod ({ cls := "SharedTaxis$QueryParser", name := "comparison", desc := "()LSharedTaxis$Test;" } : Jvm.MethodName)) ∈ lw_all := lw_g (lw_at lw_m11 27 rfl) rfl
theorem q2540 : (Jvm.Cond.code ({ cls := "SharedTaxis$QueryParser", name := "comparison", desc := "()LSharedTaxis$Test;" } : Jvm.MethodName) prog_6_method_6_code (5 : Nat) (Option.some (Jvm.ClassFile.FieldType.object "SharedTaxis$Test"))) ∈ lw_all := lw_g (lw_at lw_m11 28 rfl) rfl
theorem q2541 : (Jvm.Cond.methodLink "SharedTaxis$QueryParser" (99 : Nat) ({ cls := "SharedTaxis$QueryParser", name := "value", desc := "()LSharedTaxis$Value;" } : Jvm.MethodName)) ∈ lw_all := lw_g (lw_at lw_m11 29 rfl) rfl
theorem q2542 : (Jvm.Cond.privateMethod ({ cls := "SharedTaxis$QueryParser", name := "value", desc := "()LSharedTaxis$Value;" } : Jvm.MethodName)) ∈ lw_tbl := lw_at lw_m11 30 rfl
theorem q2543 : (Jvm.Cond.instanceMethod ({ cls := "SharedTaxis$QueryParser", name := "value", desc := "()LSharedTaxis$Value;" } : Jvm.MethodName)) ∈ lw_all := lw_g (lw_at lw_m11 31 rfl) rfl
theorem q2544 : (Jvm.Cond.code ({ cls := "SharedTaxis$QueryParser", name := "value", desc := "()LSharedTaxis$Value;" } : Jvm.MethodName) prog_6_method_7_code (2 : Nat) (Option.some (Jvm.ClassFile.FieldType.object "SharedTaxis$Value"))) ∈ lw_all := lw_g (lw_at lw_m11 32 rfl) rfl
theorem q2545 : (Jvm.Cond.constant "SharedTaxis$QueryParser" (106 : Nat) (99999 : Int32)) ∈ lw_all := lw_g (lw_at lw_m11 33 rfl) rfl
theorem q2546 : (Jvm.Cond.methodLink "SharedTaxis$QueryParser" (107 : Nat) ({ cls := "SharedTaxis$Scanner", name := "number", desc := "(II)I" } : Jvm.MethodName)) ∈ lw_all := lw_g (lw_at lw_m11 34 rfl) rfl
theorem q2547 : (Jvm.Cond.static ({ cls := "SharedTaxis$QueryParser", name := "lambda$value$2", desc := "(ILSharedTaxis$State;I)I" } : Jvm.MethodName)) ∈ lw_all := lw_g (lw_at lw_m11 35 rfl) rfl
theorem q2548 : (Jvm.Cond.code ({ cls := "SharedTaxis$QueryParser", name := "lambda$value$2", desc := "(ILSharedTaxis$State;I)I" } : Jvm.MethodName) prog_6_method_8_code (3 : Nat) (Option.some Jvm.ClassFile.FieldType.int)) ∈ lw_all := lw_g (lw_at lw_m11 36 rfl) rfl
theorem q2549 : (Jvm.Cond.methodLinkNest "SharedTaxis$QueryParser" (119 : Nat) ({ cls := "SharedTaxis", name := "property", desc := "(Ljava/lang/String;)LSharedTaxis$Value;" } : Jvm.MethodName) "SharedTaxis") ∈ lw_tbl := lw_at lw_m11 37 rfl
theorem q2637 : (Jvm.Cond.static ({ cls := "SharedTaxis$QueryParser", name := "lambda$comparison$1", desc := "(LSharedTaxis$Value;LSharedTaxis$Value;ZZLSharedTaxis$State;I)Z" } : Jvm.MethodName)) ∈ lw_all := lw_g (lw_at lw_m11 125 rfl) rfl
theorem q2638 : (Jvm.Cond.code ({ cls := "SharedTaxis$QueryParser", name := "lambda$comparison$1", desc := "(LSharedTaxis$Value;LSharedTaxis$Value;ZZLSharedTaxis$State;I)Z" } : Jvm.MethodName) prog_6_method_9_code (7 : Nat) (Option.some Jvm.ClassFile.FieldType.boolean)) ∈ lw_all := lw_g (lw_at lw_m11 126 rfl) rfl
theorem q2639 : (Jvm.Cond.interfaceEntry "SharedTaxis$QueryParser" (123 : Nat)) ∈ lw_tbl := lw_at lw_m11 127 rfl
theorem q2640 : (Jvm.Cond.methodLink "SharedTaxis$QueryParser" (123 : Nat) ({ cls := "SharedTaxis$Value", name := "of", desc := "(LSharedTaxis$State;I)I" } : Jvm.MethodName)) ∈ lw_all := lw_g (lw_at lw_m11 128 rfl) rfl
theorem q2643 : (Jvm.Cond.methodLink "SharedTaxis$QueryParser" (54 : Nat) ({ cls := "SharedTaxis$Tests", name := "add", desc := "(LSharedTaxis$Test;)V" } : Jvm.MethodName)) ∈ lw_all := lw_g (lw_at lw_m11 131 rfl) rfl
theorem q2648 : (Jvm.Cond.stringRef "SharedTaxis$QueryParser" (66 : Nat) "and") ∈ lw_tbl := lw_at lw_m11 136 rfl
theorem q2649 : (Jvm.Cond.methodLink "SharedTaxis$QueryParser" (60 : Nat) ({ cls := "SharedTaxis$Scanner", name := "accept", desc := "(Ljava/lang/String;)Z" } : Jvm.MethodName)) ∈ lw_all := lw_g (lw_at lw_m11 137 rfl) rfl
theorem q2650 : (Jvm.Cond.stringRef "SharedTaxis$QueryParser" (58 : Nat) "or") ∈ lw_tbl := lw_at lw_m11 138 rfl
theorem q2651 : (Jvm.Cond.fieldLink "SharedTaxis$QueryParser" (9 : Nat) "SharedTaxis$QueryParser" "scanner" "LSharedTaxis$Scanner;") ∈ lw_all := lw_g (lw_at lw_m11 139 rfl) rfl
theorem q2652 : (Jvm.Cond.fieldLink "SharedTaxis$QueryParser" (23 : Nat) "SharedTaxis$QueryParser" "first" "Z") ∈ lw_all := lw_g (lw_at lw_m11 140 rfl) rfl
theorem q2654 : (Jvm.Cond.fieldLink "SharedTaxis$QueryParser" (39 : Nat) "SharedTaxis$QueryParser" "test" "LSharedTaxis$Test;") ∈ lw_all := lw_g (lw_at lw_m11 142 rfl) rfl
theorem q2656 : (Jvm.Cond.fieldLink "SharedTaxis$QueryParser" (68 : Nat) "SharedTaxis$QueryParser" "open" "I") ∈ lw_all := lw_g (lw_at lw_m11 144 rfl) rfl
theorem q2657 : (Jvm.Cond.laysFinal "SharedTaxis$QueryParser" "SharedTaxis$QueryParser" "scanner" "LSharedTaxis$Scanner;") ∈ lw_all := lw_g (lw_at lw_m11 145 rfl) rfl
theorem q2658 : (Jvm.Cond.soleField "SharedTaxis$QueryParser" "scanner") ∈ lw_all := lw_g (lw_at lw_m11 146 rfl) rfl
theorem q2659 : (Jvm.Cond.laysFinal "SharedTaxis$QueryParser" "SharedTaxis$QueryParser" "first" "Z") ∈ lw_all := lw_g (lw_at lw_m11 147 rfl) rfl
theorem q2660 : (Jvm.Cond.soleField "SharedTaxis$QueryParser" "first") ∈ lw_all := lw_g (lw_at lw_m11 148 rfl) rfl
theorem q2661 : (Jvm.Cond.laysFinal "SharedTaxis$QueryParser" "SharedTaxis$QueryParser" "test" "LSharedTaxis$Test;") ∈ lw_all := lw_g (lw_at lw_m11 149 rfl) rfl
theorem q2662 : (Jvm.Cond.soleField "SharedTaxis$QueryParser" "test") ∈ lw_all := lw_g (lw_at lw_m11 150 rfl) rfl
theorem q2663 : (Jvm.Cond.lays "SharedTaxis$QueryParser" "SharedTaxis$QueryParser" "open" "I") ∈ lw_all := lw_g (lw_at lw_m11 151 rfl) rfl
theorem q2664 : (Jvm.Cond.soleField "SharedTaxis$QueryParser" "open") ∈ lw_all := lw_g (lw_at lw_m11 152 rfl) rfl
theorem q2665 : (Jvm.Cond.superclass "SharedTaxis$QueryParser" "java/lang/Object") ∈ lw_all := lw_g (lw_at lw_m11 153 rfl) rfl
theorem q3384 : (Jvm.Cond.castable "SharedTaxis$QueryParser" "java/lang/Object") ∈ lw_tbl := lw_at lw_m14 152 rfl
theorem q163 : (Jvm.Cond.initialized "SharedTaxis$Tests") ∈ lw_all := lw_g (lw_at lw_m1 51 rfl) rfl
theorem q1043 : (Jvm.Cond.selects "SharedTaxis$Tests" ({ cls := "java/lang/Object", name := "getClass", desc := "()Ljava/lang/Class;" } : Jvm.MethodName) ({ cls := "java/lang/Object", name := "getClass", desc := "()Ljava/lang/Class;" } : Jvm.MethodName)) ∈ lw_all := lw_g (lw_at lw_m4 211 rfl) rfl
theorem q1972 : (Jvm.Cond.selects "SharedTaxis$Tests" ({ cls := "java/lang/Object", name := "equals", desc := "(Ljava/lang/Object;)Z" } : Jvm.MethodName) ({ cls := "java/lang/Object", name := "equals", desc := "(Ljava/lang/Object;)Z" } : Jvm.MethodName)) ∈ lw_all := lw_g (lw_at lw_m8 180 rfl) rfl
theorem q2489 : (Jvm.Cond.instantiable "SharedTaxis$Tests" (3 : Nat)) ∈ lw_all := lw_g (lw_at lw_m10 217 rfl) rfl
theorem q2491 : (Jvm.Cond.instanceMethod ({ cls := "SharedTaxis$Tests", name := "<init>", desc := "(Z)V" } : Jvm.MethodName)) ∈ lw_all := lw_g (lw_at lw_m10 219 rfl) rfl
theorem q2492 : (Jvm.Cond.code ({ cls := "SharedTaxis$Tests", name := "<init>", desc := "(Z)V" } : Jvm.MethodName) prog_17_method_1_code (2 : Nat) (Option.none : Option Jvm.ClassFile.FieldType)) ∈ lw_all := lw_g (lw_at lw_m10 220 rfl) rfl
theorem q2493 : (Jvm.Cond.methodLink "SharedTaxis$Tests" (1 : Nat) ({ cls := "java/lang/Object", name := "<init>", desc := "()V" } : Jvm.MethodName)) ∈ lw_all := lw_g (lw_at lw_m10 221 rfl) rfl
theorem q2494 : (Jvm.Cond.classLink "SharedTaxis$Tests" (7 : Nat) "SharedTaxis$Test") ∈ lw_all := lw_g (lw_at lw_m10 222 rfl) rfl
theorem q2496 : (Jvm.Cond.fieldLink "SharedTaxis$Tests" (15 : Nat) "SharedTaxis$Tests" "all" "Z") ∈ lw_all := lw_g (lw_at lw_m10 224 rfl) rfl
theorem q2497 : (Jvm.Cond.fieldLink "SharedTaxis$Tests" (9 : Nat) "SharedTaxis$Tests" "parts" "[LSharedTaxis$Test;") ∈ lw_all := lw_g (lw_at lw_m10 225 rfl) rfl
theorem q2498 : (Jvm.Cond.fieldLink "SharedTaxis$Tests" (19 : Nat) "SharedTaxis$Tests" "count" "I") ∈ lw_all := lw_g (lw_at lw_m10 226 rfl) rfl
theorem q2499 : (Jvm.Cond.laysFinal "SharedTaxis$Tests" "SharedTaxis$Tests" "all" "Z") ∈ lw_all := lw_g (lw_at lw_m10 227 rfl) rfl
theorem q2500 : (Jvm.Cond.soleField "SharedTaxis$Tests" "all") ∈ lw_all := lw_g (lw_at lw_m10 228 rfl) rfl
theorem q2501 : (Jvm.Cond.lays "SharedTaxis$Tests" "SharedTaxis$Tests" "parts" "[LSharedTaxis$Test;") ∈ lw_all := lw_g (lw_at lw_m10 229 rfl) rfl
theorem q2502 : (Jvm.Cond.soleField "SharedTaxis$Tests" "parts") ∈ lw_all := lw_g (lw_at lw_m10 230 rfl) rfl
theorem q2503 : (Jvm.Cond.lays "SharedTaxis$Tests" "SharedTaxis$Tests" "count" "I") ∈ lw_all := lw_g (lw_at lw_m10 231 rfl) rfl
theorem q2504 : (Jvm.Cond.soleField "SharedTaxis$Tests" "count") ∈ lw_all := lw_g (lw_at lw_m10 232 rfl) rfl
theorem q2505 : (Jvm.Cond.superclass "SharedTaxis$Tests" "java/lang/Object") ∈ lw_all := lw_g (lw_at lw_m10 233 rfl) rfl
theorem q2527 : (Jvm.Cond.castable "SharedTaxis$Tests" "SharedTaxis$Test") ∈ lw_tbl := lw_at lw_m11 15 rfl
theorem q2528 : (Jvm.Cond.selects "SharedTaxis$Tests" ({ cls := "SharedTaxis$Test", name := "holds", desc := "(LSharedTaxis$State;I)Z" } : Jvm.MethodName) ({ cls := "SharedTaxis$Tests", name := "holds", desc := "(LSharedTaxis$State;I)Z" } : Jvm.MethodName)) ∈ lw_all := lw_g (lw_at lw_m11 16 rfl) rfl
theorem q2529 : (Jvm.Cond.unhidden "SharedTaxis$Tests" "holds" "(LSharedTaxis$State;I)Z") ∈ lw_tbl := lw_at lw_m11 17 rfl
theorem q2530 : (Jvm.Cond.instanceMethod ({ cls := "SharedTaxis$Tests", name := "holds", desc := "(LSharedTaxis$State;I)Z" } : Jvm.MethodName)) ∈ lw_all := lw_g (lw_at lw_m11 18 rfl) rfl
theorem q2531 : (Jvm.Cond.publicMethod ({ cls := "SharedTaxis$Tests", name := "holds", desc := "(LSharedTaxis$State;I)Z" } : Jvm.MethodName)) ∈ lw_tbl := lw_at lw_m11 19 rfl
theorem q2532 : (Jvm.Cond.code ({ cls := "SharedTaxis$Tests", name := "holds", desc := "(LSharedTaxis$State;I)Z" } : Jvm.MethodName) prog_17_method_3_code (4 : Nat) (Option.some Jvm.ClassFile.FieldType.boolean)) ∈ lw_all := lw_g (lw_at lw_m11 20 rfl) rfl
theorem q2533 : (Jvm.Cond.interfaceEntry "SharedTaxis$Tests" (29 : Nat)) ∈ lw_tbl := lw_at lw_m11 21 rfl
theorem q2534 : (Jvm.Cond.methodLink "SharedTaxis$Tests" (29 : Nat) ({ cls := "SharedTaxis$Test", name := "holds", desc := "(LSharedTaxis$State;I)Z" } : Jvm.MethodName)) ∈ lw_all := lw_g (lw_at lw_m11 22 rfl) rfl
theorem q2644 : (Jvm.Cond.instanceMethod ({ cls := "SharedTaxis$Tests", name := "add", desc := "(LSharedTaxis$Test;)V" } : Jvm.MethodName)) ∈ lw_all := lw_g (lw_at lw_m11 132 rfl) rfl
theorem q2645 : (Jvm.Cond.selects "SharedTaxis$Tests" ({ cls := "SharedTaxis$Tests", name := "add", desc := "(LSharedTaxis$Test;)V" } : Jvm.MethodName) ({ cls := "SharedTaxis$Tests", name := "add", desc := "(LSharedTaxis$Test;)V" } : Jvm.MethodName)) ∈ lw_all := lw_g (lw_at lw_m11 133 rfl) rfl
theorem q2646 : (Jvm.Cond.code ({ cls := "SharedTaxis$Tests", name := "add", desc := "(LSharedTaxis$Test;)V" } : Jvm.MethodName) prog_17_method_2_code (3 : Nat) (Option.none : Option Jvm.ClassFile.FieldType)) ∈ lw_all := lw_g (lw_at lw_m11 134 rfl) rfl
theorem q2647 : (Jvm.Cond.methodLink "SharedTaxis$Tests" (23 : Nat) ({ cls := "java/lang/System", name := "arraycopy", desc := "(Ljava/lang/Object;ILjava/lang/Object;II)V" } : Jvm.MethodName)) ∈ lw_all := lw_g (lw_at lw_m11 135 rfl) rfl
theorem q3385 : (Jvm.Cond.castable "SharedTaxis$Tests" "java/lang/Object") ∈ lw_tbl := lw_at lw_m14 153 rfl
theorem q115 : (Jvm.Cond.initialized "SharedTaxis$Town") ∈ lw_all := lw_g (lw_at lw_m1 3 rfl) rfl
theorem q175 : (Jvm.Cond.instantiable "SharedTaxis$Town" (3 : Nat)) ∈ lw_all := lw_g (lw_at lw_m1 63 rfl) rfl
theorem q177 : (Jvm.Cond.instanceMethod ({ cls := "SharedTaxis$Town", name := "<init>", desc := "(I)V" } : Jvm.MethodName)) ∈ lw_all := lw_g (lw_at lw_m1 65 rfl) rfl
theorem q178 : (Jvm.Cond.code ({ cls := "SharedTaxis$Town", name := "<init>", desc := "(I)V" } : Jvm.MethodName) prog_19_method_1_code (4 : Nat) (Option.none : Option Jvm.ClassFile.FieldType)) ∈ lw_all := lw_g (lw_at lw_m1 66 rfl) rfl
theorem q179 : (Jvm.Cond.methodLink "SharedTaxis$Town" (3 : Nat) ({ cls := "java/lang/Object", name := "<init>", desc := "()V" } : Jvm.MethodName)) ∈ lw_all := lw_g (lw_at lw_m1 67 rfl) rfl
theorem q180 : (Jvm.Cond.classLink "SharedTaxis$Town" (15 : Nat) "[[I") ∈ lw_all := lw_g (lw_at lw_m1 68 rfl) rfl
theorem q182 : (Jvm.Cond.fieldLink "SharedTaxis$Town" (9 : Nat) "SharedTaxis$Town" "zones" "I") ∈ lw_all := lw_g (lw_at lw_m1 70 rfl) rfl
theorem q185 : (Jvm.Cond.fieldLink "SharedTaxis$Town" (17 : Nat) "SharedTaxis$Town" "minutes" "[[I") ∈ lw_all := lw_g (lw_at lw_m1 73 rfl) rfl
theorem q188 : (Jvm.Cond.fieldLink "SharedTaxis$Town" (20 : Nat) "SharedTaxis$Town" "roads" "I") ∈ lw_all := lw_g (lw_at lw_m1 76 rfl) rfl
theorem q190 : (Jvm.Cond.laysFinal "SharedTaxis$Town" "SharedTaxis$Town" "zones" "I") ∈ lw_all := lw_g (lw_at lw_m1 78 rfl) rfl
theorem q191 : (Jvm.Cond.soleField "SharedTaxis$Town" "zones") ∈ lw_all := lw_g (lw_at lw_m1 79 rfl) rfl
theorem q192 : (Jvm.Cond.laysFinal "SharedTaxis$Town" "SharedTaxis$Town" "minutes" "[[I") ∈ lw_all := lw_g (lw_at lw_m1 80 rfl) rfl
theorem q193 : (Jvm.Cond.soleField "SharedTaxis$Town" "minutes") ∈ lw_all := lw_g (lw_at lw_m1 81 rfl) rfl
theorem q194 : (Jvm.Cond.lays "SharedTaxis$Town" "SharedTaxis$Town" "roads" "I") ∈ lw_all := lw_g (lw_at lw_m1 82 rfl) rfl
theorem q195 : (Jvm.Cond.soleField "SharedTaxis$Town" "roads") ∈ lw_all := lw_g (lw_at lw_m1 83 rfl) rfl
theorem q196 : (Jvm.Cond.superclass "SharedTaxis$Town" "java/lang/Object") ∈ lw_all := lw_g (lw_at lw_m1 84 rfl) rfl
theorem q1044 : (Jvm.Cond.selects "SharedTaxis$Town" ({ cls := "java/lang/Object", name := "getClass", desc := "()Ljava/lang/Class;" } : Jvm.MethodName) ({ cls := "java/lang/Object", name := "getClass", desc := "()Ljava/lang/Class;" } : Jvm.MethodName)) ∈ lw_all := lw_g (lw_at lw_m4 212 rfl) rfl
theorem q1499 : (Jvm.Cond.instanceMethod ({ cls := "SharedTaxis$Town", name := "hasRoad", desc := "(II)Z" } : Jvm.MethodName)) ∈ lw_all := lw_g (lw_at lw_m6 187 rfl) rfl
theorem q1500 : (Jvm.Cond.selects "SharedTaxis$Town" ({ cls := "SharedTaxis$Town", name := "hasRoad", desc := "(II)Z" } : Jvm.MethodName) ({ cls := "SharedTaxis$Town", name := "hasRoad", desc := "(II)Z" } : Jvm.MethodName)) ∈ lw_all := lw_g (lw_at lw_m6 188 rfl) rfl
theorem q1501 : (Jvm.Cond.code ({ cls := "SharedTaxis$Town", name := "hasRoad", desc := "(II)Z" } : Jvm.MethodName) prog_19_method_2_code (3 : Nat) (Option.some Jvm.ClassFile.FieldType.boolean)) ∈ lw_all := lw_g (lw_at lw_m6 189 rfl) rfl
theorem q1503 : (Jvm.Cond.instanceMethod ({ cls := "SharedTaxis$Town", name := "add", desc := "(III)V" } : Jvm.MethodName)) ∈ lw_all := lw_g (lw_at lw_m6 191 rfl) rfl
theorem q1504 : (Jvm.Cond.selects "SharedTaxis$Town" ({ cls := "SharedTaxis$Town", name := "add", desc := "(III)V" } : Jvm.MethodName) ({ cls := "SharedTaxis$Town", name := "add", desc := "(III)V" } : Jvm.MethodName)) ∈ lw_all := lw_g (lw_at lw_m6 192 rfl) rfl
theorem q1505 : (Jvm.Cond.code ({ cls := "SharedTaxis$Town", name := "add", desc := "(III)V" } : Jvm.MethodName) prog_19_method_3_code (4 : Nat) (Option.none : Option Jvm.ClassFile.FieldType)) ∈ lw_all := lw_g (lw_at lw_m6 193 rfl) rfl
theorem q1531 : (Jvm.Cond.instanceMethod ({ cls := "SharedTaxis$Town", name := "finish", desc := "()V" } : Jvm.MethodName)) ∈ lw_all := lw_g (lw_at lw_m6 219 rfl) rfl
theorem q1532 : (Jvm.Cond.selects "SharedTaxis$Town" ({ cls := "SharedTaxis$Town", name := "finish", desc := "()V" } : Jvm.MethodName) ({ cls := "SharedTaxis$Town", name := "finish", desc := "()V" } : Jvm.MethodName)) ∈ lw_all := lw_g (lw_at lw_m6 220 rfl) rfl
theorem q1533 : (Jvm.Cond.code ({ cls := "SharedTaxis$Town", name := "finish", desc := "()V" } : Jvm.MethodName) prog_19_method_4_code (4 : Nat) (Option.none : Option Jvm.ClassFile.FieldType)) ∈ lw_all := lw_g (lw_at lw_m6 221 rfl) rfl
theorem q1534 : (Jvm.Cond.methodLink "SharedTaxis$Town" (23 : Nat) ({ cls := "SharedTaxis$Town", name := "shorten", desc := "(III)V" } : Jvm.MethodName)) ∈ lw_all := lw_g (lw_at lw_m6 222 rfl) rfl
theorem q1535 : (Jvm.Cond.privateMethod ({ cls := "SharedTaxis$Town", name := "shorten", desc := "(III)V" } : Jvm.MethodName)) ∈ lw_tbl := lw_at lw_m6 223 rfl
theorem q1536 : (Jvm.Cond.instanceMethod ({ cls := "SharedTaxis$Town", name := "shorten", desc := "(III)V" } : Jvm.MethodName)) ∈ lw_all := lw_g (lw_at lw_m6 224 rfl) rfl
theorem q1537 : (Jvm.Cond.code ({ cls := "SharedTaxis$Town", name := "shorten", desc := "(III)V" } : Jvm.MethodName) prog_19_method_5_code (6 : Nat) (Option.none : Option Jvm.ClassFile.FieldType)) ∈ lw_all := lw_g (lw_at lw_m6 225 rfl) rfl
theorem q1973 : (Jvm.Cond.selects "SharedTaxis$Town" ({ cls := "java/lang/Object", name := "equals", desc := "(Ljava/lang/Object;)Z" } : Jvm.MethodName) ({ cls := "java/lang/Object", name := "equals", desc := "(Ljava/lang/Object;)Z" } : Jvm.MethodName)) ∈ lw_all := lw_g (lw_at lw_m8 181 rfl) rfl
theorem q3355 : (Jvm.Cond.castable "SharedTaxis$Town" "java/lang/Object") ∈ lw_tbl := lw_at lw_m14 123 rfl
theorem q120 : (Jvm.Cond.initialized "SharedTaxisModel") ∈ lw_all := lw_g (lw_at lw_m1 8 rfl) rfl
theorem q1048 : (Jvm.Cond.selects "SharedTaxisModel" ({ cls := "java/lang/Object", name := "getClass", desc := "()Ljava/lang/Class;" } : Jvm.MethodName) ({ cls := "java/lang/Object", name := "getClass", desc := "()Ljava/lang/Class;" } : Jvm.MethodName)) ∈ lw_all := lw_g (lw_at lw_m4 216 rfl) rfl
theorem q1977 : (Jvm.Cond.selects "SharedTaxisModel" ({ cls := "java/lang/Object", name := "equals", desc := "(Ljava/lang/Object;)Z" } : Jvm.MethodName) ({ cls := "java/lang/Object", name := "equals", desc := "(Ljava/lang/Object;)Z" } : Jvm.MethodName)) ∈ lw_all := lw_g (lw_at lw_m8 185 rfl) rfl
theorem q2670 : (Jvm.Cond.instantiable "SharedTaxisModel" (54 : Nat)) ∈ lw_all := lw_g (lw_at lw_m11 158 rfl) rfl
theorem q2672 : (Jvm.Cond.instanceMethod ({ cls := "SharedTaxisModel", name := "<init>", desc := "()V" } : Jvm.MethodName)) ∈ lw_all := lw_g (lw_at lw_m11 160 rfl) rfl
theorem q2673 : (Jvm.Cond.code ({ cls := "SharedTaxisModel", name := "<init>", desc := "()V" } : Jvm.MethodName) prog_25_method_1_code (1 : Nat) (Option.none : Option Jvm.ClassFile.FieldType)) ∈ lw_all := lw_g (lw_at lw_m11 161 rfl) rfl
theorem q2674 : (Jvm.Cond.methodLink "SharedTaxisModel" (1 : Nat) ({ cls := "java/lang/Object", name := "<init>", desc := "()V" } : Jvm.MethodName)) ∈ lw_all := lw_g (lw_at lw_m11 162 rfl) rfl
theorem q2675 : (Jvm.Cond.methodLink "SharedTaxisModel" (87 : Nat) ({ cls := "SharedTaxisModel", name := "begins", desc := "(I)V" } : Jvm.MethodName)) ∈ lw_all := lw_g (lw_at lw_m11 163 rfl) rfl
theorem q2676 : (Jvm.Cond.privateMethod ({ cls := "SharedTaxisModel", name := "begins", desc := "(I)V" } : Jvm.MethodName)) ∈ lw_tbl := lw_at lw_m11 164 rfl
theorem q2677 : (Jvm.Cond.instanceMethod ({ cls := "SharedTaxisModel", name := "begins", desc := "(I)V" } : Jvm.MethodName)) ∈ lw_all := lw_g (lw_at lw_m11 165 rfl) rfl
theorem q2678 : (Jvm.Cond.code ({ cls := "SharedTaxisModel", name := "begins", desc := "(I)V" } : Jvm.MethodName) prog_25_method_7_code (3 : Nat) (Option.none : Option Jvm.ClassFile.FieldType)) ∈ lw_all := lw_g (lw_at lw_m11 166 rfl) rfl
theorem q2679 : (Jvm.Cond.methodLink "SharedTaxisModel" (90 : Nat) ({ cls := "SharedTaxisModel", name := "becomes", desc := "()V" } : Jvm.MethodName)) ∈ lw_all := lw_g (lw_at lw_m11 167 rfl) rfl
theorem q2680 : (Jvm.Cond.privateMethod ({ cls := "SharedTaxisModel", name := "becomes", desc := "()V" } : Jvm.MethodName)) ∈ lw_tbl := lw_at lw_m11 168 rfl
theorem q2681 : (Jvm.Cond.instanceMethod ({ cls := "SharedTaxisModel", name := "becomes", desc := "()V" } : Jvm.MethodName)) ∈ lw_all := lw_g (lw_at lw_m11 169 rfl) rfl
theorem q2682 : (Jvm.Cond.code ({ cls := "SharedTaxisModel", name := "becomes", desc := "()V" } : Jvm.MethodName) prog_25_method_8_code (2 : Nat) (Option.none : Option Jvm.ClassFile.FieldType)) ∈ lw_all := lw_g (lw_at lw_m11 170 rfl) rfl
theorem q2683 : (Jvm.Cond.methodLink "SharedTaxisModel" (120 : Nat) ({ cls := "SharedTaxisModel", name := "laysWays", desc := "()V" } : Jvm.MethodName)) ∈ lw_all := lw_g (lw_at lw_m11 171 rfl) rfl
theorem q2684 : (Jvm.Cond.privateMethod ({ cls := "SharedTaxisModel", name := "laysWays", desc := "()V" } : Jvm.MethodName)) ∈ lw_tbl := lw_at lw_m11 172 rfl
theorem q2685 : (Jvm.Cond.instanceMethod ({ cls := "SharedTaxisModel", name := "laysWays", desc := "()V" } : Jvm.MethodName)) ∈ lw_all := lw_g (lw_at lw_m11 173 rfl) rfl
theorem q2686 : (Jvm.Cond.code ({ cls := "SharedTaxisModel", name := "laysWays", desc := "()V" } : Jvm.MethodName) prog_25_method_9_code (7 : Nat) (Option.none : Option Jvm.ClassFile.FieldType)) ∈ lw_all := lw_g (lw_at lw_m11 174 rfl) rfl
theorem q2687 : (Jvm.Cond.fieldLink "SharedTaxisModel" (93 : Nat) "SharedTaxisModel" "thrown" "I") ∈ lw_all := lw_g (lw_at lw_m11 175 rfl) rfl
theorem q2688 : (Jvm.Cond.fieldLink "SharedTaxisModel" (7 : Nat) "SharedTaxisModel" "now" "[I") ∈ lw_all := lw_g (lw_at lw_m11 176 rfl) rfl
theorem q2689 : (Jvm.Cond.fieldLink "SharedTaxisModel" (13 : Nat) "SharedTaxisModel" "draft" "[I") ∈ lw_all := lw_g (lw_at lw_m11 177 rfl) rfl
theorem q2690 : (Jvm.Cond.fieldLink "SharedTaxisModel" (16 : Nat) "SharedTaxisModel" "saved" "[I") ∈ lw_all := lw_g (lw_at lw_m11 178 rfl) rfl
theorem q2691 : (Jvm.Cond.fieldLink "SharedTaxisModel" (19 : Nat) "SharedTaxisModel" "history" "[I") ∈ lw_all := lw_g (lw_at lw_m11 179 rfl) rfl
theorem q2692 : (Jvm.Cond.fieldLink "SharedTaxisModel" (126 : Nat) "SharedTaxisModel" "isSaved" "Z") ∈ lw_all := lw_g (lw_at lw_m11 180 rfl) rfl
theorem q2693 : (Jvm.Cond.fieldLink "SharedTaxisModel" (123 : Nat) "SharedTaxisModel" "recorded" "I") ∈ lw_all := lw_g (lw_at lw_m11 181 rfl) rfl
theorem q2694 : (Jvm.Cond.fieldLink "SharedTaxisModel" (96 : Nat) "SharedTaxisModel" "draftZones" "I") ∈ lw_all := lw_g (lw_at lw_m11 182 rfl) rfl
theorem q2695 : (Jvm.Cond.fieldLink "SharedTaxisModel" (99 : Nat) "SharedTaxisModel" "draftRoads" "I") ∈ lw_all := lw_g (lw_at lw_m11 183 rfl) rfl
theorem q2696 : (Jvm.Cond.fieldLink "SharedTaxisModel" (102 : Nat) "SharedTaxisModel" "draftTaxis" "I") ∈ lw_all := lw_g (lw_at lw_m11 184 rfl) rfl
theorem q2697 : (Jvm.Cond.fieldLink "SharedTaxisModel" (105 : Nat) "SharedTaxisModel" "draftFlag" "I") ∈ lw_all := lw_g (lw_at lw_m11 185 rfl) rfl
theorem q2698 : (Jvm.Cond.fieldLink "SharedTaxisModel" (22 : Nat) "SharedTaxisModel" "draftRoad" "[I") ∈ lw_all := lw_g (lw_at lw_m11 186 rfl) rfl
theorem q2699 : (Jvm.Cond.fieldLink "SharedTaxisModel" (25 : Nat) "SharedTaxisModel" "draftSeats" "[I") ∈ lw_all := lw_g (lw_at lw_m11 187 rfl) rfl
theorem q2700 : (Jvm.Cond.fieldLink "SharedTaxisModel" (28 : Nat) "SharedTaxisModel" "draftBegin" "[I") ∈ lw_all := lw_g (lw_at lw_m11 188 rfl) rfl
theorem q2701 : (Jvm.Cond.fieldLink "SharedTaxisModel" (31 : Nat) "SharedTaxisModel" "draftAt" "[I") ∈ lw_all := lw_g (lw_at lw_m11 189 rfl) rfl
theorem q2702 : (Jvm.Cond.fieldLink "SharedTaxisModel" (108 : Nat) "SharedTaxisModel" "zones" "I") ∈ lw_all := lw_g (lw_at lw_m11 190 rfl) rfl
theorem q2703 : (Jvm.Cond.fieldLink "SharedTaxisModel" (111 : Nat) "SharedTaxisModel" "roads" "I") ∈ lw_all := lw_g (lw_at lw_m11 191 rfl) rfl
theorem q2704 : (Jvm.Cond.fieldLink "SharedTaxisModel" (114 : Nat) "SharedTaxisModel" "taxis" "I") ∈ lw_all := lw_g (lw_at lw_m11 192 rfl) rfl
theorem q2705 : (Jvm.Cond.fieldLink "SharedTaxisModel" (117 : Nat) "SharedTaxisModel" "flag" "I") ∈ lw_all := lw_g (lw_at lw_m11 193 rfl) rfl
theorem q2706 : (Jvm.Cond.fieldLink "SharedTaxisModel" (34 : Nat) "SharedTaxisModel" "way" "[I") ∈ lw_all := lw_g (lw_at lw_m11 194 rfl) rfl
theorem q2707 : (Jvm.Cond.fieldLink "SharedTaxisModel" (37 : Nat) "SharedTaxisModel" "seats" "[I") ∈ lw_all := lw_g (lw_at lw_m11 195 rfl) rfl
theorem q2708 : (Jvm.Cond.fieldLink "SharedTaxisModel" (40 : Nat) "SharedTaxisModel" "begins" "[I") ∈ lw_all := lw_g (lw_at lw_m11 196 rfl) rfl
theorem q2709 : (Jvm.Cond.fieldLink "SharedTaxisModel" (43 : Nat) "SharedTaxisModel" "buffer" "[I") ∈ lw_all := lw_g (lw_at lw_m11 197 rfl) rfl
theorem q2710 : (Jvm.Cond.fieldLink "SharedTaxisModel" (130 : Nat) "SharedTaxisModel" "buffered" "I") ∈ lw_all := lw_g (lw_at lw_m11 198 rfl) rfl
theorem q2711 : (Jvm.Cond.fieldLink "SharedTaxisModel" (136 : Nat) "SharedTaxisModel" "textEnd" "I") ∈ lw_all := lw_g (lw_at lw_m11 199 rfl) rfl
theorem q2712 : (Jvm.Cond.fieldLink "SharedTaxisModel" (143 : Nat) "SharedTaxisModel" "at" "I") ∈ lw_all := lw_g (lw_at lw_m11 200 rfl) rfl
theorem q2713 : (Jvm.Cond.fieldLink "SharedTaxisModel" (154 : Nat) "SharedTaxisModel" "begin" "I") ∈ lw_all := lw_g (lw_at lw_m11 201 rfl) rfl
theorem q2714 : (Jvm.Cond.fieldLink "SharedTaxisModel" (161 : Nat) "SharedTaxisModel" "kind" "I") ∈ lw_all := lw_g (lw_at lw_m11 202 rfl) rfl
theorem q2715 : (Jvm.Cond.fieldLink "SharedTaxisModel" (164 : Nat) "SharedTaxisModel" "value" "I") ∈ lw_all := lw_g (lw_at lw_m11 203 rfl) rfl
theorem q2716 : (Jvm.Cond.fieldLink "SharedTaxisModel" (139 : Nat) "SharedTaxisModel" "word" "J") ∈ lw_all := lw_g (lw_at lw_m11 204 rfl) rfl
theorem q2717 : (Jvm.Cond.fieldLink "SharedTaxisModel" (177 : Nat) "SharedTaxisModel" "wrong" "I") ∈ lw_all := lw_g (lw_at lw_m11 205 rfl) rfl
theorem q2718 : (Jvm.Cond.fieldLink "SharedTaxisModel" (46 : Nat) "SharedTaxisModel" "wrongAt" "I") ∈ lw_all := lw_g (lw_at lw_m11 206 rfl) rfl
theorem q2719 : (Jvm.Cond.fieldLink "SharedTaxisModel" (50 : Nat) "SharedTaxisModel" "list" "[I") ∈ lw_all := lw_g (lw_at lw_m11 207 rfl) rfl
theorem q2720 : (Jvm.Cond.fieldLink "SharedTaxisModel" (53 : Nat) "SharedTaxisModel" "leaves" "[I") ∈ lw_all := lw_g (lw_at lw_m11 208 rfl) rfl
theorem q2721 : (Jvm.Cond.fieldLink "SharedTaxisModel" (56 : Nat) "SharedTaxisModel" "arrives" "[I") ∈ lw_all := lw_g (lw_at lw_m11 209 rfl) rfl
theorem q2722 : (Jvm.Cond.fieldLink "SharedTaxisModel" (59 : Nat) "SharedTaxisModel" "ends" "[I") ∈ lw_all := lw_g (lw_at lw_m11 210 rfl) rfl
theorem q2723 : (Jvm.Cond.fieldLink "SharedTaxisModel" (62 : Nat) "SharedTaxisModel" "stints" "[I") ∈ lw_all := lw_g (lw_at lw_m11 211 rfl) rfl
theorem q2724 : (Jvm.Cond.fieldLink "SharedTaxisModel" (65 : Nat) "SharedTaxisModel" "ways" "[I") ∈ lw_all := lw_g (lw_at lw_m11 212 rfl) rfl
theorem q2725 : (Jvm.Cond.fieldLink "SharedTaxisModel" (68 : Nat) "SharedTaxisModel" "pickedAt" "[I") ∈ lw_all := lw_g (lw_at lw_m11 213 rfl) rfl
theorem q2726 : (Jvm.Cond.fieldLink "SharedTaxisModel" (271 : Nat) "SharedTaxisModel" "listed" "I") ∈ lw_all := lw_g (lw_at lw_m11 214 rfl) rfl
theorem q2727 : (Jvm.Cond.fieldLink "SharedTaxisModel" (298 : Nat) "SharedTaxisModel" "foundExtra" "I") ∈ lw_all := lw_g (lw_at lw_m11 215 rfl) rfl
theorem q2728 : (Jvm.Cond.fieldLink "SharedTaxisModel" (314 : Nat) "SharedTaxisModel" "foundPick" "I") ∈ lw_all := lw_g (lw_at lw_m11 216 rfl) rfl
theorem q2729 : (Jvm.Cond.fieldLink "SharedTaxisModel" (317 : Nat) "SharedTaxisModel" "foundDrop" "I") ∈ lw_all := lw_g (lw_at lw_m11 217 rfl) rfl
theorem q2730 : (Jvm.Cond.fieldLink "SharedTaxisModel" (320 : Nat) "SharedTaxisModel" "foundPlace" "I") ∈ lw_all := lw_g (lw_at lw_m11 218 rfl) rfl
theorem q2731 : (Jvm.Cond.fieldLink "SharedTaxisModel" (323 : Nat) "SharedTaxisModel" "foundBehind" "I") ∈ lw_all := lw_g (lw_at lw_m11 219 rfl) rfl
theorem q2732 : (Jvm.Cond.fieldLink "SharedTaxisModel" (71 : Nat) "SharedTaxisModel" "riding" "[I") ∈ lw_all := lw_g (lw_at lw_m11 220 rfl) rfl
theorem q2733 : (Jvm.Cond.fieldLink "SharedTaxisModel" (74 : Nat) "SharedTaxisModel" "text" "[B") ∈ lw_all := lw_g (lw_at lw_m11 221 rfl) rfl
theorem q2734 : (Jvm.Cond.fieldLink "SharedTaxisModel" (423 : Nat) "SharedTaxisModel" "texts" "I") ∈ lw_all := lw_g (lw_at lw_m11 222 rfl) rfl
theorem q2735 : (Jvm.Cond.fieldLink "SharedTaxisModel" (78 : Nat) "SharedTaxisModel" "codes" "[I") ∈ lw_all := lw_g (lw_at lw_m11 223 rfl) rfl
theorem q2736 : (Jvm.Cond.fieldLink "SharedTaxisModel" (81 : Nat) "SharedTaxisModel" "wait" "[I") ∈ lw_all := lw_g (lw_at lw_m11 224 rfl) rfl
theorem q2737 : (Jvm.Cond.fieldLink "SharedTaxisModel" (84 : Nat) "SharedTaxisModel" "stack" "[I") ∈ lw_all := lw_g (lw_at lw_m11 225 rfl) rfl
theorem q2738 : (Jvm.Cond.fieldLink "SharedTaxisModel" (432 : Nat) "SharedTaxisModel" "coded" "I") ∈ lw_all := lw_g (lw_at lw_m11 226 rfl) rfl
theorem q2739 : (Jvm.Cond.fieldLink "SharedTaxisModel" (461 : Nat) "SharedTaxisModel" "waits" "I") ∈ lw_all := lw_g (lw_at lw_m11 227 rfl) rfl
theorem q2740 : (Jvm.Cond.fieldLink "SharedTaxisModel" (458 : Nat) "SharedTaxisModel" "open" "I") ∈ lw_all := lw_g (lw_at lw_m11 228 rfl) rfl
theorem q2741 : (Jvm.Cond.lays "SharedTaxisModel" "SharedTaxisModel" "thrown" "I") ∈ lw_all := lw_g (lw_at lw_m11 229 rfl) rfl
theorem q2742 : (Jvm.Cond.soleField "SharedTaxisModel" "thrown") ∈ lw_all := lw_g (lw_at lw_m11 230 rfl) rfl
theorem q2743 : (Jvm.Cond.laysFinal "SharedTaxisModel" "SharedTaxisModel" "now" "[I") ∈ lw_all := lw_g (lw_at lw_m11 231 rfl) rfl
theorem q2744 : (Jvm.Cond.soleField "SharedTaxisModel" "now") ∈ lw_all := lw_g (lw_at lw_m11 232 rfl) rfl
theorem q2745 : (Jvm.Cond.laysFinal "SharedTaxisModel" "SharedTaxisModel" "draft" "[I") ∈ lw_all := lw_g (lw_at lw_m11 233 rfl) rfl
theorem q2746 : (Jvm.Cond.soleField "SharedTaxisModel" "draft") ∈ lw_all := lw_g (lw_at lw_m11 234 rfl) rfl
theorem q2747 : (Jvm.Cond.laysFinal "SharedTaxisModel" "SharedTaxisModel" "saved" "[I") ∈ lw_all := lw_g (lw_at lw_m11 235 rfl) rfl
theorem q2748 : (Jvm.Cond.soleField "SharedTaxisModel" "saved") ∈ lw_all := lw_g (lw_at lw_m11 236 rfl) rfl
theorem q2749 : (Jvm.Cond.laysFinal "SharedTaxisModel" "SharedTaxisModel" "history" "[I") ∈ lw_all := lw_g (lw_at lw_m11 237 rfl) rfl
theorem q2750 : (Jvm.Cond.soleField "SharedTaxisModel" "history") ∈ lw_all := lw_g (lw_at lw_m11 238 rfl) rfl
theorem q2751 : (Jvm.Cond.lays "SharedTaxisModel" "SharedTaxisModel" "isSaved" "Z") ∈ lw_all := lw_g (lw_at lw_m11 239 rfl) rfl
theorem q2752 : (Jvm.Cond.soleField "SharedTaxisModel" "isSaved") ∈ lw_all := lw_g (lw_at lw_m12 0 rfl) rfl
theorem q2753 : (Jvm.Cond.lays "SharedTaxisModel" "SharedTaxisModel" "recorded" "I") ∈ lw_all := lw_g (lw_at lw_m12 1 rfl) rfl
theorem q2754 : (Jvm.Cond.soleField "SharedTaxisModel" "recorded") ∈ lw_all := lw_g (lw_at lw_m12 2 rfl) rfl
theorem q2755 : (Jvm.Cond.lays "SharedTaxisModel" "SharedTaxisModel" "draftZones" "I") ∈ lw_all := lw_g (lw_at lw_m12 3 rfl) rfl
theorem q2756 : (Jvm.Cond.soleField "SharedTaxisModel" "draftZones") ∈ lw_all := lw_g (lw_at lw_m12 4 rfl) rfl
theorem q2757 : (Jvm.Cond.lays "SharedTaxisModel" "SharedTaxisModel" "draftRoads" "I") ∈ lw_all := lw_g (lw_at lw_m12 5 rfl) rfl
theorem q2758 : (Jvm.Cond.soleField "SharedTaxisModel" "draftRoads") ∈ lw_all := lw_g (lw_at lw_m12 6 rfl) rfl
theorem q2759 : (Jvm.Cond.lays "SharedTaxisModel" "SharedTaxisModel" "draftTaxis" "I") ∈ lw_all := lw_g (lw_at lw_m12 7 rfl) rfl
theorem q2760 : (Jvm.Cond.soleField "SharedTaxisModel" "draftTaxis") ∈ lw_all := lw_g (lw_at lw_m12 8 rfl) rfl
theorem q2761 : (Jvm.Cond.lays "SharedTaxisModel" "SharedTaxisModel" "draftFlag" "I") ∈ lw_all := lw_g (lw_at lw_m12 9 rfl) rfl
theorem q2762 : (Jvm.Cond.soleField "SharedTaxisModel" "draftFlag") ∈ lw_all := lw_g (lw_at lw_m12 10 rfl) rfl
theorem q2763 : (Jvm.Cond.laysFinal "SharedTaxisModel" "SharedTaxisModel" "draftRoad" "[I") ∈ lw_all := lw_g (lw_at lw_m12 11 rfl) rfl
theorem q2764 : (Jvm.Cond.soleField "SharedTaxisModel" "draftRoad") ∈ lw_all := lw_g (lw_at lw_m12 12 rfl) rfl
theorem q2765 : (Jvm.Cond.laysFinal "SharedTaxisModel" "SharedTaxisModel" "draftSeats" "[I") ∈ lw_all := lw_g (lw_at lw_m12 13 rfl) rfl
theorem q2766 : (Jvm.Cond.soleField "SharedTaxisModel" "draftSeats") ∈ lw_all := lw_g (lw_at lw_m12 14 rfl) rfl
theorem q2767 : (Jvm.Cond.laysFinal "SharedTaxisModel" "SharedTaxisModel" "draftBegin" "[I") ∈ lw_all := lw_g (lw_at lw_m12 15 rfl) rfl
theorem q2768 : (Jvm.Cond.soleField "SharedTaxisModel" "draftBegin") ∈ lw_all := lw_g (lw_at lw_m12 16 rfl) rfl
theorem q2769 : (Jvm.Cond.laysFinal "SharedTaxisModel" "SharedTaxisModel" "draftAt" "[I") ∈ lw_all := lw_g (lw_at lw_m12 17 rfl) rfl
theorem q2770 : (Jvm.Cond.soleField "SharedTaxisModel" "draftAt") ∈ lw_all := lw_g (lw_at lw_m12 18 rfl) rfl
theorem q2771 : (Jvm.Cond.lays "SharedTaxisModel" "SharedTaxisModel" "zones" "I") ∈ lw_all := lw_g (lw_at lw_m12 19 rfl) rfl
theorem q2772 : (Jvm.Cond.soleField "SharedTaxisModel" "zones") ∈ lw_all := lw_g (lw_at lw_m12 20 rfl) rfl
theorem q2773 : (Jvm.Cond.lays "SharedTaxisModel" "SharedTaxisModel" "roads" "I") ∈ lw_all := lw_g (lw_at lw_m12 21 rfl) rfl
theorem q2774 : (Jvm.Cond.soleField "SharedTaxisModel" "roads") ∈ lw_all := lw_g (lw_at lw_m12 22 rfl) rfl
theorem q2775 : (Jvm.Cond.lays "SharedTaxisModel" "SharedTaxisModel" "taxis" "I") ∈ lw_all := lw_g (lw_at lw_m12 23 rfl) rfl
theorem q2776 : (Jvm.Cond.soleField "SharedTaxisModel" "taxis") ∈ lw_all := lw_g (lw_at lw_m12 24 rfl) rfl
theorem q2777 : (Jvm.Cond.lays "SharedTaxisModel" "SharedTaxisModel" "flag" "I") ∈ lw_all := lw_g (lw_at lw_m12 25 rfl) rfl
theorem q2778 : (Jvm.Cond.soleField "SharedTaxisModel" "flag") ∈ lw_all := lw_g (lw_at lw_m12 26 rfl) rfl
theorem q2779 : (Jvm.Cond.laysFinal "SharedTaxisModel" "SharedTaxisModel" "way" "[I") ∈ lw_all := lw_g (lw_at lw_m12 27 rfl) rfl
theorem q2780 : (Jvm.Cond.soleField "SharedTaxisModel" "way") ∈ lw_all := lw_g (lw_at lw_m12 28 rfl) rfl
theorem q2781 : (Jvm.Cond.laysFinal "SharedTaxisModel" "SharedTaxisModel" "seats" "[I") ∈ lw_all := lw_g (lw_at lw_m12 29 rfl) rfl
theorem q2782 : (Jvm.Cond.soleField "SharedTaxisModel" "seats") ∈ lw_all := lw_g (lw_at lw_m12 30 rfl) rfl
theorem q2783 : (Jvm.Cond.laysFinal "SharedTaxisModel" "SharedTaxisModel" "begins" "[I") ∈ lw_all := lw_g (lw_at lw_m12 31 rfl) rfl
theorem q2784 : (Jvm.Cond.soleField "SharedTaxisModel" "begins") ∈ lw_all := lw_g (lw_at lw_m12 32 rfl) rfl
theorem q2785 : (Jvm.Cond.laysFinal "SharedTaxisModel" "SharedTaxisModel" "buffer" "[I") ∈ lw_all := lw_g (lw_at lw_m12 33 rfl) rfl
theorem q2786 : (Jvm.Cond.soleField "SharedTaxisModel" "buffer") ∈ lw_all := lw_g (lw_at lw_m12 34 rfl) rfl
theorem q2787 : (Jvm.Cond.lays "SharedTaxisModel" "SharedTaxisModel" "buffered" "I") ∈ lw_all := lw_g (lw_at lw_m12 35 rfl) rfl
theorem q2788 : (Jvm.Cond.soleField "SharedTaxisModel" "buffered") ∈ lw_all := lw_g (lw_at lw_m12 36 rfl) rfl
theorem q2789 : (Jvm.Cond.lays "SharedTaxisModel" "SharedTaxisModel" "textEnd" "I") ∈ lw_all := lw_g (lw_at lw_m12 37 rfl) rfl
theorem q2790 : (Jvm.Cond.soleField "SharedTaxisModel" "textEnd") ∈ lw_all := lw_g (lw_at lw_m12 38 rfl) rfl
theorem q2791 : (Jvm.Cond.lays "SharedTaxisModel" "SharedTaxisModel" "at" "I") ∈ lw_all := lw_g (lw_at lw_m12 39 rfl) rfl
theorem q2792 : (Jvm.Cond.soleField "SharedTaxisModel" "at") ∈ lw_all := lw_g (lw_at lw_m12 40 rfl) rfl
theorem q2793 : (Jvm.Cond.lays "SharedTaxisModel" "SharedTaxisModel" "begin" "I") ∈ lw_all := lw_g (lw_at lw_m12 41 rfl) rfl
theorem q2794 : (Jvm.Cond.soleField "SharedTaxisModel" "begin") ∈ lw_all := lw_g (lw_at lw_m12 42 rfl) rfl
theorem q2795 : (Jvm.Cond.lays "SharedTaxisModel" "SharedTaxisModel" "kind" "I") ∈ lw_all := lw_g (lw_at lw_m12 43 rfl) rfl
theorem q2796 : (Jvm.Cond.soleField "SharedTaxisModel" "kind") ∈ lw_all := lw_g (lw_at lw_m12 44 rfl) rfl
theorem q2797 : (Jvm.Cond.lays "SharedTaxisModel" "SharedTaxisModel" "value" "I") ∈ lw_all := lw_g (lw_at lw_m12 45 rfl) rfl
theorem q2798 : (Jvm.Cond.soleField "SharedTaxisModel" "value") ∈ lw_all := lw_g (lw_at lw_m12 46 rfl) rfl
theorem q2799 : (Jvm.Cond.lays "SharedTaxisModel" "SharedTaxisModel" "word" "J") ∈ lw_all := lw_g (lw_at lw_m12 47 rfl) rfl
theorem q2800 : (Jvm.Cond.soleField "SharedTaxisModel" "word") ∈ lw_all := lw_g (lw_at lw_m12 48 rfl) rfl
theorem q2801 : (Jvm.Cond.lays "SharedTaxisModel" "SharedTaxisModel" "wrong" "I") ∈ lw_all := lw_g (lw_at lw_m12 49 rfl) rfl
theorem q2802 : (Jvm.Cond.soleField "SharedTaxisModel" "wrong") ∈ lw_all := lw_g (lw_at lw_m12 50 rfl) rfl
theorem q2803 : (Jvm.Cond.lays "SharedTaxisModel" "SharedTaxisModel" "wrongAt" "I") ∈ lw_all := lw_g (lw_at lw_m12 51 rfl) rfl
theorem q2804 : (Jvm.Cond.soleField "SharedTaxisModel" "wrongAt") ∈ lw_all := lw_g (lw_at lw_m12 52 rfl) rfl
theorem q2805 : (Jvm.Cond.laysFinal "SharedTaxisModel" "SharedTaxisModel" "list" "[I") ∈ lw_all := lw_g (lw_at lw_m12 53 rfl) rfl
theorem q2806 : (Jvm.Cond.soleField "SharedTaxisModel" "list") ∈ lw_all := lw_g (lw_at lw_m12 54 rfl) rfl
theorem q2807 : (Jvm.Cond.laysFinal "SharedTaxisModel" "SharedTaxisModel" "leaves" "[I") ∈ lw_all := lw_g (lw_at lw_m12 55 rfl) rfl
theorem q2808 : (Jvm.Cond.soleField "SharedTaxisModel" "leaves") ∈ lw_all := lw_g (lw_at lw_m12 56 rfl) rfl
theorem q2809 : (Jvm.Cond.laysFinal "SharedTaxisModel" "SharedTaxisModel" "arrives" "[I") ∈ lw_all := lw_g (lw_at lw_m12 57 rfl) rfl
theorem q2810 : (Jvm.Cond.soleField "SharedTaxisModel" "arrives") ∈ lw_all := lw_g (lw_at lw_m12 58 rfl) rfl
theorem q2811 : (Jvm.Cond.laysFinal "SharedTaxisModel" "SharedTaxisModel" "ends" "[I") ∈ lw_all := lw_g (lw_at lw_m12 59 rfl) rfl
theorem q2812 : (Jvm.Cond.soleField "SharedTaxisModel" "ends") ∈ lw_all := lw_g (lw_at lw_m12 60 rfl) rfl
theorem q2813 : (Jvm.Cond.laysFinal "SharedTaxisModel" "SharedTaxisModel" "stints" "[I") ∈ lw_all := lw_g (lw_at lw_m12 61 rfl) rfl
theorem q2814 : (Jvm.Cond.soleField "SharedTaxisModel" "stints") ∈ lw_all := lw_g (lw_at lw_m12 62 rfl) rfl
theorem q2815 : (Jvm.Cond.laysFinal "SharedTaxisModel" "SharedTaxisModel" "ways" "[I") ∈ lw_all := lw_g (lw_at lw_m12 63 rfl) rfl
theorem q2816 : (Jvm.Cond.soleField "SharedTaxisModel" "ways") ∈ lw_all := lw_g (lw_at lw_m12 64 rfl) rfl
theorem q2817 : (Jvm.Cond.laysFinal "SharedTaxisModel" "SharedTaxisModel" "pickedAt" "[I") ∈ lw_all := lw_g (lw_at lw_m12 65 rfl) rfl
theorem q2818 : (Jvm.Cond.soleField "SharedTaxisModel" "pickedAt") ∈ lw_all := lw_g (lw_at lw_m12 66 rfl) rfl
theorem q2819 : (Jvm.Cond.lays "SharedTaxisModel" "SharedTaxisModel" "listed" "I") ∈ lw_all := lw_g (lw_at lw_m12 67 rfl) rfl
theorem q2820 : (Jvm.Cond.soleField "SharedTaxisModel" "listed") ∈ lw_all := lw_g (lw_at lw_m12 68 rfl) rfl
theorem q2821 : (Jvm.Cond.lays "SharedTaxisModel" "SharedTaxisModel" "foundExtra" "I") ∈ lw_all := lw_g (lw_at lw_m12 69 rfl) rfl
theorem q2822 : (Jvm.Cond.soleField "SharedTaxisModel" "foundExtra") ∈ lw_all := lw_g (lw_at lw_m12 70 rfl) rfl
theorem q2823 : (Jvm.Cond.lays "SharedTaxisModel" "SharedTaxisModel" "foundPick" "I") ∈ lw_all := lw_g (lw_at lw_m12 71 rfl) rfl
theorem q2824 : (Jvm.Cond.soleField "SharedTaxisModel" "foundPick") ∈ lw_all := lw_g (lw_at lw_m12 72 rfl) rfl
theorem q2825 : (Jvm.Cond.lays "SharedTaxisModel" "SharedTaxisModel" "foundDrop" "I") ∈ lw_all := lw_g (lw_at lw_m12 73 rfl) rfl
theorem q2826 : (Jvm.Cond.soleField "SharedTaxisModel" "foundDrop") ∈ lw_all := lw_g (lw_at lw_m12 74 rfl) rfl
theorem q2827 : (Jvm.Cond.lays "SharedTaxisModel" "SharedTaxisModel" "foundPlace" "I") ∈ lw_all := lw_g (lw_at lw_m12 75 rfl) rfl
theorem q2828 : (Jvm.Cond.soleField "SharedTaxisModel" "foundPlace") ∈ lw_all := lw_g (lw_at lw_m12 76 rfl) rfl
theorem q2829 : (Jvm.Cond.lays "SharedTaxisModel" "SharedTaxisModel" "foundBehind" "I") ∈ lw_all := lw_g (lw_at lw_m12 77 rfl) rfl
theorem q2830 : (Jvm.Cond.soleField "SharedTaxisModel" "foundBehind") ∈ lw_all := lw_g (lw_at lw_m12 78 rfl) rfl
theorem q2831 : (Jvm.Cond.laysFinal "SharedTaxisModel" "SharedTaxisModel" "riding" "[I") ∈ lw_all := lw_g (lw_at lw_m12 79 rfl) rfl
theorem q2832 : (Jvm.Cond.soleField "SharedTaxisModel" "riding") ∈ lw_all := lw_g (lw_at lw_m12 80 rfl) rfl
theorem q2833 : (Jvm.Cond.laysFinal "SharedTaxisModel" "SharedTaxisModel" "text" "[B") ∈ lw_all := lw_g (lw_at lw_m12 81 rfl) rfl
theorem q2834 : (Jvm.Cond.soleField "SharedTaxisModel" "text") ∈ lw_all := lw_g (lw_at lw_m12 82 rfl) rfl
theorem q2835 : (Jvm.Cond.lays "SharedTaxisModel" "SharedTaxisModel" "texts" "I") ∈ lw_all := lw_g (lw_at lw_m12 83 rfl) rfl
theorem q2836 : (Jvm.Cond.soleField "SharedTaxisModel" "texts") ∈ lw_all := lw_g (lw_at lw_m12 84 rfl) rfl
theorem q2837 : (Jvm.Cond.laysFinal "SharedTaxisModel" "SharedTaxisModel" "codes" "[I") ∈ lw_all := lw_g (lw_at lw_m12 85 rfl) rfl
theorem q2838 : (Jvm.Cond.soleField "SharedTaxisModel" "codes") ∈ lw_all := lw_g (lw_at lw_m12 86 rfl) rfl
theorem q2839 : (Jvm.Cond.laysFinal "SharedTaxisModel" "SharedTaxisModel" "wait" "[I") ∈ lw_all := lw_g (lw_at lw_m12 87 rfl) rfl
theorem q2840 : (Jvm.Cond.soleField "SharedTaxisModel" "wait") ∈ lw_all := lw_g (lw_at lw_m12 88 rfl) rfl
theorem q2841 : (Jvm.Cond.laysFinal "SharedTaxisModel" "SharedTaxisModel" "stack" "[I") ∈ lw_all := lw_g (lw_at lw_m12 89 rfl) rfl
theorem q2842 : (Jvm.Cond.soleField "SharedTaxisModel" "stack") ∈ lw_all := lw_g (lw_at lw_m12 90 rfl) rfl
theorem q2843 : (Jvm.Cond.lays "SharedTaxisModel" "SharedTaxisModel" "coded" "I") ∈ lw_all := lw_g (lw_at lw_m12 91 rfl) rfl
theorem q2844 : (Jvm.Cond.soleField "SharedTaxisModel" "coded") ∈ lw_all := lw_g (lw_at lw_m12 92 rfl) rfl
theorem q2845 : (Jvm.Cond.lays "SharedTaxisModel" "SharedTaxisModel" "waits" "I") ∈ lw_all := lw_g (lw_at lw_m12 93 rfl) rfl
theorem q2846 : (Jvm.Cond.soleField "SharedTaxisModel" "waits") ∈ lw_all := lw_g (lw_at lw_m12 94 rfl) rfl
theorem q2847 : (Jvm.Cond.lays "SharedTaxisModel" "SharedTaxisModel" "open" "I") ∈ lw_all := lw_g (lw_at lw_m12 95 rfl) rfl
theorem q2848 : (Jvm.Cond.soleField "SharedTaxisModel" "open") ∈ lw_all := lw_g (lw_at lw_m12 96 rfl) rfl
theorem q2849 : (Jvm.Cond.superclass "SharedTaxisModel" "java/lang/Object") ∈ lw_all := lw_g (lw_at lw_m12 97 rfl) rfl
theorem q2851 : (Jvm.Cond.instanceMethod ({ cls := "SharedTaxisModel", name := "thrown", desc := "()I" } : Jvm.MethodName)) ∈ lw_all := lw_g (lw_at lw_m12 99 rfl) rfl
theorem q2852 : (Jvm.Cond.selects "SharedTaxisModel" ({ cls := "SharedTaxisModel", name := "thrown", desc := "()I" } : Jvm.MethodName) ({ cls := "SharedTaxisModel", name := "thrown", desc := "()I" } : Jvm.MethodName)) ∈ lw_all := lw_g (lw_at lw_m12 100 rfl) rfl
theorem q2853 : (Jvm.Cond.code ({ cls := "SharedTaxisModel", name := "thrown", desc := "()I" } : Jvm.MethodName) prog_25_method_2_code (1 : Nat) (Option.some Jvm.ClassFile.FieldType.int)) ∈ lw_all := lw_g (lw_at lw_m12 101 rfl) rfl
theorem q2855 : (Jvm.Cond.instanceMethod ({ cls := "SharedTaxisModel", name := "feed", desc := "(IIIII)I" } : Jvm.MethodName)) ∈ lw_all := lw_g (lw_at lw_m12 103 rfl) rfl
theorem q2856 : (Jvm.Cond.selects "SharedTaxisModel" ({ cls := "SharedTaxisModel", name := "feed", desc := "(IIIII)I" } : Jvm.MethodName) ({ cls := "SharedTaxisModel", name := "feed", desc := "(IIIII)I" } : Jvm.MethodName)) ∈ lw_all := lw_g (lw_at lw_m12 104 rfl) rfl
theorem q2857 : (Jvm.Cond.code ({ cls := "SharedTaxisModel", name := "feed", desc := "(IIIII)I" } : Jvm.MethodName) prog_25_method_19_code (6 : Nat) (Option.some Jvm.ClassFile.FieldType.int)) ∈ lw_all := lw_g (lw_at lw_m12 105 rfl) rfl
theorem q2858 : (Jvm.Cond.methodLink "SharedTaxisModel" (133 : Nat) ({ cls := "SharedTaxisModel", name := "lays", desc := "(I)V" } : Jvm.MethodName)) ∈ lw_all := lw_g (lw_at lw_m12 106 rfl) rfl
theorem q2859 : (Jvm.Cond.privateMethod ({ cls := "SharedTaxisModel", name := "lays", desc := "(I)V" } : Jvm.MethodName)) ∈ lw_tbl := lw_at lw_m12 107 rfl
theorem q2860 : (Jvm.Cond.instanceMethod ({ cls := "SharedTaxisModel", name := "lays", desc := "(I)V" } : Jvm.MethodName)) ∈ lw_all := lw_g (lw_at lw_m12 108 rfl) rfl
theorem q2861 : (Jvm.Cond.code ({ cls := "SharedTaxisModel", name := "lays", desc := "(I)V" } : Jvm.MethodName) prog_25_method_18_code (3 : Nat) (Option.none : Option Jvm.ClassFile.FieldType)) ∈ lw_all := lw_g (lw_at lw_m12 109 rfl) rfl
theorem q2863 : (Jvm.Cond.instanceMethod ({ cls := "SharedTaxisModel", name := "errorPosition", desc := "()I" } : Jvm.MethodName)) ∈ lw_all := lw_g (lw_at lw_m12 111 rfl) rfl
theorem q2864 : (Jvm.Cond.selects "SharedTaxisModel" ({ cls := "SharedTaxisModel", name := "errorPosition", desc := "()I" } : Jvm.MethodName) ({ cls := "SharedTaxisModel", name := "errorPosition", desc := "()I" } : Jvm.MethodName)) ∈ lw_all := lw_g (lw_at lw_m12 112 rfl) rfl
theorem q2865 : (Jvm.Cond.code ({ cls := "SharedTaxisModel", name := "errorPosition", desc := "()I" } : Jvm.MethodName) prog_25_method_20_code (1 : Nat) (Option.some Jvm.ClassFile.FieldType.int)) ∈ lw_all := lw_g (lw_at lw_m12 113 rfl) rfl
theorem q2867 : (Jvm.Cond.instanceMethod ({ cls := "SharedTaxisModel", name := "load", desc := "(I)I" } : Jvm.MethodName)) ∈ lw_all := lw_g (lw_at lw_m12 115 rfl) rfl
theorem q2868 : (Jvm.Cond.selects "SharedTaxisModel" ({ cls := "SharedTaxisModel", name := "load", desc := "(I)I" } : Jvm.MethodName) ({ cls := "SharedTaxisModel", name := "load", desc := "(I)I" } : Jvm.MethodName)) ∈ lw_all := lw_g (lw_at lw_m12 116 rfl) rfl
theorem q2869 : (Jvm.Cond.code ({ cls := "SharedTaxisModel", name := "load", desc := "(I)I" } : Jvm.MethodName) prog_25_method_40_code (2 : Nat) (Option.some Jvm.ClassFile.FieldType.int)) ∈ lw_all := lw_g (lw_at lw_m12 117 rfl) rfl
theorem q2870 : (Jvm.Cond.methodLink "SharedTaxisModel" (197 : Nat) ({ cls := "SharedTaxisModel", name := "in", desc := "(JJJ)Z" } : Jvm.MethodName)) ∈ lw_all := lw_g (lw_at lw_m12 118 rfl) rfl
theorem q2871 : (Jvm.Cond.static ({ cls := "SharedTaxisModel", name := "in", desc := "(JJJ)Z" } : Jvm.MethodName)) ∈ lw_all := lw_g (lw_at lw_m12 119 rfl) rfl
theorem q2872 : (Jvm.Cond.code ({ cls := "SharedTaxisModel", name := "in", desc := "(JJJ)Z" } : Jvm.MethodName) prog_25_method_3_code (6 : Nat) (Option.some Jvm.ClassFile.FieldType.boolean)) ∈ lw_all := lw_g (lw_at lw_m12 120 rfl) rfl
theorem q2873 : (Jvm.Cond.methodLink "SharedTaxisModel" (256 : Nat) ({ cls := "SharedTaxisModel", name := "fails", desc := "(ZI)Z" } : Jvm.MethodName)) ∈ lw_all := lw_g (lw_at lw_m12 121 rfl) rfl
theorem q2874 : (Jvm.Cond.privateMethod ({ cls := "SharedTaxisModel", name := "fails", desc := "(ZI)Z" } : Jvm.MethodName)) ∈ lw_tbl := lw_at lw_m12 122 rfl
theorem q2875 : (Jvm.Cond.instanceMethod ({ cls := "SharedTaxisModel", name := "fails", desc := "(ZI)Z" } : Jvm.MethodName)) ∈ lw_all := lw_g (lw_at lw_m12 123 rfl) rfl
theorem q2876 : (Jvm.Cond.code ({ cls := "SharedTaxisModel", name := "fails", desc := "(ZI)Z" } : Jvm.MethodName) prog_25_method_4_code (3 : Nat) (Option.some Jvm.ClassFile.FieldType.boolean)) ∈ lw_all := lw_g (lw_at lw_m12 124 rfl) rfl
theorem q2877 : (Jvm.Cond.methodLink "SharedTaxisModel" (260 : Nat) ({ cls := "SharedTaxisModel", name := "starts", desc := "(I)V" } : Jvm.MethodName)) ∈ lw_all := lw_g (lw_at lw_m12 125 rfl) rfl
theorem q2878 : (Jvm.Cond.privateMethod ({ cls := "SharedTaxisModel", name := "starts", desc := "(I)V" } : Jvm.MethodName)) ∈ lw_tbl := lw_at lw_m12 126 rfl
theorem q2879 : (Jvm.Cond.instanceMethod ({ cls := "SharedTaxisModel", name := "starts", desc := "(I)V" } : Jvm.MethodName)) ∈ lw_all := lw_g (lw_at lw_m12 127 rfl) rfl
theorem q2880 : (Jvm.Cond.code ({ cls := "SharedTaxisModel", name := "starts", desc := "(I)V" } : Jvm.MethodName) prog_25_method_27_code (2 : Nat) (Option.none : Option Jvm.ClassFile.FieldType)) ∈ lw_all := lw_g (lw_at lw_m12 128 rfl) rfl
theorem q2881 : (Jvm.Cond.methodLink "SharedTaxisModel" (180 : Nat) ({ cls := "SharedTaxisModel", name := "next", desc := "()V" } : Jvm.MethodName)) ∈ lw_all := lw_g (lw_at lw_m12 129 rfl) rfl
theorem q2882 : (Jvm.Cond.privateMethod ({ cls := "SharedTaxisModel", name := "next", desc := "()V" } : Jvm.MethodName)) ∈ lw_tbl := lw_at lw_m12 130 rfl
theorem q2883 : (Jvm.Cond.instanceMethod ({ cls := "SharedTaxisModel", name := "next", desc := "()V" } : Jvm.MethodName)) ∈ lw_all := lw_g (lw_at lw_m12 131 rfl) rfl
theorem q2884 : (Jvm.Cond.code ({ cls := "SharedTaxisModel", name := "next", desc := "()V" } : Jvm.MethodName) prog_25_method_26_code (1 : Nat) (Option.none : Option Jvm.ClassFile.FieldType)) ∈ lw_all := lw_g (lw_at lw_m12 132 rfl) rfl
theorem q2885 : (Jvm.Cond.methodLink "SharedTaxisModel" (146 : Nat) ({ cls := "SharedTaxisModel", name := "byteAt", desc := "(I)I" } : Jvm.MethodName)) ∈ lw_all := lw_g (lw_at lw_m12 133 rfl) rfl
theorem q2886 : (Jvm.Cond.privateMethod ({ cls := "SharedTaxisModel", name := "byteAt", desc := "(I)I" } : Jvm.MethodName)) ∈ lw_tbl := lw_at lw_m12 134 rfl
theorem q2887 : (Jvm.Cond.instanceMethod ({ cls := "SharedTaxisModel", name := "byteAt", desc := "(I)I" } : Jvm.MethodName)) ∈ lw_all := lw_g (lw_at lw_m12 135 rfl) rfl
theorem q2888 : (Jvm.Cond.code ({ cls := "SharedTaxisModel", name := "byteAt", desc := "(I)I" } : Jvm.MethodName) prog_25_method_21_code (2 : Nat) (Option.some Jvm.ClassFile.FieldType.int)) ∈ lw_all := lw_g (lw_at lw_m12 136 rfl) rfl
theorem q2889 : (Jvm.Cond.methodLink "SharedTaxisModel" (150 : Nat) ({ cls := "SharedTaxisModel", name := "isLetter", desc := "(I)Z" } : Jvm.MethodName)) ∈ lw_all := lw_g (lw_at lw_m12 137 rfl) rfl
theorem q2890 : (Jvm.Cond.static ({ cls := "SharedTaxisModel", name := "isLetter", desc := "(I)Z" } : Jvm.MethodName)) ∈ lw_all := lw_g (lw_at lw_m12 138 rfl) rfl
theorem q2891 : (Jvm.Cond.code ({ cls := "SharedTaxisModel", name := "isLetter", desc := "(I)Z" } : Jvm.MethodName) prog_25_method_22_code (1 : Nat) (Option.some Jvm.ClassFile.FieldType.boolean)) ∈ lw_all := lw_g (lw_at lw_m12 139 rfl) rfl
theorem q2892 : (Jvm.Cond.methodLink "SharedTaxisModel" (171 : Nat) ({ cls := "SharedTaxisModel", name := "readsWord", desc := "()V" } : Jvm.MethodName)) ∈ lw_all := lw_g (lw_at lw_m12 140 rfl) rfl
theorem q2893 : (Jvm.Cond.privateMethod ({ cls := "SharedTaxisModel", name := "readsWord", desc := "()V" } : Jvm.MethodName)) ∈ lw_tbl := lw_at lw_m12 141 rfl
theorem q2894 : (Jvm.Cond.instanceMethod ({ cls := "SharedTaxisModel", name := "readsWord", desc := "()V" } : Jvm.MethodName)) ∈ lw_all := lw_g (lw_at lw_m12 142 rfl) rfl
theorem q2895 : (Jvm.Cond.code ({ cls := "SharedTaxisModel", name := "readsWord", desc := "()V" } : Jvm.MethodName) prog_25_method_24_code (1 : Nat) (Option.none : Option Jvm.ClassFile.FieldType)) ∈ lw_all := lw_g (lw_at lw_m12 143 rfl) rfl
theorem q2896 : (Jvm.Cond.constantLong "SharedTaxisModel" (157 : Nat) (27 : Int64)) ∈ lw_all := lw_g (lw_at lw_m12 144 rfl) rfl
theorem q2897 : (Jvm.Cond.constantLong "SharedTaxisModel" (159 : Nat) (96 : Int64)) ∈ lw_all := lw_g (lw_at lw_m12 145 rfl) rfl
theorem q2898 : (Jvm.Cond.methodLink "SharedTaxisModel" (167 : Nat) ({ cls := "SharedTaxisModel", name := "isFigure", desc := "(I)Z" } : Jvm.MethodName)) ∈ lw_all := lw_g (lw_at lw_m12 146 rfl) rfl
theorem q2899 : (Jvm.Cond.static ({ cls := "SharedTaxisModel", name := "isFigure", desc := "(I)Z" } : Jvm.MethodName)) ∈ lw_all := lw_g (lw_at lw_m12 147 rfl) rfl
theorem q2900 : (Jvm.Cond.code ({ cls := "SharedTaxisModel", name := "isFigure", desc := "(I)Z" } : Jvm.MethodName) prog_25_method_23_code (1 : Nat) (Option.some Jvm.ClassFile.FieldType.boolean)) ∈ lw_all := lw_g (lw_at lw_m12 148 rfl) rfl
theorem q2901 : (Jvm.Cond.methodLink "SharedTaxisModel" (174 : Nat) ({ cls := "SharedTaxisModel", name := "readsNumber", desc := "()V" } : Jvm.MethodName)) ∈ lw_all := lw_g (lw_at lw_m12 149 rfl) rfl
theorem q2902 : (Jvm.Cond.privateMethod ({ cls := "SharedTaxisModel", name := "readsNumber", desc := "()V" } : Jvm.MethodName)) ∈ lw_tbl := lw_at lw_m12 150 rfl
theorem q2903 : (Jvm.Cond.instanceMethod ({ cls := "SharedTaxisModel", name := "readsNumber", desc := "()V" } : Jvm.MethodName)) ∈ lw_all := lw_g (lw_at lw_m12 151 rfl) rfl
theorem q2904 : (Jvm.Cond.code ({ cls := "SharedTaxisModel", name := "readsNumber", desc := "()V" } : Jvm.MethodName) prog_25_method_25_code (1 : Nat) (Option.none : Option Jvm.ClassFile.FieldType)) ∈ lw_all := lw_g (lw_at lw_m12 152 rfl) rfl
theorem q2905 : (Jvm.Cond.constant "SharedTaxisModel" (170 : Nat) (9999999 : Int32)) ∈ lw_all := lw_g (lw_at lw_m12 153 rfl) rfl
theorem q2906 : (Jvm.Cond.constantLong "SharedTaxisModel" (263 : Nat) (14123071 : Int64)) ∈ lw_all := lw_g (lw_at lw_m12 154 rfl) rfl
theorem q2907 : (Jvm.Cond.methodLink "SharedTaxisModel" (233 : Nat) ({ cls := "SharedTaxisModel", name := "passes", desc := "(J)Z" } : Jvm.MethodName)) ∈ lw_all := lw_g (lw_at lw_m12 155 rfl) rfl
theorem q2908 : (Jvm.Cond.privateMethod ({ cls := "SharedTaxisModel", name := "passes", desc := "(J)Z" } : Jvm.MethodName)) ∈ lw_tbl := lw_at lw_m12 156 rfl
theorem q2909 : (Jvm.Cond.instanceMethod ({ cls := "SharedTaxisModel", name := "passes", desc := "(J)Z" } : Jvm.MethodName)) ∈ lw_all := lw_g (lw_at lw_m12 157 rfl) rfl
theorem q2910 : (Jvm.Cond.code ({ cls := "SharedTaxisModel", name := "passes", desc := "(J)Z" } : Jvm.MethodName) prog_25_method_31_code (3 : Nat) (Option.some Jvm.ClassFile.FieldType.boolean)) ∈ lw_all := lw_g (lw_at lw_m12 158 rfl) rfl
theorem q2911 : (Jvm.Cond.methodLink "SharedTaxisModel" (187 : Nat) ({ cls := "SharedTaxisModel", name := "isWord", desc := "(J)Z" } : Jvm.MethodName)) ∈ lw_all := lw_g (lw_at lw_m12 159 rfl) rfl
theorem q2912 : (Jvm.Cond.privateMethod ({ cls := "SharedTaxisModel", name := "isWord", desc := "(J)Z" } : Jvm.MethodName)) ∈ lw_tbl := lw_at lw_m12 160 rfl
theorem q2913 : (Jvm.Cond.instanceMethod ({ cls := "SharedTaxisModel", name := "isWord", desc := "(J)Z" } : Jvm.MethodName)) ∈ lw_all := lw_g (lw_at lw_m12 161 rfl) rfl
theorem q2914 : (Jvm.Cond.code ({ cls := "SharedTaxisModel", name := "isWord", desc := "(J)Z" } : Jvm.MethodName) prog_25_method_30_code (3 : Nat) (Option.some Jvm.ClassFile.FieldType.boolean)) ∈ lw_all := lw_g (lw_at lw_m12 162 rfl) rfl
theorem q2915 : (Jvm.Cond.methodLink "SharedTaxisModel" (183 : Nat) ({ cls := "SharedTaxisModel", name := "isGood", desc := "()Z" } : Jvm.MethodName)) ∈ lw_all := lw_g (lw_at lw_m12 163 rfl) rfl
theorem q2916 : (Jvm.Cond.privateMethod ({ cls := "SharedTaxisModel", name := "isGood", desc := "()Z" } : Jvm.MethodName)) ∈ lw_tbl := lw_at lw_m12 164 rfl
theorem q2917 : (Jvm.Cond.instanceMethod ({ cls := "SharedTaxisModel", name := "isGood", desc := "()Z" } : Jvm.MethodName)) ∈ lw_all := lw_g (lw_at lw_m12 165 rfl) rfl
theorem q2918 : (Jvm.Cond.code ({ cls := "SharedTaxisModel", name := "isGood", desc := "()Z" } : Jvm.MethodName) prog_25_method_29_code (1 : Nat) (Option.some Jvm.ClassFile.FieldType.boolean)) ∈ lw_all := lw_g (lw_at lw_m12 166 rfl) rfl
theorem q2919 : (Jvm.Cond.methodLink "SharedTaxisModel" (194 : Nat) ({ cls := "SharedTaxisModel", name := "wrongs", desc := "(I)Z" } : Jvm.MethodName)) ∈ lw_all := lw_g (lw_at lw_m12 167 rfl) rfl
theorem q2920 : (Jvm.Cond.privateMethod ({ cls := "SharedTaxisModel", name := "wrongs", desc := "(I)Z" } : Jvm.MethodName)) ∈ lw_tbl := lw_at lw_m12 168 rfl
theorem q2921 : (Jvm.Cond.instanceMethod ({ cls := "SharedTaxisModel", name := "wrongs", desc := "(I)Z" } : Jvm.MethodName)) ∈ lw_all := lw_g (lw_at lw_m12 169 rfl) rfl
theorem q2922 : (Jvm.Cond.code ({ cls := "SharedTaxisModel", name := "wrongs", desc := "(I)Z" } : Jvm.MethodName) prog_25_method_28_code (2 : Nat) (Option.some Jvm.ClassFile.FieldType.boolean)) ∈ lw_all := lw_g (lw_at lw_m12 170 rfl) rfl
theorem q2923 : (Jvm.Cond.methodLink "SharedTaxisModel" (215 : Nat) ({ cls := "SharedTaxisModel", name := "number", desc := "(II)I" } : Jvm.MethodName)) ∈ lw_all := lw_g (lw_at lw_m12 171 rfl) rfl
theorem q2924 : (Jvm.Cond.privateMethod ({ cls := "SharedTaxisModel", name := "number", desc := "(II)I" } : Jvm.MethodName)) ∈ lw_tbl := lw_at lw_m12 172 rfl
theorem q2925 : (Jvm.Cond.instanceMethod ({ cls := "SharedTaxisModel", name := "number", desc := "(II)I" } : Jvm.MethodName)) ∈ lw_all := lw_g (lw_at lw_m12 173 rfl) rfl
theorem q2926 : (Jvm.Cond.code ({ cls := "SharedTaxisModel", name := "number", desc := "(II)I" } : Jvm.MethodName) prog_25_method_34_code (4 : Nat) (Option.some Jvm.ClassFile.FieldType.int)) ∈ lw_all := lw_g (lw_at lw_m12 174 rfl) rfl
theorem q2927 : (Jvm.Cond.methodLink "SharedTaxisModel" (253 : Nat) ({ cls := "SharedTaxisModel", name := "must", desc := "(I)V" } : Jvm.MethodName)) ∈ lw_all := lw_g (lw_at lw_m12 175 rfl) rfl
theorem q2928 : (Jvm.Cond.privateMethod ({ cls := "SharedTaxisModel", name := "must", desc := "(I)V" } : Jvm.MethodName)) ∈ lw_tbl := lw_at lw_m12 176 rfl
theorem q2929 : (Jvm.Cond.instanceMethod ({ cls := "SharedTaxisModel", name := "must", desc := "(I)V" } : Jvm.MethodName)) ∈ lw_all := lw_g (lw_at lw_m12 177 rfl) rfl
theorem q2930 : (Jvm.Cond.code ({ cls := "SharedTaxisModel", name := "must", desc := "(I)V" } : Jvm.MethodName) prog_25_method_33_code (2 : Nat) (Option.none : Option Jvm.ClassFile.FieldType)) ∈ lw_all := lw_g (lw_at lw_m12 178 rfl) rfl
theorem q2931 : (Jvm.Cond.methodLink "SharedTaxisModel" (191 : Nat) ({ cls := "SharedTaxisModel", name := "isByte", desc := "(I)Z" } : Jvm.MethodName)) ∈ lw_all := lw_g (lw_at lw_m12 179 rfl) rfl
theorem q2932 : (Jvm.Cond.privateMethod ({ cls := "SharedTaxisModel", name := "isByte", desc := "(I)Z" } : Jvm.MethodName)) ∈ lw_tbl := lw_at lw_m12 180 rfl
theorem q2933 : (Jvm.Cond.instanceMethod ({ cls := "SharedTaxisModel", name := "isByte", desc := "(I)Z" } : Jvm.MethodName)) ∈ lw_all := lw_g (lw_at lw_m12 181 rfl) rfl
theorem q2934 : (Jvm.Cond.code ({ cls := "SharedTaxisModel", name := "isByte", desc := "(I)Z" } : Jvm.MethodName) prog_25_method_32_code (2 : Nat) (Option.some Jvm.ClassFile.FieldType.boolean)) ∈ lw_all := lw_g (lw_at lw_m12 182 rfl) rfl
theorem q2935 : (Jvm.Cond.methodLink "SharedTaxisModel" (265 : Nat) ({ cls := "SharedTaxisModel", name := "clauseRead", desc := "()V" } : Jvm.MethodName)) ∈ lw_all := lw_g (lw_at lw_m12 183 rfl) rfl
theorem q2936 : (Jvm.Cond.privateMethod ({ cls := "SharedTaxisModel", name := "clauseRead", desc := "()V" } : Jvm.MethodName)) ∈ lw_tbl := lw_at lw_m12 184 rfl
theorem q2937 : (Jvm.Cond.instanceMethod ({ cls := "SharedTaxisModel", name := "clauseRead", desc := "()V" } : Jvm.MethodName)) ∈ lw_all := lw_g (lw_at lw_m12 185 rfl) rfl
theorem q2938 : (Jvm.Cond.code ({ cls := "SharedTaxisModel", name := "clauseRead", desc := "()V" } : Jvm.MethodName) prog_25_method_39_code (3 : Nat) (Option.none : Option Jvm.ClassFile.FieldType)) ∈ lw_all := lw_g (lw_at lw_m12 186 rfl) rfl
theorem q2939 : (Jvm.Cond.constantLong "SharedTaxisModel" (231 : Nat) (365260 : Int64)) ∈ lw_all := lw_g (lw_at lw_m12 187 rfl) rfl
theorem q2940 : (Jvm.Cond.methodLink "SharedTaxisModel" (236 : Nat) ({ cls := "SharedTaxisModel", name := "roadRead", desc := "()V" } : Jvm.MethodName)) ∈ lw_all := lw_g (lw_at lw_m12 188 rfl) rfl
theorem q2941 : (Jvm.Cond.privateMethod ({ cls := "SharedTaxisModel", name := "roadRead", desc := "()V" } : Jvm.MethodName)) ∈ lw_tbl := lw_at lw_m12 189 rfl
theorem q2942 : (Jvm.Cond.instanceMethod ({ cls := "SharedTaxisModel", name := "roadRead", desc := "()V" } : Jvm.MethodName)) ∈ lw_all := lw_g (lw_at lw_m12 190 rfl) rfl
theorem q2943 : (Jvm.Cond.code ({ cls := "SharedTaxisModel", name := "roadRead", desc := "()V" } : Jvm.MethodName) prog_25_method_36_code (4 : Nat) (Option.none : Option Jvm.ClassFile.FieldType)) ∈ lw_all := lw_g (lw_at lw_m12 191 rfl) rfl
theorem q2944 : (Jvm.Cond.constantLong "SharedTaxisModel" (239 : Nat) (395046 : Int64)) ∈ lw_all := lw_g (lw_at lw_m12 192 rfl) rfl
theorem q2945 : (Jvm.Cond.methodLink "SharedTaxisModel" (241 : Nat) ({ cls := "SharedTaxisModel", name := "taxiRead", desc := "()V" } : Jvm.MethodName)) ∈ lw_all := lw_g (lw_at lw_m12 193 rfl) rfl
theorem q2946 : (Jvm.Cond.privateMethod ({ cls := "SharedTaxisModel", name := "taxiRead", desc := "()V" } : Jvm.MethodName)) ∈ lw_tbl := lw_at lw_m12 194 rfl
theorem q2947 : (Jvm.Cond.instanceMethod ({ cls := "SharedTaxisModel", name := "taxiRead", desc := "()V" } : Jvm.MethodName)) ∈ lw_all := lw_g (lw_at lw_m12 195 rfl) rfl
theorem q2948 : (Jvm.Cond.code ({ cls := "SharedTaxisModel", name := "taxiRead", desc := "()V" } : Jvm.MethodName) prog_25_method_37_code (6 : Nat) (Option.none : Option Jvm.ClassFile.FieldType)) ∈ lw_all := lw_g (lw_at lw_m12 196 rfl) rfl
theorem q2949 : (Jvm.Cond.constantLong "SharedTaxisModel" (219 : Nat) (2879 : Int64)) ∈ lw_all := lw_g (lw_at lw_m12 197 rfl) rfl
theorem q2950 : (Jvm.Cond.constantLong "SharedTaxisModel" (244 : Nat) (287870604 : Int64)) ∈ lw_all := lw_g (lw_at lw_m12 198 rfl) rfl
theorem q2951 : (Jvm.Cond.constantLong "SharedTaxisModel" (246 : Nat) (45602731721 : Int64)) ∈ lw_all := lw_g (lw_at lw_m12 199 rfl) rfl
theorem q2952 : (Jvm.Cond.constantLong "SharedTaxisModel" (248 : Nat) (369932 : Int64)) ∈ lw_all := lw_g (lw_at lw_m12 200 rfl) rfl
theorem q2953 : (Jvm.Cond.methodLink "SharedTaxisModel" (250 : Nat) ({ cls := "SharedTaxisModel", name := "ruleRead", desc := "()V" } : Jvm.MethodName)) ∈ lw_all := lw_g (lw_at lw_m12 201 rfl) rfl
theorem q2954 : (Jvm.Cond.privateMethod ({ cls := "SharedTaxisModel", name := "ruleRead", desc := "()V" } : Jvm.MethodName)) ∈ lw_tbl := lw_at lw_m12 202 rfl
theorem q2955 : (Jvm.Cond.instanceMethod ({ cls := "SharedTaxisModel", name := "ruleRead", desc := "()V" } : Jvm.MethodName)) ∈ lw_all := lw_g (lw_at lw_m12 203 rfl) rfl
theorem q2956 : (Jvm.Cond.code ({ cls := "SharedTaxisModel", name := "ruleRead", desc := "()V" } : Jvm.MethodName) prog_25_method_38_code (3 : Nat) (Option.none : Option Jvm.ClassFile.FieldType)) ∈ lw_all := lw_g (lw_at lw_m12 204 rfl) rfl
theorem q2957 : (Jvm.Cond.methodLink "SharedTaxisModel" (221 : Nat) ({ cls := "SharedTaxisModel", name := "ruleHere", desc := "()I" } : Jvm.MethodName)) ∈ lw_all := lw_g (lw_at lw_m12 205 rfl) rfl
theorem q2958 : (Jvm.Cond.privateMethod ({ cls := "SharedTaxisModel", name := "ruleHere", desc := "()I" } : Jvm.MethodName)) ∈ lw_tbl := lw_at lw_m12 206 rfl
theorem q2959 : (Jvm.Cond.instanceMethod ({ cls := "SharedTaxisModel", name := "ruleHere", desc := "()I" } : Jvm.MethodName)) ∈ lw_all := lw_g (lw_at lw_m12 207 rfl) rfl
theorem q2960 : (Jvm.Cond.code ({ cls := "SharedTaxisModel", name := "ruleHere", desc := "()I" } : Jvm.MethodName) prog_25_method_35_code (1 : Nat) (Option.some Jvm.ClassFile.FieldType.int)) ∈ lw_all := lw_g (lw_at lw_m12 208 rfl) rfl
theorem q2961 : (Jvm.Cond.constantLong "SharedTaxisModel" (201 : Nat) (453701 : Int64)) ∈ lw_all := lw_g (lw_at lw_m12 209 rfl) rfl
theorem q2962 : (Jvm.Cond.constantLong "SharedTaxisModel" (203 : Nat) (2582454 : Int64)) ∈ lw_all := lw_g (lw_at lw_m12 210 rfl) rfl
theorem q2963 : (Jvm.Cond.constantLong "SharedTaxisModel" (205 : Nat) (8094240 : Int64)) ∈ lw_all := lw_g (lw_at lw_m12 211 rfl) rfl
theorem q2964 : (Jvm.Cond.constantLong "SharedTaxisModel" (207 : Nat) (168044941553 : Int64)) ∈ lw_all := lw_g (lw_at lw_m12 212 rfl) rfl
theorem q2965 : (Jvm.Cond.constantLong "SharedTaxisModel" (209 : Nat) (4514 : Int64)) ∈ lw_all := lw_g (lw_at lw_m12 213 rfl) rfl
theorem q2966 : (Jvm.Cond.constantLong "SharedTaxisModel" (211 : Nat) (10497998 : Int64)) ∈ lw_all := lw_g (lw_at lw_m12 214 rfl) rfl
theorem q2967 : (Jvm.Cond.constantLong "SharedTaxisModel" (213 : Nat) (358472 : Int64)) ∈ lw_all := lw_g (lw_at lw_m12 215 rfl) rfl
theorem q2968 : (Jvm.Cond.methodLink "SharedTaxisModel" (225 : Nat) ({ cls := "SharedTaxisModel", name := "least", desc := "(I)I" } : Jvm.MethodName)) ∈ lw_all := lw_g (lw_at lw_m12 216 rfl) rfl
theorem q2969 : (Jvm.Cond.static ({ cls := "SharedTaxisModel", name := "least", desc := "(I)I" } : Jvm.MethodName)) ∈ lw_all := lw_g (lw_at lw_m12 217 rfl) rfl
theorem q2970 : (Jvm.Cond.code ({ cls := "SharedTaxisModel", name := "least", desc := "(I)I" } : Jvm.MethodName) prog_25_method_16_code (1 : Nat) (Option.some Jvm.ClassFile.FieldType.int)) ∈ lw_all := lw_g (lw_at lw_m12 218 rfl) rfl
theorem q2971 : (Jvm.Cond.methodLink "SharedTaxisModel" (228 : Nat) ({ cls := "SharedTaxisModel", name := "most", desc := "(I)I" } : Jvm.MethodName)) ∈ lw_all := lw_g (lw_at lw_m12 219 rfl) rfl
theorem q2972 : (Jvm.Cond.static ({ cls := "SharedTaxisModel", name := "most", desc := "(I)I" } : Jvm.MethodName)) ∈ lw_all := lw_g (lw_at lw_m12 220 rfl) rfl
theorem q2973 : (Jvm.Cond.code ({ cls := "SharedTaxisModel", name := "most", desc := "(I)I" } : Jvm.MethodName) prog_25_method_17_code (1 : Nat) (Option.some Jvm.ClassFile.FieldType.int)) ∈ lw_all := lw_g (lw_at lw_m12 221 rfl) rfl
theorem q2975 : (Jvm.Cond.instanceMethod ({ cls := "SharedTaxisModel", name := "size", desc := "(I)I" } : Jvm.MethodName)) ∈ lw_all := lw_g (lw_at lw_m12 223 rfl) rfl
theorem q2976 : (Jvm.Cond.selects "SharedTaxisModel" ({ cls := "SharedTaxisModel", name := "size", desc := "(I)I" } : Jvm.MethodName) ({ cls := "SharedTaxisModel", name := "size", desc := "(I)I" } : Jvm.MethodName)) ∈ lw_all := lw_g (lw_at lw_m12 224 rfl) rfl
theorem q2977 : (Jvm.Cond.code ({ cls := "SharedTaxisModel", name := "size", desc := "(I)I" } : Jvm.MethodName) prog_25_method_66_code (2 : Nat) (Option.some Jvm.ClassFile.FieldType.int)) ∈ lw_all := lw_g (lw_at lw_m12 225 rfl) rfl
theorem q2978 : (Jvm.Cond.constantLong "SharedTaxisModel" (362 : Nat) (8 : Int64)) ∈ lw_all := lw_g (lw_at lw_m12 226 rfl) rfl
theorem q2979 : (Jvm.Cond.methodLink "SharedTaxisModel" (364 : Nat) ({ cls := "SharedTaxisModel", name := "ridesIn", desc := "(I)I" } : Jvm.MethodName)) ∈ lw_all := lw_g (lw_at lw_m12 227 rfl) rfl
theorem q2980 : (Jvm.Cond.privateMethod ({ cls := "SharedTaxisModel", name := "ridesIn", desc := "(I)I" } : Jvm.MethodName)) ∈ lw_tbl := lw_at lw_m12 228 rfl
theorem q2981 : (Jvm.Cond.instanceMethod ({ cls := "SharedTaxisModel", name := "ridesIn", desc := "(I)I" } : Jvm.MethodName)) ∈ lw_all := lw_g (lw_at lw_m12 229 rfl) rfl
theorem q2982 : (Jvm.Cond.code ({ cls := "SharedTaxisModel", name := "ridesIn", desc := "(I)I" } : Jvm.MethodName) prog_25_method_64_code (4 : Nat) (Option.some Jvm.ClassFile.FieldType.int)) ∈ lw_all := lw_g (lw_at lw_m12 230 rfl) rfl
theorem q2983 : (Jvm.Cond.methodLink "SharedTaxisModel" (274 : Nat) ({ cls := "SharedTaxisModel", name := "of", desc := "(II)I" } : Jvm.MethodName)) ∈ lw_all := lw_g (lw_at lw_m12 231 rfl) rfl
theorem q2984 : (Jvm.Cond.privateMethod ({ cls := "SharedTaxisModel", name := "of", desc := "(II)I" } : Jvm.MethodName)) ∈ lw_tbl := lw_at lw_m12 232 rfl
theorem q2985 : (Jvm.Cond.instanceMethod ({ cls := "SharedTaxisModel", name := "of", desc := "(II)I" } : Jvm.MethodName)) ∈ lw_all := lw_g (lw_at lw_m12 233 rfl) rfl
theorem q2986 : (Jvm.Cond.code ({ cls := "SharedTaxisModel", name := "of", desc := "(II)I" } : Jvm.MethodName) prog_25_method_10_code (3 : Nat) (Option.some Jvm.ClassFile.FieldType.int)) ∈ lw_all := lw_g (lw_at lw_m12 234 rfl) rfl
theorem q2987 : (Jvm.Cond.methodLink "SharedTaxisModel" (367 : Nat) ({ cls := "SharedTaxisModel", name := "sumOf", desc := "(I)I" } : Jvm.MethodName)) ∈ lw_all := lw_g (lw_at lw_m12 235 rfl) rfl
theorem q2988 : (Jvm.Cond.privateMethod ({ cls := "SharedTaxisModel", name := "sumOf", desc := "(I)I" } : Jvm.MethodName)) ∈ lw_tbl := lw_at lw_m12 236 rfl
theorem q2989 : (Jvm.Cond.instanceMethod ({ cls := "SharedTaxisModel", name := "sumOf", desc := "(I)I" } : Jvm.MethodName)) ∈ lw_all := lw_g (lw_at lw_m12 237 rfl) rfl
theorem q2990 : (Jvm.Cond.code ({ cls := "SharedTaxisModel", name := "sumOf", desc := "(I)I" } : Jvm.MethodName) prog_25_method_65_code (4 : Nat) (Option.some Jvm.ClassFile.FieldType.int)) ∈ lw_all := lw_g (lw_at lw_m12 238 rfl) rfl
theorem q2991 : (Jvm.Cond.methodLink "SharedTaxisModel" (268 : Nat) ({ cls := "SharedTaxisModel", name := "in2", desc := "(II)I" } : Jvm.MethodName)) ∈ lw_all := lw_g (lw_at lw_m12 239 rfl) rfl
theorem q2992 : (Jvm.Cond.privateMethod ({ cls := "SharedTaxisModel", name := "in2", desc := "(II)I" } : Jvm.MethodName)) ∈ lw_tbl := lw_at lw_m13 0 rfl
theorem q2993 : (Jvm.Cond.instanceMethod ({ cls := "SharedTaxisModel", name := "in2", desc := "(II)I" } : Jvm.MethodName)) ∈ lw_all := lw_g (lw_at lw_m13 1 rfl) rfl
theorem q2994 : (Jvm.Cond.code ({ cls := "SharedTaxisModel", name := "in2", desc := "(II)I" } : Jvm.MethodName) prog_25_method_12_code (3 : Nat) (Option.some Jvm.ClassFile.FieldType.int)) ∈ lw_all := lw_g (lw_at lw_m13 2 rfl) rfl
theorem q2996 : (Jvm.Cond.instanceMethod ({ cls := "SharedTaxisModel", name := "rule", desc := "(I)I" } : Jvm.MethodName)) ∈ lw_all := lw_g (lw_at lw_m13 4 rfl) rfl
theorem q2997 : (Jvm.Cond.selects "SharedTaxisModel" ({ cls := "SharedTaxisModel", name := "rule", desc := "(I)I" } : Jvm.MethodName) ({ cls := "SharedTaxisModel", name := "rule", desc := "(I)I" } : Jvm.MethodName)) ∈ lw_all := lw_g (lw_at lw_m13 5 rfl) rfl
theorem q2998 : (Jvm.Cond.code ({ cls := "SharedTaxisModel", name := "rule", desc := "(I)I" } : Jvm.MethodName) prog_25_method_67_code (2 : Nat) (Option.some Jvm.ClassFile.FieldType.int)) ∈ lw_all := lw_g (lw_at lw_m13 6 rfl) rfl
theorem q2999 : (Jvm.Cond.constantLong "SharedTaxisModel" (370 : Nat) (9 : Int64)) ∈ lw_all := lw_g (lw_at lw_m13 7 rfl) rfl
theorem q3000 : (Jvm.Cond.methodLink "SharedTaxisModel" (292 : Nat) ({ cls := "SharedTaxisModel", name := "ruled", desc := "(I)I" } : Jvm.MethodName)) ∈ lw_all := lw_g (lw_at lw_m13 8 rfl) rfl
theorem q3001 : (Jvm.Cond.privateMethod ({ cls := "SharedTaxisModel", name := "ruled", desc := "(I)I" } : Jvm.MethodName)) ∈ lw_tbl := lw_at lw_m13 9 rfl
theorem q3002 : (Jvm.Cond.instanceMethod ({ cls := "SharedTaxisModel", name := "ruled", desc := "(I)I" } : Jvm.MethodName)) ∈ lw_all := lw_g (lw_at lw_m13 10 rfl) rfl
theorem q3003 : (Jvm.Cond.code ({ cls := "SharedTaxisModel", name := "ruled", desc := "(I)I" } : Jvm.MethodName) prog_25_method_15_code (2 : Nat) (Option.some Jvm.ClassFile.FieldType.int)) ∈ lw_all := lw_g (lw_at lw_m13 11 rfl) rfl
theorem q3005 : (Jvm.Cond.instanceMethod ({ cls := "SharedTaxisModel", name := "minutes", desc := "(II)I" } : Jvm.MethodName)) ∈ lw_all := lw_g (lw_at lw_m13 13 rfl) rfl
theorem q3006 : (Jvm.Cond.selects "SharedTaxisModel" ({ cls := "SharedTaxisModel", name := "minutes", desc := "(II)I" } : Jvm.MethodName) ({ cls := "SharedTaxisModel", name := "minutes", desc := "(II)I" } : Jvm.MethodName)) ∈ lw_all := lw_g (lw_at lw_m13 14 rfl) rfl
theorem q3007 : (Jvm.Cond.code ({ cls := "SharedTaxisModel", name := "minutes", desc := "(II)I" } : Jvm.MethodName) prog_25_method_68_code (3 : Nat) (Option.some Jvm.ClassFile.FieldType.int)) ∈ lw_all := lw_g (lw_at lw_m13 15 rfl) rfl
theorem q3008 : (Jvm.Cond.methodLink "SharedTaxisModel" (372 : Nat) ({ cls := "SharedTaxisModel", name := "noZone", desc := "(I)Z" } : Jvm.MethodName)) ∈ lw_all := lw_g (lw_at lw_m13 16 rfl) rfl
theorem q3009 : (Jvm.Cond.privateMethod ({ cls := "SharedTaxisModel", name := "noZone", desc := "(I)Z" } : Jvm.MethodName)) ∈ lw_tbl := lw_at lw_m13 17 rfl
theorem q3010 : (Jvm.Cond.instanceMethod ({ cls := "SharedTaxisModel", name := "noZone", desc := "(I)Z" } : Jvm.MethodName)) ∈ lw_all := lw_g (lw_at lw_m13 18 rfl) rfl
theorem q3011 : (Jvm.Cond.code ({ cls := "SharedTaxisModel", name := "noZone", desc := "(I)Z" } : Jvm.MethodName) prog_25_method_61_code (2 : Nat) (Option.some Jvm.ClassFile.FieldType.boolean)) ∈ lw_all := lw_g (lw_at lw_m13 19 rfl) rfl
theorem q3012 : (Jvm.Cond.methodLink "SharedTaxisModel" (277 : Nat) ({ cls := "SharedTaxisModel", name := "minutesOf", desc := "(II)I" } : Jvm.MethodName)) ∈ lw_all := lw_g (lw_at lw_m13 20 rfl) rfl
theorem q3013 : (Jvm.Cond.privateMethod ({ cls := "SharedTaxisModel", name := "minutesOf", desc := "(II)I" } : Jvm.MethodName)) ∈ lw_tbl := lw_at lw_m13 21 rfl
theorem q3014 : (Jvm.Cond.instanceMethod ({ cls := "SharedTaxisModel", name := "minutesOf", desc := "(II)I" } : Jvm.MethodName)) ∈ lw_all := lw_g (lw_at lw_m13 22 rfl) rfl
theorem q3015 : (Jvm.Cond.code ({ cls := "SharedTaxisModel", name := "minutesOf", desc := "(II)I" } : Jvm.MethodName) prog_25_method_43_code (3 : Nat) (Option.some Jvm.ClassFile.FieldType.int)) ∈ lw_all := lw_g (lw_at lw_m13 23 rfl) rfl
theorem q3017 : (Jvm.Cond.instanceMethod ({ cls := "SharedTaxisModel", name := "taxi", desc := "(II)I" } : Jvm.MethodName)) ∈ lw_all := lw_g (lw_at lw_m13 25 rfl) rfl
theorem q3018 : (Jvm.Cond.selects "SharedTaxisModel" ({ cls := "SharedTaxisModel", name := "taxi", desc := "(II)I" } : Jvm.MethodName) ({ cls := "SharedTaxisModel", name := "taxi", desc := "(II)I" } : Jvm.MethodName)) ∈ lw_all := lw_g (lw_at lw_m13 26 rfl) rfl
theorem q3019 : (Jvm.Cond.code ({ cls := "SharedTaxisModel", name := "taxi", desc := "(II)I" } : Jvm.MethodName) prog_25_method_69_code (3 : Nat) (Option.some Jvm.ClassFile.FieldType.int)) ∈ lw_all := lw_g (lw_at lw_m13 27 rfl) rfl
theorem q3020 : (Jvm.Cond.methodLink "SharedTaxisModel" (375 : Nat) ({ cls := "SharedTaxisModel", name := "noTaxi", desc := "(I)Z" } : Jvm.MethodName)) ∈ lw_all := lw_g (lw_at lw_m13 28 rfl) rfl
theorem q3021 : (Jvm.Cond.privateMethod ({ cls := "SharedTaxisModel", name := "noTaxi", desc := "(I)Z" } : Jvm.MethodName)) ∈ lw_tbl := lw_at lw_m13 29 rfl
theorem q3022 : (Jvm.Cond.instanceMethod ({ cls := "SharedTaxisModel", name := "noTaxi", desc := "(I)Z" } : Jvm.MethodName)) ∈ lw_all := lw_g (lw_at lw_m13 30 rfl) rfl
theorem q3023 : (Jvm.Cond.code ({ cls := "SharedTaxisModel", name := "noTaxi", desc := "(I)Z" } : Jvm.MethodName) prog_25_method_62_code (2 : Nat) (Option.some Jvm.ClassFile.FieldType.boolean)) ∈ lw_all := lw_g (lw_at lw_m13 31 rfl) rfl
theorem q3024 : (Jvm.Cond.methodLink "SharedTaxisModel" (286 : Nat) ({ cls := "SharedTaxisModel", name := "personsAboard", desc := "(I)I" } : Jvm.MethodName)) ∈ lw_all := lw_g (lw_at lw_m13 32 rfl) rfl
theorem q3025 : (Jvm.Cond.privateMethod ({ cls := "SharedTaxisModel", name := "personsAboard", desc := "(I)I" } : Jvm.MethodName)) ∈ lw_tbl := lw_at lw_m13 33 rfl
theorem q3026 : (Jvm.Cond.instanceMethod ({ cls := "SharedTaxisModel", name := "personsAboard", desc := "(I)I" } : Jvm.MethodName)) ∈ lw_all := lw_g (lw_at lw_m13 34 rfl) rfl
theorem q3027 : (Jvm.Cond.code ({ cls := "SharedTaxisModel", name := "personsAboard", desc := "(I)I" } : Jvm.MethodName) prog_25_method_46_code (4 : Nat) (Option.some Jvm.ClassFile.FieldType.int)) ∈ lw_all := lw_g (lw_at lw_m13 35 rfl) rfl
theorem q3029 : (Jvm.Cond.instanceMethod ({ cls := "SharedTaxisModel", name := "account", desc := "(II)I" } : Jvm.MethodName)) ∈ lw_all := lw_g (lw_at lw_m13 37 rfl) rfl
theorem q3030 : (Jvm.Cond.selects "SharedTaxisModel" ({ cls := "SharedTaxisModel", name := "account", desc := "(II)I" } : Jvm.MethodName) ({ cls := "SharedTaxisModel", name := "account", desc := "(II)I" } : Jvm.MethodName)) ∈ lw_all := lw_g (lw_at lw_m13 38 rfl) rfl
theorem q3031 : (Jvm.Cond.code ({ cls := "SharedTaxisModel", name := "account", desc := "(II)I" } : Jvm.MethodName) prog_25_method_70_code (3 : Nat) (Option.some Jvm.ClassFile.FieldType.int)) ∈ lw_all := lw_g (lw_at lw_m13 39 rfl) rfl
theorem q3032 : (Jvm.Cond.constantLong "SharedTaxisModel" (378 : Nat) (5 : Int64)) ∈ lw_all := lw_g (lw_at lw_m13 40 rfl) rfl
theorem q3034 : (Jvm.Cond.instanceMethod ({ cls := "SharedTaxisModel", name := "stop", desc := "(III)I" } : Jvm.MethodName)) ∈ lw_all := lw_g (lw_at lw_m13 42 rfl) rfl
theorem q3035 : (Jvm.Cond.selects "SharedTaxisModel" ({ cls := "SharedTaxisModel", name := "stop", desc := "(III)I" } : Jvm.MethodName) ({ cls := "SharedTaxisModel", name := "stop", desc := "(III)I" } : Jvm.MethodName)) ∈ lw_all := lw_g (lw_at lw_m13 43 rfl) rfl
theorem q3036 : (Jvm.Cond.code ({ cls := "SharedTaxisModel", name := "stop", desc := "(III)I" } : Jvm.MethodName) prog_25_method_71_code (5 : Nat) (Option.some Jvm.ClassFile.FieldType.int)) ∈ lw_all := lw_g (lw_at lw_m13 44 rfl) rfl
theorem q3037 : (Jvm.Cond.methodLink "SharedTaxisModel" (301 : Nat) ({ cls := "SharedTaxisModel", name := "lists", desc := "(I)V" } : Jvm.MethodName)) ∈ lw_all := lw_g (lw_at lw_m13 45 rfl) rfl
theorem q3038 : (Jvm.Cond.privateMethod ({ cls := "SharedTaxisModel", name := "lists", desc := "(I)V" } : Jvm.MethodName)) ∈ lw_tbl := lw_at lw_m13 46 rfl
theorem q3039 : (Jvm.Cond.instanceMethod ({ cls := "SharedTaxisModel", name := "lists", desc := "(I)V" } : Jvm.MethodName)) ∈ lw_all := lw_g (lw_at lw_m13 47 rfl) rfl
theorem q3040 : (Jvm.Cond.code ({ cls := "SharedTaxisModel", name := "lists", desc := "(I)V" } : Jvm.MethodName) prog_25_method_41_code (3 : Nat) (Option.none : Option Jvm.ClassFile.FieldType)) ∈ lw_all := lw_g (lw_at lw_m13 48 rfl) rfl
theorem q3041 : (Jvm.Cond.methodLink "SharedTaxisModel" (311 : Nat) ({ cls := "SharedTaxisModel", name := "plans", desc := "(I)Z" } : Jvm.MethodName)) ∈ lw_all := lw_g (lw_at lw_m13 49 rfl) rfl
theorem q3042 : (Jvm.Cond.privateMethod ({ cls := "SharedTaxisModel", name := "plans", desc := "(I)Z" } : Jvm.MethodName)) ∈ lw_tbl := lw_at lw_m13 50 rfl
theorem q3043 : (Jvm.Cond.instanceMethod ({ cls := "SharedTaxisModel", name := "plans", desc := "(I)Z" } : Jvm.MethodName)) ∈ lw_all := lw_g (lw_at lw_m13 51 rfl) rfl
theorem q3044 : (Jvm.Cond.code ({ cls := "SharedTaxisModel", name := "plans", desc := "(I)Z" } : Jvm.MethodName) prog_25_method_48_code (14 : Nat) (Option.some Jvm.ClassFile.FieldType.boolean)) ∈ lw_all := lw_g (lw_at lw_m13 52 rfl) rfl
theorem q3045 : (Jvm.Cond.methodLink "SharedTaxisModel" (283 : Nat) ({ cls := "SharedTaxisModel", name := "zoneOf", desc := "(I)I" } : Jvm.MethodName)) ∈ lw_all := lw_g (lw_at lw_m13 53 rfl) rfl
theorem q3046 : (Jvm.Cond.privateMethod ({ cls := "SharedTaxisModel", name := "zoneOf", desc := "(I)I" } : Jvm.MethodName)) ∈ lw_tbl := lw_at lw_m13 54 rfl
theorem q3047 : (Jvm.Cond.instanceMethod ({ cls := "SharedTaxisModel", name := "zoneOf", desc := "(I)I" } : Jvm.MethodName)) ∈ lw_all := lw_g (lw_at lw_m13 55 rfl) rfl
theorem q3048 : (Jvm.Cond.code ({ cls := "SharedTaxisModel", name := "zoneOf", desc := "(I)I" } : Jvm.MethodName) prog_25_method_42_code (2 : Nat) (Option.some Jvm.ClassFile.FieldType.int)) ∈ lw_all := lw_g (lw_at lw_m13 56 rfl) rfl
theorem q3049 : (Jvm.Cond.methodLink "SharedTaxisModel" (289 : Nat) ({ cls := "SharedTaxisModel", name := "greater", desc := "(II)I" } : Jvm.MethodName)) ∈ lw_all := lw_g (lw_at lw_m13 57 rfl) rfl
theorem q3050 : (Jvm.Cond.static ({ cls := "SharedTaxisModel", name := "greater", desc := "(II)I" } : Jvm.MethodName)) ∈ lw_all := lw_g (lw_at lw_m13 58 rfl) rfl
theorem q3051 : (Jvm.Cond.code ({ cls := "SharedTaxisModel", name := "greater", desc := "(II)I" } : Jvm.MethodName) prog_25_method_5_code (2 : Nat) (Option.some Jvm.ClassFile.FieldType.int)) ∈ lw_all := lw_g (lw_at lw_m13 59 rfl) rfl
theorem q3052 : (Jvm.Cond.methodLink "SharedTaxisModel" (295 : Nat) ({ cls := "SharedTaxisModel", name := "mostOf", desc := "(I)I" } : Jvm.MethodName)) ∈ lw_all := lw_g (lw_at lw_m13 60 rfl) rfl
theorem q3053 : (Jvm.Cond.privateMethod ({ cls := "SharedTaxisModel", name := "mostOf", desc := "(I)I" } : Jvm.MethodName)) ∈ lw_tbl := lw_at lw_m13 61 rfl
theorem q3054 : (Jvm.Cond.instanceMethod ({ cls := "SharedTaxisModel", name := "mostOf", desc := "(I)I" } : Jvm.MethodName)) ∈ lw_all := lw_g (lw_at lw_m13 62 rfl) rfl
theorem q3055 : (Jvm.Cond.code ({ cls := "SharedTaxisModel", name := "mostOf", desc := "(I)I" } : Jvm.MethodName) prog_25_method_45_code (3 : Nat) (Option.some Jvm.ClassFile.FieldType.int)) ∈ lw_all := lw_g (lw_at lw_m13 63 rfl) rfl
theorem q3056 : (Jvm.Cond.methodLink "SharedTaxisModel" (280 : Nat) ({ cls := "SharedTaxisModel", name := "directOf", desc := "(I)I" } : Jvm.MethodName)) ∈ lw_all := lw_g (lw_at lw_m13 64 rfl) rfl
theorem q3057 : (Jvm.Cond.privateMethod ({ cls := "SharedTaxisModel", name := "directOf", desc := "(I)I" } : Jvm.MethodName)) ∈ lw_tbl := lw_at lw_m13 65 rfl
theorem q3058 : (Jvm.Cond.instanceMethod ({ cls := "SharedTaxisModel", name := "directOf", desc := "(I)I" } : Jvm.MethodName)) ∈ lw_all := lw_g (lw_at lw_m13 66 rfl) rfl
theorem q3059 : (Jvm.Cond.code ({ cls := "SharedTaxisModel", name := "directOf", desc := "(I)I" } : Jvm.MethodName) prog_25_method_44_code (2 : Nat) (Option.some Jvm.ClassFile.FieldType.int)) ∈ lw_all := lw_g (lw_at lw_m13 67 rfl) rfl
theorem q3061 : (Jvm.Cond.instanceMethod ({ cls := "SharedTaxisModel", name := "ride", desc := "(II)I" } : Jvm.MethodName)) ∈ lw_all := lw_g (lw_at lw_m13 69 rfl) rfl
theorem q3062 : (Jvm.Cond.selects "SharedTaxisModel" ({ cls := "SharedTaxisModel", name := "ride", desc := "(II)I" } : Jvm.MethodName) ({ cls := "SharedTaxisModel", name := "ride", desc := "(II)I" } : Jvm.MethodName)) ∈ lw_all := lw_g (lw_at lw_m13 70 rfl) rfl
theorem q3063 : (Jvm.Cond.code ({ cls := "SharedTaxisModel", name := "ride", desc := "(II)I" } : Jvm.MethodName) prog_25_method_72_code (3 : Nat) (Option.some Jvm.ClassFile.FieldType.int)) ∈ lw_all := lw_g (lw_at lw_m13 71 rfl) rfl
theorem q3064 : (Jvm.Cond.methodLink "SharedTaxisModel" (380 : Nat) ({ cls := "SharedTaxisModel", name := "noRide", desc := "(I)Z" } : Jvm.MethodName)) ∈ lw_all := lw_g (lw_at lw_m13 72 rfl) rfl
theorem q3065 : (Jvm.Cond.privateMethod ({ cls := "SharedTaxisModel", name := "noRide", desc := "(I)Z" } : Jvm.MethodName)) ∈ lw_tbl := lw_at lw_m13 73 rfl
theorem q3066 : (Jvm.Cond.instanceMethod ({ cls := "SharedTaxisModel", name := "noRide", desc := "(I)Z" } : Jvm.MethodName)) ∈ lw_all := lw_g (lw_at lw_m13 74 rfl) rfl
theorem q3067 : (Jvm.Cond.code ({ cls := "SharedTaxisModel", name := "noRide", desc := "(I)Z" } : Jvm.MethodName) prog_25_method_63_code (2 : Nat) (Option.some Jvm.ClassFile.FieldType.boolean)) ∈ lw_all := lw_g (lw_at lw_m13 75 rfl) rfl
theorem q3068 : (Jvm.Cond.constantLong "SharedTaxisModel" (383 : Nat) (13 : Int64)) ∈ lw_all := lw_g (lw_at lw_m13 76 rfl) rfl
theorem q3070 : (Jvm.Cond.instanceMethod ({ cls := "SharedTaxisModel", name := "offer", desc := "(II)I" } : Jvm.MethodName)) ∈ lw_all := lw_g (lw_at lw_m13 78 rfl) rfl
theorem q3071 : (Jvm.Cond.selects "SharedTaxisModel" ({ cls := "SharedTaxisModel", name := "offer", desc := "(II)I" } : Jvm.MethodName) ({ cls := "SharedTaxisModel", name := "offer", desc := "(II)I" } : Jvm.MethodName)) ∈ lw_all := lw_g (lw_at lw_m13 79 rfl) rfl
theorem q3072 : (Jvm.Cond.code ({ cls := "SharedTaxisModel", name := "offer", desc := "(II)I" } : Jvm.MethodName) prog_25_method_73_code (3 : Nat) (Option.some Jvm.ClassFile.FieldType.int)) ∈ lw_all := lw_g (lw_at lw_m13 80 rfl) rfl
theorem q3073 : (Jvm.Cond.constantLong "SharedTaxisModel" (385 : Nat) (4 : Int64)) ∈ lw_all := lw_g (lw_at lw_m13 81 rfl) rfl
theorem q3075 : (Jvm.Cond.instanceMethod ({ cls := "SharedTaxisModel", name := "extra", desc := "(II)I" } : Jvm.MethodName)) ∈ lw_all := lw_g (lw_at lw_m13 83 rfl) rfl
theorem q3076 : (Jvm.Cond.selects "SharedTaxisModel" ({ cls := "SharedTaxisModel", name := "extra", desc := "(II)I" } : Jvm.MethodName) ({ cls := "SharedTaxisModel", name := "extra", desc := "(II)I" } : Jvm.MethodName)) ∈ lw_all := lw_g (lw_at lw_m13 84 rfl) rfl
theorem q3077 : (Jvm.Cond.code ({ cls := "SharedTaxisModel", name := "extra", desc := "(II)I" } : Jvm.MethodName) prog_25_method_74_code (3 : Nat) (Option.some Jvm.ClassFile.FieldType.int)) ∈ lw_all := lw_g (lw_at lw_m13 85 rfl) rfl
theorem q3078 : (Jvm.Cond.methodLink "SharedTaxisModel" (387 : Nat) ({ cls := "SharedTaxisModel", name := "findsBest", desc := "(II)Z" } : Jvm.MethodName)) ∈ lw_all := lw_g (lw_at lw_m13 86 rfl) rfl
theorem q3079 : (Jvm.Cond.privateMethod ({ cls := "SharedTaxisModel", name := "findsBest", desc := "(II)Z" } : Jvm.MethodName)) ∈ lw_tbl := lw_at lw_m13 87 rfl
theorem q3080 : (Jvm.Cond.instanceMethod ({ cls := "SharedTaxisModel", name := "findsBest", desc := "(II)Z" } : Jvm.MethodName)) ∈ lw_all := lw_g (lw_at lw_m13 88 rfl) rfl
theorem q3081 : (Jvm.Cond.code ({ cls := "SharedTaxisModel", name := "findsBest", desc := "(II)Z" } : Jvm.MethodName) prog_25_method_50_code (8 : Nat) (Option.some Jvm.ClassFile.FieldType.boolean)) ∈ lw_all := lw_g (lw_at lw_m13 89 rfl) rfl
theorem q3082 : (Jvm.Cond.methodLink "SharedTaxisModel" (304 : Nat) ({ cls := "SharedTaxisModel", name := "sumOfWays", desc := "(I)I" } : Jvm.MethodName)) ∈ lw_all := lw_g (lw_at lw_m13 90 rfl) rfl
theorem q3083 : (Jvm.Cond.privateMethod ({ cls := "SharedTaxisModel", name := "sumOfWays", desc := "(I)I" } : Jvm.MethodName)) ∈ lw_tbl := lw_at lw_m13 91 rfl
theorem q3084 : (Jvm.Cond.instanceMethod ({ cls := "SharedTaxisModel", name := "sumOfWays", desc := "(I)I" } : Jvm.MethodName)) ∈ lw_all := lw_g (lw_at lw_m13 92 rfl) rfl
theorem q3085 : (Jvm.Cond.code ({ cls := "SharedTaxisModel", name := "sumOfWays", desc := "(I)I" } : Jvm.MethodName) prog_25_method_47_code (6 : Nat) (Option.some Jvm.ClassFile.FieldType.int)) ∈ lw_all := lw_g (lw_at lw_m13 93 rfl) rfl
theorem q3086 : (Jvm.Cond.methodLink "SharedTaxisModel" (307 : Nat) ({ cls := "SharedTaxisModel", name := "insertsAt", desc := "(IIII)V" } : Jvm.MethodName)) ∈ lw_all := lw_g (lw_at lw_m13 94 rfl) rfl
theorem q3087 : (Jvm.Cond.privateMethod ({ cls := "SharedTaxisModel", name := "insertsAt", desc := "(IIII)V" } : Jvm.MethodName)) ∈ lw_tbl := lw_at lw_m13 95 rfl
theorem q3088 : (Jvm.Cond.instanceMethod ({ cls := "SharedTaxisModel", name := "insertsAt", desc := "(IIII)V" } : Jvm.MethodName)) ∈ lw_all := lw_g (lw_at lw_m13 96 rfl) rfl
theorem q3089 : (Jvm.Cond.code ({ cls := "SharedTaxisModel", name := "insertsAt", desc := "(IIII)V" } : Jvm.MethodName) prog_25_method_49_code (8 : Nat) (Option.none : Option Jvm.ClassFile.FieldType)) ∈ lw_all := lw_g (lw_at lw_m13 97 rfl) rfl
theorem q3091 : (Jvm.Cond.instanceMethod ({ cls := "SharedTaxisModel", name := "fare", desc := "(I)I" } : Jvm.MethodName)) ∈ lw_all := lw_g (lw_at lw_m13 99 rfl) rfl
theorem q3092 : (Jvm.Cond.selects "SharedTaxisModel" ({ cls := "SharedTaxisModel", name := "fare", desc := "(I)I" } : Jvm.MethodName) ({ cls := "SharedTaxisModel", name := "fare", desc := "(I)I" } : Jvm.MethodName)) ∈ lw_all := lw_g (lw_at lw_m13 100 rfl) rfl
theorem q3093 : (Jvm.Cond.code ({ cls := "SharedTaxisModel", name := "fare", desc := "(I)I" } : Jvm.MethodName) prog_25_method_76_code (3 : Nat) (Option.some Jvm.ClassFile.FieldType.int)) ∈ lw_all := lw_g (lw_at lw_m13 101 rfl) rfl
theorem q3094 : (Jvm.Cond.constantLong "SharedTaxisModel" (391 : Nat) (2 : Int64)) ∈ lw_all := lw_g (lw_at lw_m13 102 rfl) rfl
theorem q3095 : (Jvm.Cond.methodLink "SharedTaxisModel" (393 : Nat) ({ cls := "SharedTaxisModel", name := "willPay", desc := "(II)I" } : Jvm.MethodName)) ∈ lw_all := lw_g (lw_at lw_m13 103 rfl) rfl
theorem q3096 : (Jvm.Cond.privateMethod ({ cls := "SharedTaxisModel", name := "willPay", desc := "(II)I" } : Jvm.MethodName)) ∈ lw_tbl := lw_at lw_m13 104 rfl
theorem q3097 : (Jvm.Cond.instanceMethod ({ cls := "SharedTaxisModel", name := "willPay", desc := "(II)I" } : Jvm.MethodName)) ∈ lw_all := lw_g (lw_at lw_m13 105 rfl) rfl
theorem q3098 : (Jvm.Cond.code ({ cls := "SharedTaxisModel", name := "willPay", desc := "(II)I" } : Jvm.MethodName) prog_25_method_75_code (11 : Nat) (Option.some Jvm.ClassFile.FieldType.int)) ∈ lw_all := lw_g (lw_at lw_m13 106 rfl) rfl
theorem q3099 : (Jvm.Cond.methodLink "SharedTaxisModel" (339 : Nat) ({ cls := "SharedTaxisModel", name := "amountFor", desc := "(II)I" } : Jvm.MethodName)) ∈ lw_all := lw_g (lw_at lw_m13 107 rfl) rfl
theorem q3100 : (Jvm.Cond.privateMethod ({ cls := "SharedTaxisModel", name := "amountFor", desc := "(II)I" } : Jvm.MethodName)) ∈ lw_tbl := lw_at lw_m13 108 rfl
theorem q3101 : (Jvm.Cond.instanceMethod ({ cls := "SharedTaxisModel", name := "amountFor", desc := "(II)I" } : Jvm.MethodName)) ∈ lw_all := lw_g (lw_at lw_m13 109 rfl) rfl
theorem q3102 : (Jvm.Cond.code ({ cls := "SharedTaxisModel", name := "amountFor", desc := "(II)I" } : Jvm.MethodName) prog_25_method_54_code (4 : Nat) (Option.some Jvm.ClassFile.FieldType.int)) ∈ lw_all := lw_g (lw_at lw_m13 110 rfl) rfl
theorem q3103 : (Jvm.Cond.methodLink "SharedTaxisModel" (333 : Nat) ({ cls := "SharedTaxisModel", name := "discountFor", desc := "(I)I" } : Jvm.MethodName)) ∈ lw_all := lw_g (lw_at lw_m13 111 rfl) rfl
theorem q3104 : (Jvm.Cond.privateMethod ({ cls := "SharedTaxisModel", name := "discountFor", desc := "(I)I" } : Jvm.MethodName)) ∈ lw_tbl := lw_at lw_m13 112 rfl
theorem q3105 : (Jvm.Cond.instanceMethod ({ cls := "SharedTaxisModel", name := "discountFor", desc := "(I)I" } : Jvm.MethodName)) ∈ lw_all := lw_g (lw_at lw_m13 113 rfl) rfl
theorem q3106 : (Jvm.Cond.code ({ cls := "SharedTaxisModel", name := "discountFor", desc := "(I)I" } : Jvm.MethodName) prog_25_method_53_code (2 : Nat) (Option.some Jvm.ClassFile.FieldType.int)) ∈ lw_all := lw_g (lw_at lw_m13 114 rfl) rfl
theorem q3107 : (Jvm.Cond.methodLink "SharedTaxisModel" (330 : Nat) ({ cls := "SharedTaxisModel", name := "lesser", desc := "(II)I" } : Jvm.MethodName)) ∈ lw_all := lw_g (lw_at lw_m13 115 rfl) rfl
theorem q3108 : (Jvm.Cond.static ({ cls := "SharedTaxisModel", name := "lesser", desc := "(II)I" } : Jvm.MethodName)) ∈ lw_all := lw_g (lw_at lw_m13 116 rfl) rfl
theorem q3109 : (Jvm.Cond.code ({ cls := "SharedTaxisModel", name := "lesser", desc := "(II)I" } : Jvm.MethodName) prog_25_method_6_code (2 : Nat) (Option.some Jvm.ClassFile.FieldType.int)) ∈ lw_all := lw_g (lw_at lw_m13 117 rfl) rfl
theorem q3110 : (Jvm.Cond.methodLink "SharedTaxisModel" (342 : Nat) ({ cls := "SharedTaxisModel", name := "partOf", desc := "(III)I" } : Jvm.MethodName)) ∈ lw_all := lw_g (lw_at lw_m13 118 rfl) rfl
theorem q3111 : (Jvm.Cond.static ({ cls := "SharedTaxisModel", name := "partOf", desc := "(III)I" } : Jvm.MethodName)) ∈ lw_all := lw_g (lw_at lw_m13 119 rfl) rfl
theorem q3112 : (Jvm.Cond.code ({ cls := "SharedTaxisModel", name := "partOf", desc := "(III)I" } : Jvm.MethodName) prog_25_method_55_code (3 : Nat) (Option.some Jvm.ClassFile.FieldType.int)) ∈ lw_all := lw_g (lw_at lw_m13 120 rfl) rfl
theorem q3114 : (Jvm.Cond.instanceMethod ({ cls := "SharedTaxisModel", name := "aloneFare", desc := "(II)I" } : Jvm.MethodName)) ∈ lw_all := lw_g (lw_at lw_m13 122 rfl) rfl
theorem q3115 : (Jvm.Cond.selects "SharedTaxisModel" ({ cls := "SharedTaxisModel", name := "aloneFare", desc := "(II)I" } : Jvm.MethodName) ({ cls := "SharedTaxisModel", name := "aloneFare", desc := "(II)I" } : Jvm.MethodName)) ∈ lw_all := lw_g (lw_at lw_m13 123 rfl) rfl
theorem q3116 : (Jvm.Cond.code ({ cls := "SharedTaxisModel", name := "aloneFare", desc := "(II)I" } : Jvm.MethodName) prog_25_method_77_code (3 : Nat) (Option.some Jvm.ClassFile.FieldType.int)) ∈ lw_all := lw_g (lw_at lw_m13 124 rfl) rfl
theorem q3118 : (Jvm.Cond.instanceMethod ({ cls := "SharedTaxisModel", name := "keeps", desc := "(I)Z" } : Jvm.MethodName)) ∈ lw_all := lw_g (lw_at lw_m13 126 rfl) rfl
theorem q3119 : (Jvm.Cond.selects "SharedTaxisModel" ({ cls := "SharedTaxisModel", name := "keeps", desc := "(I)Z" } : Jvm.MethodName) ({ cls := "SharedTaxisModel", name := "keeps", desc := "(I)Z" } : Jvm.MethodName)) ∈ lw_all := lw_g (lw_at lw_m13 127 rfl) rfl
theorem q3120 : (Jvm.Cond.code ({ cls := "SharedTaxisModel", name := "keeps", desc := "(I)Z" } : Jvm.MethodName) prog_25_method_78_code (2 : Nat) (Option.some Jvm.ClassFile.FieldType.boolean)) ∈ lw_all := lw_g (lw_at lw_m13 128 rfl) rfl
theorem q3122 : (Jvm.Cond.instanceMethod ({ cls := "SharedTaxisModel", name := "routeMinutes", desc := "(I)I" } : Jvm.MethodName)) ∈ lw_all := lw_g (lw_at lw_m13 130 rfl) rfl
theorem q3123 : (Jvm.Cond.selects "SharedTaxisModel" ({ cls := "SharedTaxisModel", name := "routeMinutes", desc := "(I)I" } : Jvm.MethodName) ({ cls := "SharedTaxisModel", name := "routeMinutes", desc := "(I)I" } : Jvm.MethodName)) ∈ lw_all := lw_g (lw_at lw_m13 131 rfl) rfl
theorem q3124 : (Jvm.Cond.code ({ cls := "SharedTaxisModel", name := "routeMinutes", desc := "(I)I" } : Jvm.MethodName) prog_25_method_79_code (2 : Nat) (Option.some Jvm.ClassFile.FieldType.int)) ∈ lw_all := lw_g (lw_at lw_m13 132 rfl) rfl
theorem q3126 : (Jvm.Cond.instanceMethod ({ cls := "SharedTaxisModel", name := "rides", desc := "(I)I" } : Jvm.MethodName)) ∈ lw_all := lw_g (lw_at lw_m13 134 rfl) rfl
theorem q3127 : (Jvm.Cond.selects "SharedTaxisModel" ({ cls := "SharedTaxisModel", name := "rides", desc := "(I)I" } : Jvm.MethodName) ({ cls := "SharedTaxisModel", name := "rides", desc := "(I)I" } : Jvm.MethodName)) ∈ lw_all := lw_g (lw_at lw_m13 135 rfl) rfl
theorem q3128 : (Jvm.Cond.code ({ cls := "SharedTaxisModel", name := "rides", desc := "(I)I" } : Jvm.MethodName) prog_25_method_80_code (2 : Nat) (Option.some Jvm.ClassFile.FieldType.int)) ∈ lw_all := lw_g (lw_at lw_m13 136 rfl) rfl
theorem q3129 : (Jvm.Cond.constantLong "SharedTaxisModel" (396 : Nat) (6 : Int64)) ∈ lw_all := lw_g (lw_at lw_m13 137 rfl) rfl
theorem q3131 : (Jvm.Cond.instanceMethod ({ cls := "SharedTaxisModel", name := "meanFare", desc := "()D" } : Jvm.MethodName)) ∈ lw_all := lw_g (lw_at lw_m13 139 rfl) rfl
theorem q3132 : (Jvm.Cond.selects "SharedTaxisModel" ({ cls := "SharedTaxisModel", name := "meanFare", desc := "()D" } : Jvm.MethodName) ({ cls := "SharedTaxisModel", name := "meanFare", desc := "()D" } : Jvm.MethodName)) ∈ lw_all := lw_g (lw_at lw_m13 140 rfl) rfl
theorem q3133 : (Jvm.Cond.code ({ cls := "SharedTaxisModel", name := "meanFare", desc := "()D" } : Jvm.MethodName) prog_25_method_81_code (4 : Nat) (Option.some Jvm.ClassFile.FieldType.double)) ∈ lw_all := lw_g (lw_at lw_m13 141 rfl) rfl
theorem q3135 : (Jvm.Cond.instanceMethod ({ cls := "SharedTaxisModel", name := "sharedPart", desc := "()F" } : Jvm.MethodName)) ∈ lw_all := lw_g (lw_at lw_m13 143 rfl) rfl
theorem q3136 : (Jvm.Cond.selects "SharedTaxisModel" ({ cls := "SharedTaxisModel", name := "sharedPart", desc := "()F" } : Jvm.MethodName) ({ cls := "SharedTaxisModel", name := "sharedPart", desc := "()F" } : Jvm.MethodName)) ∈ lw_all := lw_g (lw_at lw_m13 144 rfl) rfl
theorem q3137 : (Jvm.Cond.code ({ cls := "SharedTaxisModel", name := "sharedPart", desc := "()F" } : Jvm.MethodName) prog_25_method_82_code (1 : Nat) (Option.some Jvm.ClassFile.FieldType.float)) ∈ lw_all := lw_g (lw_at lw_m13 145 rfl) rfl
theorem q3139 : (Jvm.Cond.instanceMethod ({ cls := "SharedTaxisModel", name := "ask", desc := "(IIIII)I" } : Jvm.MethodName)) ∈ lw_all := lw_g (lw_at lw_m13 147 rfl) rfl
theorem q3140 : (Jvm.Cond.selects "SharedTaxisModel" ({ cls := "SharedTaxisModel", name := "ask", desc := "(IIIII)I" } : Jvm.MethodName) ({ cls := "SharedTaxisModel", name := "ask", desc := "(IIIII)I" } : Jvm.MethodName)) ∈ lw_all := lw_g (lw_at lw_m13 148 rfl) rfl
theorem q3141 : (Jvm.Cond.code ({ cls := "SharedTaxisModel", name := "ask", desc := "(IIIII)I" } : Jvm.MethodName) prog_25_method_85_code (8 : Nat) (Option.some Jvm.ClassFile.FieldType.int)) ∈ lw_all := lw_g (lw_at lw_m13 149 rfl) rfl
theorem q3142 : (Jvm.Cond.constantLong "SharedTaxisModel" (398 : Nat) (600 : Int64)) ∈ lw_all := lw_g (lw_at lw_m13 150 rfl) rfl
theorem q3143 : (Jvm.Cond.constantLong "SharedTaxisModel" (400 : Nat) (200 : Int64)) ∈ lw_all := lw_g (lw_at lw_m13 151 rfl) rfl
theorem q3144 : (Jvm.Cond.methodLink "SharedTaxisModel" (402 : Nat) ({ cls := "SharedTaxisModel", name := "records", desc := "()V" } : Jvm.MethodName)) ∈ lw_all := lw_g (lw_at lw_m13 152 rfl) rfl
theorem q3145 : (Jvm.Cond.privateMethod ({ cls := "SharedTaxisModel", name := "records", desc := "()V" } : Jvm.MethodName)) ∈ lw_tbl := lw_at lw_m13 153 rfl
theorem q3146 : (Jvm.Cond.instanceMethod ({ cls := "SharedTaxisModel", name := "records", desc := "()V" } : Jvm.MethodName)) ∈ lw_all := lw_g (lw_at lw_m13 154 rfl) rfl
theorem q3147 : (Jvm.Cond.code ({ cls := "SharedTaxisModel", name := "records", desc := "()V" } : Jvm.MethodName) prog_25_method_83_code (2 : Nat) (Option.none : Option Jvm.ClassFile.FieldType)) ∈ lw_all := lw_g (lw_at lw_m13 155 rfl) rfl
theorem q3148 : (Jvm.Cond.methodLink "SharedTaxisModel" (346 : Nat) ({ cls := "SharedTaxisModel", name := "sets", desc := "(III)V" } : Jvm.MethodName)) ∈ lw_all := lw_g (lw_at lw_m13 156 rfl) rfl
theorem q3149 : (Jvm.Cond.privateMethod ({ cls := "SharedTaxisModel", name := "sets", desc := "(III)V" } : Jvm.MethodName)) ∈ lw_tbl := lw_at lw_m13 157 rfl
theorem q3150 : (Jvm.Cond.instanceMethod ({ cls := "SharedTaxisModel", name := "sets", desc := "(III)V" } : Jvm.MethodName)) ∈ lw_all := lw_g (lw_at lw_m13 158 rfl) rfl
theorem q3151 : (Jvm.Cond.code ({ cls := "SharedTaxisModel", name := "sets", desc := "(III)V" } : Jvm.MethodName) prog_25_method_11_code (4 : Nat) (Option.none : Option Jvm.ClassFile.FieldType)) ∈ lw_all := lw_g (lw_at lw_m13 159 rfl) rfl
theorem q3152 : (Jvm.Cond.methodLink "SharedTaxisModel" (405 : Nat) ({ cls := "SharedTaxisModel", name := "offers", desc := "(I)V" } : Jvm.MethodName)) ∈ lw_all := lw_g (lw_at lw_m13 160 rfl) rfl
theorem q3153 : (Jvm.Cond.privateMethod ({ cls := "SharedTaxisModel", name := "offers", desc := "(I)V" } : Jvm.MethodName)) ∈ lw_tbl := lw_at lw_m13 161 rfl
theorem q3154 : (Jvm.Cond.instanceMethod ({ cls := "SharedTaxisModel", name := "offers", desc := "(I)V" } : Jvm.MethodName)) ∈ lw_all := lw_g (lw_at lw_m13 162 rfl) rfl
theorem q3155 : (Jvm.Cond.code ({ cls := "SharedTaxisModel", name := "offers", desc := "(I)V" } : Jvm.MethodName) prog_25_method_84_code (4 : Nat) (Option.none : Option Jvm.ClassFile.FieldType)) ∈ lw_all := lw_g (lw_at lw_m13 163 rfl) rfl
theorem q3157 : (Jvm.Cond.instanceMethod ({ cls := "SharedTaxisModel", name := "accept", desc := "(I)I" } : Jvm.MethodName)) ∈ lw_all := lw_g (lw_at lw_m13 165 rfl) rfl
theorem q3158 : (Jvm.Cond.selects "SharedTaxisModel" ({ cls := "SharedTaxisModel", name := "accept", desc := "(I)I" } : Jvm.MethodName) ({ cls := "SharedTaxisModel", name := "accept", desc := "(I)I" } : Jvm.MethodName)) ∈ lw_all := lw_g (lw_at lw_m13 166 rfl) rfl
theorem q3159 : (Jvm.Cond.code ({ cls := "SharedTaxisModel", name := "accept", desc := "(I)I" } : Jvm.MethodName) prog_25_method_86_code (3 : Nat) (Option.some Jvm.ClassFile.FieldType.int)) ∈ lw_all := lw_g (lw_at lw_m13 167 rfl) rfl
theorem q3160 : (Jvm.Cond.methodLink "SharedTaxisModel" (408 : Nat) ({ cls := "SharedTaxisModel", name := "puts", desc := "(I)V" } : Jvm.MethodName)) ∈ lw_all := lw_g (lw_at lw_m13 168 rfl) rfl
theorem q3161 : (Jvm.Cond.privateMethod ({ cls := "SharedTaxisModel", name := "puts", desc := "(I)V" } : Jvm.MethodName)) ∈ lw_tbl := lw_at lw_m13 169 rfl
theorem q3162 : (Jvm.Cond.instanceMethod ({ cls := "SharedTaxisModel", name := "puts", desc := "(I)V" } : Jvm.MethodName)) ∈ lw_all := lw_g (lw_at lw_m13 170 rfl) rfl
theorem q3163 : (Jvm.Cond.code ({ cls := "SharedTaxisModel", name := "puts", desc := "(I)V" } : Jvm.MethodName) prog_25_method_51_code (3 : Nat) (Option.none : Option Jvm.ClassFile.FieldType)) ∈ lw_all := lw_g (lw_at lw_m13 171 rfl) rfl
theorem q3164 : (Jvm.Cond.methodLink "SharedTaxisModel" (326 : Nat) ({ cls := "SharedTaxisModel", name := "lays2", desc := "(III)V" } : Jvm.MethodName)) ∈ lw_all := lw_g (lw_at lw_m13 172 rfl) rfl
theorem q3165 : (Jvm.Cond.privateMethod ({ cls := "SharedTaxisModel", name := "lays2", desc := "(III)V" } : Jvm.MethodName)) ∈ lw_tbl := lw_at lw_m13 173 rfl
theorem q3166 : (Jvm.Cond.instanceMethod ({ cls := "SharedTaxisModel", name := "lays2", desc := "(III)V" } : Jvm.MethodName)) ∈ lw_all := lw_g (lw_at lw_m13 174 rfl) rfl
theorem q3167 : (Jvm.Cond.code ({ cls := "SharedTaxisModel", name := "lays2", desc := "(III)V" } : Jvm.MethodName) prog_25_method_13_code (4 : Nat) (Option.none : Option Jvm.ClassFile.FieldType)) ∈ lw_all := lw_g (lw_at lw_m13 175 rfl) rfl
theorem q3169 : (Jvm.Cond.instanceMethod ({ cls := "SharedTaxisModel", name := "decline", desc := "(I)I" } : Jvm.MethodName)) ∈ lw_all := lw_g (lw_at lw_m13 177 rfl) rfl
theorem q3170 : (Jvm.Cond.selects "SharedTaxisModel" ({ cls := "SharedTaxisModel", name := "decline", desc := "(I)I" } : Jvm.MethodName) ({ cls := "SharedTaxisModel", name := "decline", desc := "(I)I" } : Jvm.MethodName)) ∈ lw_all := lw_g (lw_at lw_m13 178 rfl) rfl
theorem q3171 : (Jvm.Cond.code ({ cls := "SharedTaxisModel", name := "decline", desc := "(I)I" } : Jvm.MethodName) prog_25_method_87_code (2 : Nat) (Option.some Jvm.ClassFile.FieldType.int)) ∈ lw_all := lw_g (lw_at lw_m13 179 rfl) rfl
theorem q3173 : (Jvm.Cond.instanceMethod ({ cls := "SharedTaxisModel", name := "cancel", desc := "(I)I" } : Jvm.MethodName)) ∈ lw_all := lw_g (lw_at lw_m13 181 rfl) rfl
theorem q3174 : (Jvm.Cond.selects "SharedTaxisModel" ({ cls := "SharedTaxisModel", name := "cancel", desc := "(I)I" } : Jvm.MethodName) ({ cls := "SharedTaxisModel", name := "cancel", desc := "(I)I" } : Jvm.MethodName)) ∈ lw_all := lw_g (lw_at lw_m13 182 rfl) rfl
theorem q3175 : (Jvm.Cond.code ({ cls := "SharedTaxisModel", name := "cancel", desc := "(I)I" } : Jvm.MethodName) prog_25_method_88_code (3 : Nat) (Option.some Jvm.ClassFile.FieldType.int)) ∈ lw_all := lw_g (lw_at lw_m13 183 rfl) rfl
theorem q3176 : (Jvm.Cond.methodLink "SharedTaxisModel" (411 : Nat) ({ cls := "SharedTaxisModel", name := "drops", desc := "(II)V" } : Jvm.MethodName)) ∈ lw_all := lw_g (lw_at lw_m13 184 rfl) rfl
theorem q3177 : (Jvm.Cond.privateMethod ({ cls := "SharedTaxisModel", name := "drops", desc := "(II)V" } : Jvm.MethodName)) ∈ lw_tbl := lw_at lw_m13 185 rfl
theorem q3178 : (Jvm.Cond.instanceMethod ({ cls := "SharedTaxisModel", name := "drops", desc := "(II)V" } : Jvm.MethodName)) ∈ lw_all := lw_g (lw_at lw_m13 186 rfl) rfl
theorem q3179 : (Jvm.Cond.code ({ cls := "SharedTaxisModel", name := "drops", desc := "(II)V" } : Jvm.MethodName) prog_25_method_52_code (6 : Nat) (Option.none : Option Jvm.ClassFile.FieldType)) ∈ lw_all := lw_g (lw_at lw_m13 187 rfl) rfl
theorem q3181 : (Jvm.Cond.instanceMethod ({ cls := "SharedTaxisModel", name := "absent", desc := "(I)I" } : Jvm.MethodName)) ∈ lw_all := lw_g (lw_at lw_m13 189 rfl) rfl
theorem q3182 : (Jvm.Cond.selects "SharedTaxisModel" ({ cls := "SharedTaxisModel", name := "absent", desc := "(I)I" } : Jvm.MethodName) ({ cls := "SharedTaxisModel", name := "absent", desc := "(I)I" } : Jvm.MethodName)) ∈ lw_all := lw_g (lw_at lw_m13 190 rfl) rfl
theorem q3183 : (Jvm.Cond.code ({ cls := "SharedTaxisModel", name := "absent", desc := "(I)I" } : Jvm.MethodName) prog_25_method_89_code (2 : Nat) (Option.some Jvm.ClassFile.FieldType.int)) ∈ lw_all := lw_g (lw_at lw_m13 191 rfl) rfl
theorem q3185 : (Jvm.Cond.instanceMethod ({ cls := "SharedTaxisModel", name := "advance", desc := "(I)I" } : Jvm.MethodName)) ∈ lw_all := lw_g (lw_at lw_m13 193 rfl) rfl
theorem q3186 : (Jvm.Cond.selects "SharedTaxisModel" ({ cls := "SharedTaxisModel", name := "advance", desc := "(I)I" } : Jvm.MethodName) ({ cls := "SharedTaxisModel", name := "advance", desc := "(I)I" } : Jvm.MethodName)) ∈ lw_all := lw_g (lw_at lw_m13 194 rfl) rfl
theorem q3187 : (Jvm.Cond.code ({ cls := "SharedTaxisModel", name := "advance", desc := "(I)I" } : Jvm.MethodName) prog_25_method_90_code (5 : Nat) (Option.some Jvm.ClassFile.FieldType.int)) ∈ lw_all := lw_g (lw_at lw_m13 195 rfl) rfl
theorem q3188 : (Jvm.Cond.constantLong "SharedTaxisModel" (414 : Nat) (1440 : Int64)) ∈ lw_all := lw_g (lw_at lw_m13 196 rfl) rfl
theorem q3189 : (Jvm.Cond.methodLink "SharedTaxisModel" (416 : Nat) ({ cls := "SharedTaxisModel", name := "goesOn", desc := "(II)I" } : Jvm.MethodName)) ∈ lw_all := lw_g (lw_at lw_m13 197 rfl) rfl
theorem q3190 : (Jvm.Cond.privateMethod ({ cls := "SharedTaxisModel", name := "goesOn", desc := "(II)I" } : Jvm.MethodName)) ∈ lw_tbl := lw_at lw_m13 198 rfl
theorem q3191 : (Jvm.Cond.instanceMethod ({ cls := "SharedTaxisModel", name := "goesOn", desc := "(II)I" } : Jvm.MethodName)) ∈ lw_all := lw_g (lw_at lw_m13 199 rfl) rfl
theorem q3192 : (Jvm.Cond.code ({ cls := "SharedTaxisModel", name := "goesOn", desc := "(II)I" } : Jvm.MethodName) prog_25_method_60_code (7 : Nat) (Option.some Jvm.ClassFile.FieldType.int)) ∈ lw_all := lw_g (lw_at lw_m13 200 rfl) rfl
theorem q3193 : (Jvm.Cond.methodLink "SharedTaxisModel" (359 : Nat) ({ cls := "SharedTaxisModel", name := "happens", desc := "(II)V" } : Jvm.MethodName)) ∈ lw_all := lw_g (lw_at lw_m13 201 rfl) rfl
theorem q3194 : (Jvm.Cond.privateMethod ({ cls := "SharedTaxisModel", name := "happens", desc := "(II)V" } : Jvm.MethodName)) ∈ lw_tbl := lw_at lw_m13 202 rfl
theorem q3195 : (Jvm.Cond.instanceMethod ({ cls := "SharedTaxisModel", name := "happens", desc := "(II)V" } : Jvm.MethodName)) ∈ lw_all := lw_g (lw_at lw_m13 203 rfl) rfl
theorem q3196 : (Jvm.Cond.code ({ cls := "SharedTaxisModel", name := "happens", desc := "(II)V" } : Jvm.MethodName) prog_25_method_59_code (4 : Nat) (Option.none : Option Jvm.ClassFile.FieldType)) ∈ lw_all := lw_g (lw_at lw_m13 204 rfl) rfl
theorem q3197 : (Jvm.Cond.methodLink "SharedTaxisModel" (349 : Nat) ({ cls := "SharedTaxisModel", name := "pays", desc := "(II)V" } : Jvm.MethodName)) ∈ lw_all := lw_g (lw_at lw_m13 205 rfl) rfl
theorem q3198 : (Jvm.Cond.privateMethod ({ cls := "SharedTaxisModel", name := "pays", desc := "(II)V" } : Jvm.MethodName)) ∈ lw_tbl := lw_at lw_m13 206 rfl
theorem q3199 : (Jvm.Cond.instanceMethod ({ cls := "SharedTaxisModel", name := "pays", desc := "(II)V" } : Jvm.MethodName)) ∈ lw_all := lw_g (lw_at lw_m13 207 rfl) rfl
theorem q3200 : (Jvm.Cond.code ({ cls := "SharedTaxisModel", name := "pays", desc := "(II)V" } : Jvm.MethodName) prog_25_method_56_code (7 : Nat) (Option.none : Option Jvm.ClassFile.FieldType)) ∈ lw_all := lw_g (lw_at lw_m13 208 rfl) rfl
theorem q3201 : (Jvm.Cond.methodLink "SharedTaxisModel" (336 : Nat) ({ cls := "SharedTaxisModel", name := "grows", desc := "(III)V" } : Jvm.MethodName)) ∈ lw_all := lw_g (lw_at lw_m13 209 rfl) rfl
theorem q3202 : (Jvm.Cond.privateMethod ({ cls := "SharedTaxisModel", name := "grows", desc := "(III)V" } : Jvm.MethodName)) ∈ lw_tbl := lw_at lw_m13 210 rfl
theorem q3203 : (Jvm.Cond.instanceMethod ({ cls := "SharedTaxisModel", name := "grows", desc := "(III)V" } : Jvm.MethodName)) ∈ lw_all := lw_g (lw_at lw_m13 211 rfl) rfl
theorem q3204 : (Jvm.Cond.code ({ cls := "SharedTaxisModel", name := "grows", desc := "(III)V" } : Jvm.MethodName) prog_25_method_14_code (4 : Nat) (Option.none : Option Jvm.ClassFile.FieldType)) ∈ lw_all := lw_g (lw_at lw_m13 212 rfl) rfl
theorem q3205 : (Jvm.Cond.methodLink "SharedTaxisModel" (353 : Nat) ({ cls := "SharedTaxisModel", name := "getsOff", desc := "(II)V" } : Jvm.MethodName)) ∈ lw_all := lw_g (lw_at lw_m13 213 rfl) rfl
theorem q3206 : (Jvm.Cond.privateMethod ({ cls := "SharedTaxisModel", name := "getsOff", desc := "(II)V" } : Jvm.MethodName)) ∈ lw_tbl := lw_at lw_m13 214 rfl
theorem q3207 : (Jvm.Cond.instanceMethod ({ cls := "SharedTaxisModel", name := "getsOff", desc := "(II)V" } : Jvm.MethodName)) ∈ lw_all := lw_g (lw_at lw_m13 215 rfl) rfl
theorem q3208 : (Jvm.Cond.code ({ cls := "SharedTaxisModel", name := "getsOff", desc := "(II)V" } : Jvm.MethodName) prog_25_method_58_code (6 : Nat) (Option.none : Option Jvm.ClassFile.FieldType)) ∈ lw_all := lw_g (lw_at lw_m13 216 rfl) rfl
theorem q3209 : (Jvm.Cond.methodLink "SharedTaxisModel" (356 : Nat) ({ cls := "SharedTaxisModel", name := "charges", desc := "(III)V" } : Jvm.MethodName)) ∈ lw_all := lw_g (lw_at lw_m13 217 rfl) rfl
theorem q3210 : (Jvm.Cond.privateMethod ({ cls := "SharedTaxisModel", name := "charges", desc := "(III)V" } : Jvm.MethodName)) ∈ lw_tbl := lw_at lw_m13 218 rfl
theorem q3211 : (Jvm.Cond.instanceMethod ({ cls := "SharedTaxisModel", name := "charges", desc := "(III)V" } : Jvm.MethodName)) ∈ lw_all := lw_g (lw_at lw_m13 219 rfl) rfl
theorem q3212 : (Jvm.Cond.code ({ cls := "SharedTaxisModel", name := "charges", desc := "(III)V" } : Jvm.MethodName) prog_25_method_57_code (4 : Nat) (Option.none : Option Jvm.ClassFile.FieldType)) ∈ lw_all := lw_g (lw_at lw_m13 220 rfl) rfl
theorem q3214 : (Jvm.Cond.instanceMethod ({ cls := "SharedTaxisModel", name := "tip", desc := "(II)I" } : Jvm.MethodName)) ∈ lw_all := lw_g (lw_at lw_m13 222 rfl) rfl
theorem q3215 : (Jvm.Cond.selects "SharedTaxisModel" ({ cls := "SharedTaxisModel", name := "tip", desc := "(II)I" } : Jvm.MethodName) ({ cls := "SharedTaxisModel", name := "tip", desc := "(II)I" } : Jvm.MethodName)) ∈ lw_all := lw_g (lw_at lw_m13 223 rfl) rfl
theorem q3216 : (Jvm.Cond.code ({ cls := "SharedTaxisModel", name := "tip", desc := "(II)I" } : Jvm.MethodName) prog_25_method_91_code (3 : Nat) (Option.some Jvm.ClassFile.FieldType.int)) ∈ lw_all := lw_g (lw_at lw_m13 224 rfl) rfl
theorem q3217 : (Jvm.Cond.constantLong "SharedTaxisModel" (419 : Nat) (2000000000 : Int64)) ∈ lw_all := lw_g (lw_at lw_m13 225 rfl) rfl
theorem q3219 : (Jvm.Cond.instanceMethod ({ cls := "SharedTaxisModel", name := "setRate", desc := "(I)I" } : Jvm.MethodName)) ∈ lw_all := lw_g (lw_at lw_m13 227 rfl) rfl
theorem q3220 : (Jvm.Cond.selects "SharedTaxisModel" ({ cls := "SharedTaxisModel", name := "setRate", desc := "(I)I" } : Jvm.MethodName) ({ cls := "SharedTaxisModel", name := "setRate", desc := "(I)I" } : Jvm.MethodName)) ∈ lw_all := lw_g (lw_at lw_m13 228 rfl) rfl
theorem q3221 : (Jvm.Cond.code ({ cls := "SharedTaxisModel", name := "setRate", desc := "(I)I" } : Jvm.MethodName) prog_25_method_92_code (3 : Nat) (Option.some Jvm.ClassFile.FieldType.int)) ∈ lw_all := lw_g (lw_at lw_m13 229 rfl) rfl
theorem q3222 : (Jvm.Cond.constantLong "SharedTaxisModel" (421 : Nat) (999 : Int64)) ∈ lw_all := lw_g (lw_at lw_m13 230 rfl) rfl
theorem q3224 : (Jvm.Cond.instanceMethod ({ cls := "SharedTaxisModel", name := "setEnd", desc := "(II)I" } : Jvm.MethodName)) ∈ lw_all := lw_g (lw_at lw_m13 232 rfl) rfl
theorem q3225 : (Jvm.Cond.selects "SharedTaxisModel" ({ cls := "SharedTaxisModel", name := "setEnd", desc := "(II)I" } : Jvm.MethodName) ({ cls := "SharedTaxisModel", name := "setEnd", desc := "(II)I" } : Jvm.MethodName)) ∈ lw_all := lw_g (lw_at lw_m13 233 rfl) rfl
theorem q3226 : (Jvm.Cond.code ({ cls := "SharedTaxisModel", name := "setEnd", desc := "(II)I" } : Jvm.MethodName) prog_25_method_93_code (4 : Nat) (Option.some Jvm.ClassFile.FieldType.int)) ∈ lw_all := lw_g (lw_at lw_m13 234 rfl) rfl
theorem q3228 : (Jvm.Cond.instanceMethod ({ cls := "SharedTaxisModel", name := "setRule", desc := "(II)I" } : Jvm.MethodName)) ∈ lw_all := lw_g (lw_at lw_m13 236 rfl) rfl
theorem q3229 : (Jvm.Cond.selects "SharedTaxisModel" ({ cls := "SharedTaxisModel", name := "setRule", desc := "(II)I" } : Jvm.MethodName) ({ cls := "SharedTaxisModel", name := "setRule", desc := "(II)I" } : Jvm.MethodName)) ∈ lw_all := lw_g (lw_at lw_m13 237 rfl) rfl
theorem q3230 : (Jvm.Cond.code ({ cls := "SharedTaxisModel", name := "setRule", desc := "(II)I" } : Jvm.MethodName) prog_25_method_94_code (4 : Nat) (Option.some Jvm.ClassFile.FieldType.int)) ∈ lw_all := lw_g (lw_at lw_m13 238 rfl) rfl
theorem q3232 : (Jvm.Cond.instanceMethod ({ cls := "SharedTaxisModel", name := "undoCount", desc := "()I" } : Jvm.MethodName)) ∈ lw_all := lw_g (lw_at lw_m14 0 rfl) rfl
theorem q3233 : (Jvm.Cond.selects "SharedTaxisModel" ({ cls := "SharedTaxisModel", name := "undoCount", desc := "()I" } : Jvm.MethodName) ({ cls := "SharedTaxisModel", name := "undoCount", desc := "()I" } : Jvm.MethodName)) ∈ lw_all := lw_g (lw_at lw_m14 1 rfl) rfl
theorem q3234 : (Jvm.Cond.code ({ cls := "SharedTaxisModel", name := "undoCount", desc := "()I" } : Jvm.MethodName) prog_25_method_95_code (1 : Nat) (Option.some Jvm.ClassFile.FieldType.int)) ∈ lw_all := lw_g (lw_at lw_m14 2 rfl) rfl
theorem q3236 : (Jvm.Cond.instanceMethod ({ cls := "SharedTaxisModel", name := "undo", desc := "()I" } : Jvm.MethodName)) ∈ lw_all := lw_g (lw_at lw_m14 4 rfl) rfl
theorem q3237 : (Jvm.Cond.selects "SharedTaxisModel" ({ cls := "SharedTaxisModel", name := "undo", desc := "()I" } : Jvm.MethodName) ({ cls := "SharedTaxisModel", name := "undo", desc := "()I" } : Jvm.MethodName)) ∈ lw_all := lw_g (lw_at lw_m14 5 rfl) rfl
theorem q3238 : (Jvm.Cond.code ({ cls := "SharedTaxisModel", name := "undo", desc := "()I" } : Jvm.MethodName) prog_25_method_96_code (2 : Nat) (Option.some Jvm.ClassFile.FieldType.int)) ∈ lw_all := lw_g (lw_at lw_m14 6 rfl) rfl
theorem q3240 : (Jvm.Cond.instanceMethod ({ cls := "SharedTaxisModel", name := "saveSnapshot", desc := "()V" } : Jvm.MethodName)) ∈ lw_all := lw_g (lw_at lw_m14 8 rfl) rfl
theorem q3241 : (Jvm.Cond.selects "SharedTaxisModel" ({ cls := "SharedTaxisModel", name := "saveSnapshot", desc := "()V" } : Jvm.MethodName) ({ cls := "SharedTaxisModel", name := "saveSnapshot", desc := "()V" } : Jvm.MethodName)) ∈ lw_all := lw_g (lw_at lw_m14 9 rfl) rfl
theorem q3242 : (Jvm.Cond.code ({ cls := "SharedTaxisModel", name := "saveSnapshot", desc := "()V" } : Jvm.MethodName) prog_25_method_97_code (2 : Nat) (Option.none : Option Jvm.ClassFile.FieldType)) ∈ lw_all := lw_g (lw_at lw_m14 10 rfl) rfl
theorem q3244 : (Jvm.Cond.instanceMethod ({ cls := "SharedTaxisModel", name := "restoreSnapshot", desc := "()Z" } : Jvm.MethodName)) ∈ lw_all := lw_g (lw_at lw_m14 12 rfl) rfl
theorem q3245 : (Jvm.Cond.selects "SharedTaxisModel" ({ cls := "SharedTaxisModel", name := "restoreSnapshot", desc := "()Z" } : Jvm.MethodName) ({ cls := "SharedTaxisModel", name := "restoreSnapshot", desc := "()Z" } : Jvm.MethodName)) ∈ lw_all := lw_g (lw_at lw_m14 13 rfl) rfl
theorem q3246 : (Jvm.Cond.code ({ cls := "SharedTaxisModel", name := "restoreSnapshot", desc := "()Z" } : Jvm.MethodName) prog_25_method_98_code (2 : Nat) (Option.some Jvm.ClassFile.FieldType.boolean)) ∈ lw_all := lw_g (lw_at lw_m14 14 rfl) rfl
theorem q3248 : (Jvm.Cond.instanceMethod ({ cls := "SharedTaxisModel", name := "format", desc := "(I)I" } : Jvm.MethodName)) ∈ lw_all := lw_g (lw_at lw_m14 16 rfl) rfl
theorem q3249 : (Jvm.Cond.selects "SharedTaxisModel" ({ cls := "SharedTaxisModel", name := "format", desc := "(I)I" } : Jvm.MethodName) ({ cls := "SharedTaxisModel", name := "format", desc := "(I)I" } : Jvm.MethodName)) ∈ lw_all := lw_g (lw_at lw_m14 17 rfl) rfl
theorem q3250 : (Jvm.Cond.code ({ cls := "SharedTaxisModel", name := "format", desc := "(I)I" } : Jvm.MethodName) prog_25_method_101_code (3 : Nat) (Option.some Jvm.ClassFile.FieldType.int)) ∈ lw_all := lw_g (lw_at lw_m14 18 rfl) rfl
theorem q3251 : (Jvm.Cond.methodLink "SharedTaxisModel" (426 : Nat) ({ cls := "SharedTaxisModel", name := "says", desc := "(I)V" } : Jvm.MethodName)) ∈ lw_all := lw_g (lw_at lw_m14 19 rfl) rfl
theorem q3252 : (Jvm.Cond.privateMethod ({ cls := "SharedTaxisModel", name := "says", desc := "(I)V" } : Jvm.MethodName)) ∈ lw_tbl := lw_at lw_m14 20 rfl
theorem q3253 : (Jvm.Cond.instanceMethod ({ cls := "SharedTaxisModel", name := "says", desc := "(I)V" } : Jvm.MethodName)) ∈ lw_all := lw_g (lw_at lw_m14 21 rfl) rfl
theorem q3254 : (Jvm.Cond.code ({ cls := "SharedTaxisModel", name := "says", desc := "(I)V" } : Jvm.MethodName) prog_25_method_99_code (2 : Nat) (Option.none : Option Jvm.ClassFile.FieldType)) ∈ lw_all := lw_g (lw_at lw_m14 22 rfl) rfl
theorem q3255 : (Jvm.Cond.methodLink "SharedTaxisModel" (429 : Nat) ({ cls := "SharedTaxisModel", name := "saysNumber", desc := "(I)V" } : Jvm.MethodName)) ∈ lw_all := lw_g (lw_at lw_m14 23 rfl) rfl
theorem q3256 : (Jvm.Cond.privateMethod ({ cls := "SharedTaxisModel", name := "saysNumber", desc := "(I)V" } : Jvm.MethodName)) ∈ lw_tbl := lw_at lw_m14 24 rfl
theorem q3257 : (Jvm.Cond.instanceMethod ({ cls := "SharedTaxisModel", name := "saysNumber", desc := "(I)V" } : Jvm.MethodName)) ∈ lw_all := lw_g (lw_at lw_m14 25 rfl) rfl
theorem q3258 : (Jvm.Cond.code ({ cls := "SharedTaxisModel", name := "saysNumber", desc := "(I)V" } : Jvm.MethodName) prog_25_method_100_code (3 : Nat) (Option.none : Option Jvm.ClassFile.FieldType)) ∈ lw_all := lw_g (lw_at lw_m14 26 rfl) rfl
theorem q3260 : (Jvm.Cond.instanceMethod ({ cls := "SharedTaxisModel", name := "formattedByte", desc := "(I)I" } : Jvm.MethodName)) ∈ lw_all := lw_g (lw_at lw_m14 28 rfl) rfl
theorem q3261 : (Jvm.Cond.selects "SharedTaxisModel" ({ cls := "SharedTaxisModel", name := "formattedByte", desc := "(I)I" } : Jvm.MethodName) ({ cls := "SharedTaxisModel", name := "formattedByte", desc := "(I)I" } : Jvm.MethodName)) ∈ lw_all := lw_g (lw_at lw_m14 29 rfl) rfl
theorem q3262 : (Jvm.Cond.code ({ cls := "SharedTaxisModel", name := "formattedByte", desc := "(I)I" } : Jvm.MethodName) prog_25_method_102_code (2 : Nat) (Option.some Jvm.ClassFile.FieldType.int)) ∈ lw_all := lw_g (lw_at lw_m14 30 rfl) rfl
theorem q3264 : (Jvm.Cond.instanceMethod ({ cls := "SharedTaxisModel", name := "query", desc := "(I)I" } : Jvm.MethodName)) ∈ lw_all := lw_g (lw_at lw_m14 32 rfl) rfl
theorem q3265 : (Jvm.Cond.selects "SharedTaxisModel" ({ cls := "SharedTaxisModel", name := "query", desc := "(I)I" } : Jvm.MethodName) ({ cls := "SharedTaxisModel", name := "query", desc := "(I)I" } : Jvm.MethodName)) ∈ lw_all := lw_g (lw_at lw_m14 33 rfl) rfl
theorem q3266 : (Jvm.Cond.code ({ cls := "SharedTaxisModel", name := "query", desc := "(I)I" } : Jvm.MethodName) prog_25_method_116_code (5 : Nat) (Option.some Jvm.ClassFile.FieldType.int)) ∈ lw_all := lw_g (lw_at lw_m14 34 rfl) rfl
theorem q3267 : (Jvm.Cond.constantLong "SharedTaxisModel" (502 : Nat) (3379448 : Int64)) ∈ lw_all := lw_g (lw_at lw_m14 35 rfl) rfl
theorem q3268 : (Jvm.Cond.constantLong "SharedTaxisModel" (504 : Nat) (257011 : Int64)) ∈ lw_all := lw_g (lw_at lw_m14 36 rfl) rfl
theorem q3269 : (Jvm.Cond.methodLink "SharedTaxisModel" (506 : Nat) ({ cls := "SharedTaxisModel", name := "reads", desc := "()V" } : Jvm.MethodName)) ∈ lw_all := lw_g (lw_at lw_m14 37 rfl) rfl
theorem q3270 : (Jvm.Cond.privateMethod ({ cls := "SharedTaxisModel", name := "reads", desc := "()V" } : Jvm.MethodName)) ∈ lw_tbl := lw_at lw_m14 38 rfl
theorem q3271 : (Jvm.Cond.instanceMethod ({ cls := "SharedTaxisModel", name := "reads", desc := "()V" } : Jvm.MethodName)) ∈ lw_all := lw_g (lw_at lw_m14 39 rfl) rfl
theorem q3272 : (Jvm.Cond.code ({ cls := "SharedTaxisModel", name := "reads", desc := "()V" } : Jvm.MethodName) prog_25_method_112_code (3 : Nat) (Option.none : Option Jvm.ClassFile.FieldType)) ∈ lw_all := lw_g (lw_at lw_m14 40 rfl) rfl
theorem q3273 : (Jvm.Cond.methodLink "SharedTaxisModel" (481 : Nat) ({ cls := "SharedTaxisModel", name := "comparisonRead", desc := "()V" } : Jvm.MethodName)) ∈ lw_all := lw_g (lw_at lw_m14 41 rfl) rfl
theorem q3274 : (Jvm.Cond.privateMethod ({ cls := "SharedTaxisModel", name := "comparisonRead", desc := "()V" } : Jvm.MethodName)) ∈ lw_tbl := lw_at lw_m14 42 rfl
theorem q3275 : (Jvm.Cond.instanceMethod ({ cls := "SharedTaxisModel", name := "comparisonRead", desc := "()V" } : Jvm.MethodName)) ∈ lw_all := lw_g (lw_at lw_m14 43 rfl) rfl
theorem q3276 : (Jvm.Cond.code ({ cls := "SharedTaxisModel", name := "comparisonRead", desc := "()V" } : Jvm.MethodName) prog_25_method_110_code (2 : Nat) (Option.none : Option Jvm.ClassFile.FieldType)) ∈ lw_all := lw_g (lw_at lw_m14 44 rfl) rfl
theorem q3277 : (Jvm.Cond.constantLong "SharedTaxisModel" (467 : Nat) (10631 : Int64)) ∈ lw_all := lw_g (lw_at lw_m14 45 rfl) rfl
theorem q3278 : (Jvm.Cond.methodLink "SharedTaxisModel" (469 : Nat) ({ cls := "SharedTaxisModel", name := "goesIn", desc := "(I)Z" } : Jvm.MethodName)) ∈ lw_all := lw_g (lw_at lw_m14 46 rfl) rfl
theorem q3279 : (Jvm.Cond.privateMethod ({ cls := "SharedTaxisModel", name := "goesIn", desc := "(I)Z" } : Jvm.MethodName)) ∈ lw_tbl := lw_at lw_m14 47 rfl
theorem q3280 : (Jvm.Cond.instanceMethod ({ cls := "SharedTaxisModel", name := "goesIn", desc := "(I)Z" } : Jvm.MethodName)) ∈ lw_all := lw_g (lw_at lw_m14 48 rfl) rfl
theorem q3281 : (Jvm.Cond.code ({ cls := "SharedTaxisModel", name := "goesIn", desc := "(I)Z" } : Jvm.MethodName) prog_25_method_106_code (2 : Nat) (Option.some Jvm.ClassFile.FieldType.boolean)) ∈ lw_all := lw_g (lw_at lw_m14 49 rfl) rfl
theorem q3282 : (Jvm.Cond.methodLink "SharedTaxisModel" (472 : Nat) ({ cls := "SharedTaxisModel", name := "valueRead", desc := "()V" } : Jvm.MethodName)) ∈ lw_all := lw_g (lw_at lw_m14 50 rfl) rfl
theorem q3283 : (Jvm.Cond.privateMethod ({ cls := "SharedTaxisModel", name := "valueRead", desc := "()V" } : Jvm.MethodName)) ∈ lw_tbl := lw_at lw_m14 51 rfl
theorem q3284 : (Jvm.Cond.instanceMethod ({ cls := "SharedTaxisModel", name := "valueRead", desc := "()V" } : Jvm.MethodName)) ∈ lw_all := lw_g (lw_at lw_m14 52 rfl) rfl
theorem q3285 : (Jvm.Cond.code ({ cls := "SharedTaxisModel", name := "valueRead", desc := "()V" } : Jvm.MethodName) prog_25_method_105_code (2 : Nat) (Option.none : Option Jvm.ClassFile.FieldType)) ∈ lw_all := lw_g (lw_at lw_m14 53 rfl) rfl
theorem q3286 : (Jvm.Cond.constant "SharedTaxisModel" (451 : Nat) (99999 : Int32)) ∈ lw_all := lw_g (lw_at lw_m14 54 rfl) rfl
theorem q3287 : (Jvm.Cond.methodLink "SharedTaxisModel" (452 : Nat) ({ cls := "SharedTaxisModel", name := "adds", desc := "(I)V" } : Jvm.MethodName)) ∈ lw_all := lw_g (lw_at lw_m14 55 rfl) rfl
theorem q3288 : (Jvm.Cond.privateMethod ({ cls := "SharedTaxisModel", name := "adds", desc := "(I)V" } : Jvm.MethodName)) ∈ lw_tbl := lw_at lw_m14 56 rfl
theorem q3289 : (Jvm.Cond.instanceMethod ({ cls := "SharedTaxisModel", name := "adds", desc := "(I)V" } : Jvm.MethodName)) ∈ lw_all := lw_g (lw_at lw_m14 57 rfl) rfl
theorem q3290 : (Jvm.Cond.code ({ cls := "SharedTaxisModel", name := "adds", desc := "(I)V" } : Jvm.MethodName) prog_25_method_103_code (2 : Nat) (Option.none : Option Jvm.ClassFile.FieldType)) ∈ lw_all := lw_g (lw_at lw_m14 58 rfl) rfl
theorem q3291 : (Jvm.Cond.methodLink "SharedTaxisModel" (455 : Nat) ({ cls := "SharedTaxisModel", name := "propertyHere", desc := "()I" } : Jvm.MethodName)) ∈ lw_all := lw_g (lw_at lw_m14 59 rfl) rfl
theorem q3292 : (Jvm.Cond.privateMethod ({ cls := "SharedTaxisModel", name := "propertyHere", desc := "()I" } : Jvm.MethodName)) ∈ lw_tbl := lw_at lw_m14 60 rfl
theorem q3293 : (Jvm.Cond.instanceMethod ({ cls := "SharedTaxisModel", name := "propertyHere", desc := "()I" } : Jvm.MethodName)) ∈ lw_all := lw_g (lw_at lw_m14 61 rfl) rfl
theorem q3294 : (Jvm.Cond.code ({ cls := "SharedTaxisModel", name := "propertyHere", desc := "()I" } : Jvm.MethodName) prog_25_method_104_code (1 : Nat) (Option.some Jvm.ClassFile.FieldType.int)) ∈ lw_all := lw_g (lw_at lw_m14 62 rfl) rfl
theorem q3295 : (Jvm.Cond.constantLong "SharedTaxisModel" (435 : Nat) (360968 : Int64)) ∈ lw_all := lw_g (lw_at lw_m14 63 rfl) rfl
theorem q3296 : (Jvm.Cond.constantLong "SharedTaxisModel" (437 : Nat) (10492313 : Int64)) ∈ lw_all := lw_g (lw_at lw_m14 64 rfl) rfl
theorem q3297 : (Jvm.Cond.constantLong "SharedTaxisModel" (439 : Nat) (131638 : Int64)) ∈ lw_all := lw_g (lw_at lw_m14 65 rfl) rfl
theorem q3298 : (Jvm.Cond.constantLong "SharedTaxisModel" (441 : Nat) (555 : Int64)) ∈ lw_all := lw_g (lw_at lw_m14 66 rfl) rfl
theorem q3299 : (Jvm.Cond.constantLong "SharedTaxisModel" (443 : Nat) (6280423606 : Int64)) ∈ lw_all := lw_g (lw_at lw_m14 67 rfl) rfl
theorem q3300 : (Jvm.Cond.constantLong "SharedTaxisModel" (445 : Nat) (9665215 : Int64)) ∈ lw_all := lw_g (lw_at lw_m14 68 rfl) rfl
theorem q3301 : (Jvm.Cond.constantLong "SharedTaxisModel" (447 : Nat) (60458013 : Int64)) ∈ lw_all := lw_g (lw_at lw_m14 69 rfl) rfl
theorem q3302 : (Jvm.Cond.constantLong "SharedTaxisModel" (449 : Nat) (119318 : Int64)) ∈ lw_all := lw_g (lw_at lw_m14 70 rfl) rfl
theorem q3303 : (Jvm.Cond.methodLink "SharedTaxisModel" (484 : Nat) ({ cls := "SharedTaxisModel", name := "closes", desc := "()V" } : Jvm.MethodName)) ∈ lw_all := lw_g (lw_at lw_m14 71 rfl) rfl
theorem q3304 : (Jvm.Cond.privateMethod ({ cls := "SharedTaxisModel", name := "closes", desc := "()V" } : Jvm.MethodName)) ∈ lw_tbl := lw_at lw_m14 72 rfl
theorem q3305 : (Jvm.Cond.instanceMethod ({ cls := "SharedTaxisModel", name := "closes", desc := "()V" } : Jvm.MethodName)) ∈ lw_all := lw_g (lw_at lw_m14 73 rfl) rfl
theorem q3306 : (Jvm.Cond.code ({ cls := "SharedTaxisModel", name := "closes", desc := "()V" } : Jvm.MethodName) prog_25_method_111_code (1 : Nat) (Option.none : Option Jvm.ClassFile.FieldType)) ∈ lw_all := lw_g (lw_at lw_m14 74 rfl) rfl
theorem q3307 : (Jvm.Cond.methodLink "SharedTaxisModel" (475 : Nat) ({ cls := "SharedTaxisModel", name := "settles", desc := "(I)V" } : Jvm.MethodName)) ∈ lw_all := lw_g (lw_at lw_m14 75 rfl) rfl
theorem q3308 : (Jvm.Cond.privateMethod ({ cls := "SharedTaxisModel", name := "settles", desc := "(I)V" } : Jvm.MethodName)) ∈ lw_tbl := lw_at lw_m14 76 rfl
theorem q3309 : (Jvm.Cond.instanceMethod ({ cls := "SharedTaxisModel", name := "settles", desc := "(I)V" } : Jvm.MethodName)) ∈ lw_all := lw_g (lw_at lw_m14 77 rfl) rfl
theorem q3310 : (Jvm.Cond.code ({ cls := "SharedTaxisModel", name := "settles", desc := "(I)V" } : Jvm.MethodName) prog_25_method_108_code (2 : Nat) (Option.none : Option Jvm.ClassFile.FieldType)) ∈ lw_all := lw_g (lw_at lw_m14 78 rfl) rfl
theorem q3311 : (Jvm.Cond.methodLink "SharedTaxisModel" (464 : Nat) ({ cls := "SharedTaxisModel", name := "strength", desc := "(I)I" } : Jvm.MethodName)) ∈ lw_all := lw_g (lw_at lw_m14 79 rfl) rfl
theorem q3312 : (Jvm.Cond.static ({ cls := "SharedTaxisModel", name := "strength", desc := "(I)I" } : Jvm.MethodName)) ∈ lw_all := lw_g (lw_at lw_m14 80 rfl) rfl
theorem q3313 : (Jvm.Cond.code ({ cls := "SharedTaxisModel", name := "strength", desc := "(I)I" } : Jvm.MethodName) prog_25_method_107_code (1 : Nat) (Option.some Jvm.ClassFile.FieldType.int)) ∈ lw_all := lw_g (lw_at lw_m14 81 rfl) rfl
theorem q3314 : (Jvm.Cond.methodLink "SharedTaxisModel" (478 : Nat) ({ cls := "SharedTaxisModel", name := "isInside", desc := "()Z" } : Jvm.MethodName)) ∈ lw_all := lw_g (lw_at lw_m14 82 rfl) rfl
theorem q3315 : (Jvm.Cond.privateMethod ({ cls := "SharedTaxisModel", name := "isInside", desc := "()Z" } : Jvm.MethodName)) ∈ lw_tbl := lw_at lw_m14 83 rfl
theorem q3316 : (Jvm.Cond.instanceMethod ({ cls := "SharedTaxisModel", name := "isInside", desc := "()Z" } : Jvm.MethodName)) ∈ lw_all := lw_g (lw_at lw_m14 84 rfl) rfl
theorem q3317 : (Jvm.Cond.code ({ cls := "SharedTaxisModel", name := "isInside", desc := "()Z" } : Jvm.MethodName) prog_25_method_109_code (2 : Nat) (Option.some Jvm.ClassFile.FieldType.boolean)) ∈ lw_all := lw_g (lw_at lw_m14 85 rfl) rfl
theorem q3318 : (Jvm.Cond.constantLong "SharedTaxisModel" (487 : Nat) (1111 : Int64)) ∈ lw_all := lw_g (lw_at lw_m14 86 rfl) rfl
theorem q3319 : (Jvm.Cond.constantLong "SharedTaxisModel" (489 : Nat) (423 : Int64)) ∈ lw_all := lw_g (lw_at lw_m14 87 rfl) rfl
theorem q3320 : (Jvm.Cond.constant "SharedTaxisModel" (509 : Nat) (-1000000000 : Int32)) ∈ lw_all := lw_g (lw_at lw_m14 88 rfl) rfl
theorem q3321 : (Jvm.Cond.methodLink "SharedTaxisModel" (510 : Nat) ({ cls := "SharedTaxisModel", name := "holds", desc := "(I)Z" } : Jvm.MethodName)) ∈ lw_all := lw_g (lw_at lw_m14 89 rfl) rfl
theorem q3322 : (Jvm.Cond.privateMethod ({ cls := "SharedTaxisModel", name := "holds", desc := "(I)Z" } : Jvm.MethodName)) ∈ lw_tbl := lw_at lw_m14 90 rfl
theorem q3323 : (Jvm.Cond.instanceMethod ({ cls := "SharedTaxisModel", name := "holds", desc := "(I)Z" } : Jvm.MethodName)) ∈ lw_all := lw_g (lw_at lw_m14 91 rfl) rfl
theorem q3324 : (Jvm.Cond.code ({ cls := "SharedTaxisModel", name := "holds", desc := "(I)Z" } : Jvm.MethodName) prog_25_method_115_code (5 : Nat) (Option.some Jvm.ClassFile.FieldType.boolean)) ∈ lw_all := lw_g (lw_at lw_m14 92 rfl) rfl
theorem q3325 : (Jvm.Cond.constantLong "SharedTaxisModel" (491 : Nat) (20 : Int64)) ∈ lw_all := lw_g (lw_at lw_m14 93 rfl) rfl
theorem q3326 : (Jvm.Cond.constantLong "SharedTaxisModel" (493 : Nat) (25 : Int64)) ∈ lw_all := lw_g (lw_at lw_m14 94 rfl) rfl
theorem q3327 : (Jvm.Cond.methodLink "SharedTaxisModel" (495 : Nat) ({ cls := "SharedTaxisModel", name := "joined", desc := "(III)Z" } : Jvm.MethodName)) ∈ lw_all := lw_g (lw_at lw_m14 95 rfl) rfl
theorem q3328 : (Jvm.Cond.static ({ cls := "SharedTaxisModel", name := "joined", desc := "(III)Z" } : Jvm.MethodName)) ∈ lw_all := lw_g (lw_at lw_m14 96 rfl) rfl
theorem q3329 : (Jvm.Cond.code ({ cls := "SharedTaxisModel", name := "joined", desc := "(III)Z" } : Jvm.MethodName) prog_25_method_114_code (3 : Nat) (Option.some Jvm.ClassFile.FieldType.boolean)) ∈ lw_all := lw_g (lw_at lw_m14 97 rfl) rfl
theorem q3330 : (Jvm.Cond.methodLink "SharedTaxisModel" (499 : Nat) ({ cls := "SharedTaxisModel", name := "propertyOf", desc := "(II)I" } : Jvm.MethodName)) ∈ lw_all := lw_g (lw_at lw_m14 98 rfl) rfl
theorem q3331 : (Jvm.Cond.privateMethod ({ cls := "SharedTaxisModel", name := "propertyOf", desc := "(II)I" } : Jvm.MethodName)) ∈ lw_tbl := lw_at lw_m14 99 rfl
theorem q3332 : (Jvm.Cond.instanceMethod ({ cls := "SharedTaxisModel", name := "propertyOf", desc := "(II)I" } : Jvm.MethodName)) ∈ lw_all := lw_g (lw_at lw_m14 100 rfl) rfl
theorem q3333 : (Jvm.Cond.code ({ cls := "SharedTaxisModel", name := "propertyOf", desc := "(II)I" } : Jvm.MethodName) prog_25_method_113_code (3 : Nat) (Option.some Jvm.ClassFile.FieldType.int)) ∈ lw_all := lw_g (lw_at lw_m14 101 rfl) rfl
theorem q3358 : (Jvm.Cond.castable "SharedTaxisModel" "java/lang/Object") ∈ lw_tbl := lw_at lw_m14 126 rfl
theorem q125 : (Jvm.Cond.initialized "SharedTaxis$Reader") ∈ lw_all := lw_g (lw_at lw_m1 13 rfl) rfl
theorem q183 : (Jvm.Cond.fieldLinkNest "SharedTaxis$Reader" (19 : Nat) "SharedTaxis$Town" "zones" "I" "SharedTaxis") ∈ lw_tbl := lw_at lw_m1 71 rfl
theorem q238 : (Jvm.Cond.fieldLinkNest "SharedTaxis$Reader" (91 : Nat) "SharedTaxis$State" "rules" "[I" "SharedTaxis") ∈ lw_tbl := lw_at lw_m1 126 rfl
theorem q243 : (Jvm.Cond.fieldLinkNest "SharedTaxis$Reader" (120 : Nat) "SharedTaxis$State" "flag" "I" "SharedTaxis") ∈ lw_tbl := lw_at lw_m1 131 rfl
theorem q246 : (Jvm.Cond.fieldLinkNest "SharedTaxis$Reader" (123 : Nat) "SharedTaxis$State" "rate" "I" "SharedTaxis") ∈ lw_tbl := lw_at lw_m1 134 rfl
theorem q254 : (Jvm.Cond.fieldLinkNest "SharedTaxis$Reader" (61 : Nat) "SharedTaxis$State" "taxis" "Ljava/util/List;" "SharedTaxis") ∈ lw_tbl := lw_at lw_m1 142 rfl
theorem q1035 : (Jvm.Cond.selects "SharedTaxis$Reader" ({ cls := "java/lang/Object", name := "getClass", desc := "()Ljava/lang/Class;" } : Jvm.MethodName) ({ cls := "java/lang/Object", name := "getClass", desc := "()Ljava/lang/Class;" } : Jvm.MethodName)) ∈ lw_all := lw_g (lw_at lw_m4 203 rfl) rfl
theorem q1212 : (Jvm.Cond.instantiable "SharedTaxis$Reader" (2 : Nat)) ∈ lw_all := lw_g (lw_at lw_m5 140 rfl) rfl
theorem q1306 : (Jvm.Cond.fieldLinkNest "SharedTaxis$Reader" (145 : Nat) "SharedTaxis$Scanner" "kind" "I" "SharedTaxis") ∈ lw_tbl := lw_at lw_m5 234 rfl
theorem q1308 : (Jvm.Cond.fieldLinkNest "SharedTaxis$Reader" (33 : Nat) "SharedTaxis$Scanner" "begin" "I" "SharedTaxis") ∈ lw_tbl := lw_at lw_m5 236 rfl
theorem q1332 : (Jvm.Cond.instanceMethod ({ cls := "SharedTaxis$Reader", name := "<init>", desc := "(LSharedTaxis$Scanner;)V" } : Jvm.MethodName)) ∈ lw_all := lw_g (lw_at lw_m6 20 rfl) rfl
theorem q1333 : (Jvm.Cond.code ({ cls := "SharedTaxis$Reader", name := "<init>", desc := "(LSharedTaxis$Scanner;)V" } : Jvm.MethodName) prog_8_method_1_code (2 : Nat) (Option.none : Option Jvm.ClassFile.FieldType)) ∈ lw_all := lw_g (lw_at lw_m6 21 rfl) rfl
theorem q1334 : (Jvm.Cond.methodLink "SharedTaxis$Reader" (3 : Nat) ({ cls := "java/lang/Object", name := "<init>", desc := "()V" } : Jvm.MethodName)) ∈ lw_all := lw_g (lw_at lw_m6 22 rfl) rfl
theorem q1335 : (Jvm.Cond.fieldLink "SharedTaxis$Reader" (9 : Nat) "SharedTaxis$Reader" "scanner" "LSharedTaxis$Scanner;") ∈ lw_all := lw_g (lw_at lw_m6 23 rfl) rfl
theorem q1336 : (Jvm.Cond.fieldLink "SharedTaxis$Reader" (15 : Nat) "SharedTaxis$Reader" "town" "LSharedTaxis$Town;") ∈ lw_all := lw_g (lw_at lw_m6 24 rfl) rfl
theorem q1337 : (Jvm.Cond.laysFinal "SharedTaxis$Reader" "SharedTaxis$Reader" "scanner" "LSharedTaxis$Scanner;") ∈ lw_all := lw_g (lw_at lw_m6 25 rfl) rfl
theorem q1338 : (Jvm.Cond.soleField "SharedTaxis$Reader" "scanner") ∈ lw_all := lw_g (lw_at lw_m6 26 rfl) rfl
theorem q1339 : (Jvm.Cond.lays "SharedTaxis$Reader" "SharedTaxis$Reader" "town" "LSharedTaxis$Town;") ∈ lw_all := lw_g (lw_at lw_m6 27 rfl) rfl
theorem q1340 : (Jvm.Cond.soleField "SharedTaxis$Reader" "town") ∈ lw_all := lw_g (lw_at lw_m6 28 rfl) rfl
theorem q1341 : (Jvm.Cond.superclass "SharedTaxis$Reader" "java/lang/Object") ∈ lw_all := lw_g (lw_at lw_m6 29 rfl) rfl
theorem q1343 : (Jvm.Cond.instanceMethod ({ cls := "SharedTaxis$Reader", name := "read", desc := "()LSharedTaxis$State;" } : Jvm.MethodName)) ∈ lw_all := lw_g (lw_at lw_m6 31 rfl) rfl
theorem q1344 : (Jvm.Cond.selects "SharedTaxis$Reader" ({ cls := "SharedTaxis$Reader", name := "read", desc := "()LSharedTaxis$State;" } : Jvm.MethodName) ({ cls := "SharedTaxis$Reader", name := "read", desc := "()LSharedTaxis$State;" } : Jvm.MethodName)) ∈ lw_all := lw_g (lw_at lw_m6 32 rfl) rfl
theorem q1345 : (Jvm.Cond.code ({ cls := "SharedTaxis$Reader", name := "read", desc := "()LSharedTaxis$State;" } : Jvm.MethodName) prog_8_method_8_code (2 : Nat) (Option.some (Jvm.ClassFile.FieldType.object "SharedTaxis$State"))) ∈ lw_all := lw_g (lw_at lw_m6 33 rfl) rfl
theorem q1346 : (Jvm.Cond.stringRef "SharedTaxis$Reader" (140 : Nat) "zones") ∈ lw_tbl := lw_at lw_m6 34 rfl
theorem q1347 : (Jvm.Cond.methodLink "SharedTaxis$Reader" (130 : Nat) ({ cls := "SharedTaxis$Scanner", name := "expectWord", desc := "(Ljava/lang/String;)V" } : Jvm.MethodName)) ∈ lw_all := lw_g (lw_at lw_m6 35 rfl) rfl
theorem q1398 : (Jvm.Cond.classLink "SharedTaxis$Reader" (20 : Nat) "SharedTaxis$Town") ∈ lw_all := lw_g (lw_at lw_m6 86 rfl) rfl
theorem q1399 : (Jvm.Cond.methodLink "SharedTaxis$Reader" (25 : Nat) ({ cls := "SharedTaxis$Scanner", name := "number", desc := "(II)I" } : Jvm.MethodName)) ∈ lw_all := lw_g (lw_at lw_m6 87 rfl) rfl
theorem q1423 : (Jvm.Cond.methodLink "SharedTaxis$Reader" (141 : Nat) ({ cls := "SharedTaxis$Town", name := "<init>", desc := "(I)V" } : Jvm.MethodName)) ∈ lw_all := lw_g (lw_at lw_m6 111 rfl) rfl
theorem q1424 : (Jvm.Cond.methodLink "SharedTaxis$Reader" (136 : Nat) ({ cls := "SharedTaxis$Scanner", name := "expect", desc := "(C)V" } : Jvm.MethodName)) ∈ lw_all := lw_g (lw_at lw_m6 112 rfl) rfl
theorem q1432 : (Jvm.Cond.classLink "SharedTaxis$Reader" (62 : Nat) "SharedTaxis$State") ∈ lw_all := lw_g (lw_at lw_m6 120 rfl) rfl
theorem q1433 : (Jvm.Cond.methodLink "SharedTaxis$Reader" (142 : Nat) ({ cls := "SharedTaxis$State", name := "<init>", desc := "(LSharedTaxis$Town;)V" } : Jvm.MethodName)) ∈ lw_all := lw_g (lw_at lw_m6 121 rfl) rfl
theorem q1434 : (Jvm.Cond.methodLink "SharedTaxis$Reader" (148 : Nat) ({ cls := "SharedTaxis$Reader", name := "clause", desc := "(LSharedTaxis$State;)V" } : Jvm.MethodName)) ∈ lw_all := lw_g (lw_at lw_m6 122 rfl) rfl
theorem q1435 : (Jvm.Cond.privateMethod ({ cls := "SharedTaxis$Reader", name := "clause", desc := "(LSharedTaxis$State;)V" } : Jvm.MethodName)) ∈ lw_tbl := lw_at lw_m6 123 rfl
theorem q1436 : (Jvm.Cond.instanceMethod ({ cls := "SharedTaxis$Reader", name := "clause", desc := "(LSharedTaxis$State;)V" } : Jvm.MethodName)) ∈ lw_all := lw_g (lw_at lw_m6 124 rfl) rfl
theorem q1437 : (Jvm.Cond.code ({ cls := "SharedTaxis$Reader", name := "clause", desc := "(LSharedTaxis$State;)V" } : Jvm.MethodName) prog_8_method_7_code (3 : Nat) (Option.none : Option Jvm.ClassFile.FieldType)) ∈ lw_all := lw_g (lw_at lw_m6 125 rfl) rfl
theorem q1438 : (Jvm.Cond.stringRef "SharedTaxis$Reader" (106 : Nat) "taxi") ∈ lw_tbl := lw_at lw_m6 126 rfl
theorem q1439 : (Jvm.Cond.methodLink "SharedTaxis$Reader" (108 : Nat) ({ cls := "SharedTaxis$Scanner", name := "isWord", desc := "(Ljava/lang/String;)Z" } : Jvm.MethodName)) ∈ lw_all := lw_g (lw_at lw_m6 127 rfl) rfl
theorem q1440 : (Jvm.Cond.methodLink "SharedTaxis$Reader" (111 : Nat) ({ cls := "SharedTaxis$Reader", name := "taxi", desc := "(LSharedTaxis$State;)V" } : Jvm.MethodName)) ∈ lw_all := lw_g (lw_at lw_m6 128 rfl) rfl
theorem q1441 : (Jvm.Cond.privateMethod ({ cls := "SharedTaxis$Reader", name := "taxi", desc := "(LSharedTaxis$State;)V" } : Jvm.MethodName)) ∈ lw_tbl := lw_at lw_m6 129 rfl
theorem q1442 : (Jvm.Cond.instanceMethod ({ cls := "SharedTaxis$Reader", name := "taxi", desc := "(LSharedTaxis$State;)V" } : Jvm.MethodName)) ∈ lw_all := lw_g (lw_at lw_m6 130 rfl) rfl
theorem q1443 : (Jvm.Cond.code ({ cls := "SharedTaxis$Reader", name := "taxi", desc := "(LSharedTaxis$State;)V" } : Jvm.MethodName) prog_8_method_5_code (6 : Nat) (Option.none : Option Jvm.ClassFile.FieldType)) ∈ lw_all := lw_g (lw_at lw_m6 131 rfl) rfl
theorem q1444 : (Jvm.Cond.interfaceEntry "SharedTaxis$Reader" (67 : Nat)) ∈ lw_tbl := lw_at lw_m6 132 rfl
theorem q1445 : (Jvm.Cond.methodLink "SharedTaxis$Reader" (67 : Nat) ({ cls := "java/util/List", name := "size", desc := "()I" } : Jvm.MethodName)) ∈ lw_all := lw_g (lw_at lw_m6 133 rfl) rfl
theorem q1446 : (Jvm.Cond.classLink "SharedTaxis$Reader" (72 : Nat) "SharedTaxis$LimitException") ∈ lw_all := lw_g (lw_at lw_m6 134 rfl) rfl
theorem q1455 : (Jvm.Cond.methodLink "SharedTaxis$Reader" (74 : Nat) ({ cls := "SharedTaxis$LimitException", name := "<init>", desc := "(I)V" } : Jvm.MethodName)) ∈ lw_all := lw_g (lw_at lw_m6 143 rfl) rfl
theorem q1462 : (Jvm.Cond.methodLink "SharedTaxis$Reader" (54 : Nat) ({ cls := "SharedTaxis$Scanner", name := "advance", desc := "()V" } : Jvm.MethodName)) ∈ lw_all := lw_g (lw_at lw_m6 150 rfl) rfl
theorem q1463 : (Jvm.Cond.methodLink "SharedTaxis$Reader" (39 : Nat) ({ cls := "SharedTaxis$Reader", name := "zone", desc := "()I" } : Jvm.MethodName)) ∈ lw_all := lw_g (lw_at lw_m6 151 rfl) rfl
theorem q1464 : (Jvm.Cond.privateMethod ({ cls := "SharedTaxis$Reader", name := "zone", desc := "()I" } : Jvm.MethodName)) ∈ lw_tbl := lw_at lw_m6 152 rfl
theorem q1465 : (Jvm.Cond.instanceMethod ({ cls := "SharedTaxis$Reader", name := "zone", desc := "()I" } : Jvm.MethodName)) ∈ lw_all := lw_g (lw_at lw_m6 153 rfl) rfl
theorem q1466 : (Jvm.Cond.code ({ cls := "SharedTaxis$Reader", name := "zone", desc := "()I" } : Jvm.MethodName) prog_8_method_2_code (1 : Nat) (Option.some Jvm.ClassFile.FieldType.int)) ∈ lw_all := lw_g (lw_at lw_m6 154 rfl) rfl
theorem q1467 : (Jvm.Cond.methodLink "SharedTaxis$Reader" (43 : Nat) ({ cls := "SharedTaxis$Scanner", name := "look", desc := "(II)I" } : Jvm.MethodName)) ∈ lw_all := lw_g (lw_at lw_m6 155 rfl) rfl
theorem q1468 : (Jvm.Cond.methodLink "SharedTaxis$Reader" (50 : Nat) ({ cls := "SharedTaxis$Reader", name := "clash", desc := "(Z)V" } : Jvm.MethodName)) ∈ lw_all := lw_g (lw_at lw_m6 156 rfl) rfl
theorem q1469 : (Jvm.Cond.privateMethod ({ cls := "SharedTaxis$Reader", name := "clash", desc := "(Z)V" } : Jvm.MethodName)) ∈ lw_tbl := lw_at lw_m6 157 rfl
theorem q1470 : (Jvm.Cond.instanceMethod ({ cls := "SharedTaxis$Reader", name := "clash", desc := "(Z)V" } : Jvm.MethodName)) ∈ lw_all := lw_g (lw_at lw_m6 158 rfl) rfl
theorem q1471 : (Jvm.Cond.code ({ cls := "SharedTaxis$Reader", name := "clash", desc := "(Z)V" } : Jvm.MethodName) prog_8_method_3_code (2 : Nat) (Option.none : Option Jvm.ClassFile.FieldType)) ∈ lw_all := lw_g (lw_at lw_m6 159 rfl) rfl
theorem q1472 : (Jvm.Cond.classLink "SharedTaxis$Reader" (31 : Nat) "SharedTaxis$ClashException") ∈ lw_all := lw_g (lw_at lw_m6 160 rfl) rfl
theorem q1481 : (Jvm.Cond.methodLink "SharedTaxis$Reader" (36 : Nat) ({ cls := "SharedTaxis$ClashException", name := "<init>", desc := "(I)V" } : Jvm.MethodName)) ∈ lw_all := lw_g (lw_at lw_m6 169 rfl) rfl
theorem q1488 : (Jvm.Cond.classLink "SharedTaxis$Reader" (75 : Nat) "SharedTaxis$Taxi") ∈ lw_all := lw_g (lw_at lw_m6 176 rfl) rfl
theorem q1489 : (Jvm.Cond.methodLink "SharedTaxis$Reader" (77 : Nat) ({ cls := "SharedTaxis$Taxi", name := "<init>", desc := "(IIII)V" } : Jvm.MethodName)) ∈ lw_all := lw_g (lw_at lw_m6 177 rfl) rfl
theorem q1490 : (Jvm.Cond.interfaceEntry "SharedTaxis$Reader" (80 : Nat)) ∈ lw_tbl := lw_at lw_m6 178 rfl
theorem q1491 : (Jvm.Cond.methodLink "SharedTaxis$Reader" (80 : Nat) ({ cls := "java/util/List", name := "add", desc := "(Ljava/lang/Object;)Z" } : Jvm.MethodName)) ∈ lw_all := lw_g (lw_at lw_m6 179 rfl) rfl
theorem q1492 : (Jvm.Cond.stringRef "SharedTaxis$Reader" (114 : Nat) "road") ∈ lw_tbl := lw_at lw_m6 180 rfl
theorem q1493 : (Jvm.Cond.methodLink "SharedTaxis$Reader" (87 : Nat) ({ cls := "SharedTaxis$Scanner", name := "accept", desc := "(Ljava/lang/String;)Z" } : Jvm.MethodName)) ∈ lw_all := lw_g (lw_at lw_m6 181 rfl) rfl
theorem q1494 : (Jvm.Cond.methodLink "SharedTaxis$Reader" (116 : Nat) ({ cls := "SharedTaxis$Reader", name := "road", desc := "()V" } : Jvm.MethodName)) ∈ lw_all := lw_g (lw_at lw_m6 182 rfl) rfl
theorem q1495 : (Jvm.Cond.privateMethod ({ cls := "SharedTaxis$Reader", name := "road", desc := "()V" } : Jvm.MethodName)) ∈ lw_tbl := lw_at lw_m6 183 rfl
theorem q1496 : (Jvm.Cond.instanceMethod ({ cls := "SharedTaxis$Reader", name := "road", desc := "()V" } : Jvm.MethodName)) ∈ lw_all := lw_g (lw_at lw_m6 184 rfl) rfl
theorem q1497 : (Jvm.Cond.code ({ cls := "SharedTaxis$Reader", name := "road", desc := "()V" } : Jvm.MethodName) prog_8_method_4_code (3 : Nat) (Option.none : Option Jvm.ClassFile.FieldType)) ∈ lw_all := lw_g (lw_at lw_m6 185 rfl) rfl
theorem q1498 : (Jvm.Cond.methodLink "SharedTaxis$Reader" (46 : Nat) ({ cls := "SharedTaxis$Town", name := "hasRoad", desc := "(II)Z" } : Jvm.MethodName)) ∈ lw_all := lw_g (lw_at lw_m6 186 rfl) rfl
theorem q1502 : (Jvm.Cond.methodLink "SharedTaxis$Reader" (57 : Nat) ({ cls := "SharedTaxis$Town", name := "add", desc := "(III)V" } : Jvm.MethodName)) ∈ lw_all := lw_g (lw_at lw_m6 190 rfl) rfl
theorem q1506 : (Jvm.Cond.stringRef "SharedTaxis$Reader" (118 : Nat) "tariff") ∈ lw_tbl := lw_at lw_m6 194 rfl
theorem q1507 : (Jvm.Cond.stringRef "SharedTaxis$Reader" (126 : Nat) "discount") ∈ lw_tbl := lw_at lw_m6 195 rfl
theorem q1508 : (Jvm.Cond.methodLinkNest "SharedTaxis$Reader" (99 : Nat) ({ cls := "SharedTaxis", name := "mostOf", desc := "(I)I" } : Jvm.MethodName) "SharedTaxis") ∈ lw_tbl := lw_at lw_m6 196 rfl
theorem q1511 : (Jvm.Cond.stringRef "SharedTaxis$Reader" (128 : Nat) "rule") ∈ lw_tbl := lw_at lw_m6 199 rfl
theorem q1512 : (Jvm.Cond.methodLink "SharedTaxis$Reader" (134 : Nat) ({ cls := "SharedTaxis$Reader", name := "rule", desc := "(LSharedTaxis$State;)V" } : Jvm.MethodName)) ∈ lw_all := lw_g (lw_at lw_m6 200 rfl) rfl
theorem q1513 : (Jvm.Cond.privateMethod ({ cls := "SharedTaxis$Reader", name := "rule", desc := "(LSharedTaxis$State;)V" } : Jvm.MethodName)) ∈ lw_tbl := lw_at lw_m6 201 rfl
theorem q1514 : (Jvm.Cond.instanceMethod ({ cls := "SharedTaxis$Reader", name := "rule", desc := "(LSharedTaxis$State;)V" } : Jvm.MethodName)) ∈ lw_all := lw_g (lw_at lw_m6 202 rfl) rfl
theorem q1515 : (Jvm.Cond.code ({ cls := "SharedTaxis$Reader", name := "rule", desc := "(LSharedTaxis$State;)V" } : Jvm.MethodName) prog_8_method_6_code (3 : Nat) (Option.none : Option Jvm.ClassFile.FieldType)) ∈ lw_all := lw_g (lw_at lw_m6 203 rfl) rfl
theorem q1516 : (Jvm.Cond.methodLinkNest "SharedTaxis$Reader" (83 : Nat) ({ cls := "SharedTaxis", name := "ruleName", desc := "(I)Ljava/lang/String;" } : Jvm.MethodName) "SharedTaxis") ∈ lw_tbl := lw_at lw_m6 204 rfl
theorem q1526 : (Jvm.Cond.methodLinkNest "SharedTaxis$Reader" (95 : Nat) ({ cls := "SharedTaxis", name := "leastOf", desc := "(I)I" } : Jvm.MethodName) "SharedTaxis") ∈ lw_tbl := lw_at lw_m6 214 rfl
theorem q1529 : (Jvm.Cond.methodLink "SharedTaxis$Reader" (102 : Nat) ({ cls := "SharedTaxis$Scanner", name := "wrong", desc := "()LSharedTaxis$SyntaxException;" } : Jvm.MethodName)) ∈ lw_all := lw_g (lw_at lw_m6 217 rfl) rfl
theorem q1530 : (Jvm.Cond.methodLink "SharedTaxis$Reader" (151 : Nat) ({ cls := "SharedTaxis$Town", name := "finish", desc := "()V" } : Jvm.MethodName)) ∈ lw_all := lw_g (lw_at lw_m6 218 rfl) rfl
theorem q1964 : (Jvm.Cond.selects "SharedTaxis$Reader" ({ cls := "java/lang/Object", name := "equals", desc := "(Ljava/lang/Object;)Z" } : Jvm.MethodName) ({ cls := "java/lang/Object", name := "equals", desc := "(Ljava/lang/Object;)Z" } : Jvm.MethodName)) ∈ lw_all := lw_g (lw_at lw_m8 172 rfl) rfl
theorem q3360 : (Jvm.Cond.castable "SharedTaxis$Reader" "java/lang/Object") ∈ lw_tbl := lw_at lw_m14 128 rfl
theorem q126 : (Jvm.Cond.initialized "SharedTaxis$Scanner") ∈ lw_all := lw_g (lw_at lw_m1 14 rfl) rfl
theorem q1037 : (Jvm.Cond.selects "SharedTaxis$Scanner" ({ cls := "java/lang/Object", name := "getClass", desc := "()Ljava/lang/Class;" } : Jvm.MethodName) ({ cls := "java/lang/Object", name := "getClass", desc := "()Ljava/lang/Class;" } : Jvm.MethodName)) ∈ lw_all := lw_g (lw_at lw_m4 205 rfl) rfl
theorem q1214 : (Jvm.Cond.instantiable "SharedTaxis$Scanner" (8 : Nat)) ∈ lw_all := lw_g (lw_at lw_m5 142 rfl) rfl
theorem q1217 : (Jvm.Cond.instanceMethod ({ cls := "SharedTaxis$Scanner", name := "<init>", desc := "([BILjava/lang/String;)V" } : Jvm.MethodName)) ∈ lw_all := lw_g (lw_at lw_m5 145 rfl) rfl
theorem q1218 : (Jvm.Cond.code ({ cls := "SharedTaxis$Scanner", name := "<init>", desc := "([BILjava/lang/String;)V" } : Jvm.MethodName) prog_10_method_1_code (4 : Nat) (Option.none : Option Jvm.ClassFile.FieldType)) ∈ lw_all := lw_g (lw_at lw_m5 146 rfl) rfl
theorem q1219 : (Jvm.Cond.methodLink "SharedTaxis$Scanner" (1 : Nat) ({ cls := "java/lang/Object", name := "<init>", desc := "()V" } : Jvm.MethodName)) ∈ lw_all := lw_g (lw_at lw_m5 147 rfl) rfl
theorem q1220 : (Jvm.Cond.stringRef "SharedTaxis$Scanner" (7 : Nat) "") ∈ lw_tbl := lw_at lw_m5 148 rfl
theorem q1221 : (Jvm.Cond.methodLink "SharedTaxis$Scanner" (26 : Nat) ({ cls := "SharedTaxis$Scanner", name := "advance", desc := "()V" } : Jvm.MethodName)) ∈ lw_all := lw_g (lw_at lw_m5 149 rfl) rfl
theorem q1222 : (Jvm.Cond.instanceMethod ({ cls := "SharedTaxis$Scanner", name := "advance", desc := "()V" } : Jvm.MethodName)) ∈ lw_all := lw_g (lw_at lw_m5 150 rfl) rfl
theorem q1223 : (Jvm.Cond.selects "SharedTaxis$Scanner" ({ cls := "SharedTaxis$Scanner", name := "advance", desc := "()V" } : Jvm.MethodName) ({ cls := "SharedTaxis$Scanner", name := "advance", desc := "()V" } : Jvm.MethodName)) ∈ lw_all := lw_g (lw_at lw_m5 151 rfl) rfl
theorem q1224 : (Jvm.Cond.code ({ cls := "SharedTaxis$Scanner", name := "advance", desc := "()V" } : Jvm.MethodName) prog_10_method_3_code (1 : Nat) (Option.none : Option Jvm.ClassFile.FieldType)) ∈ lw_all := lw_g (lw_at lw_m5 152 rfl) rfl
theorem q1225 : (Jvm.Cond.methodLink "SharedTaxis$Scanner" (38 : Nat) ({ cls := "SharedTaxis$Scanner", name := "isBetween", desc := "(III)Z" } : Jvm.MethodName)) ∈ lw_all := lw_g (lw_at lw_m5 153 rfl) rfl
theorem q1226 : (Jvm.Cond.privateMethod ({ cls := "SharedTaxis$Scanner", name := "isBetween", desc := "(III)Z" } : Jvm.MethodName)) ∈ lw_tbl := lw_at lw_m5 154 rfl
theorem q1227 : (Jvm.Cond.instanceMethod ({ cls := "SharedTaxis$Scanner", name := "isBetween", desc := "(III)Z" } : Jvm.MethodName)) ∈ lw_all := lw_g (lw_at lw_m5 155 rfl) rfl
theorem q1228 : (Jvm.Cond.code ({ cls := "SharedTaxis$Scanner", name := "isBetween", desc := "(III)Z" } : Jvm.MethodName) prog_10_method_2_code (4 : Nat) (Option.some Jvm.ClassFile.FieldType.boolean)) ∈ lw_all := lw_g (lw_at lw_m5 156 rfl) rfl
theorem q1229 : (Jvm.Cond.methodLink "SharedTaxis$Scanner" (42 : Nat) ({ cls := "SharedTaxis$Scanner", name := "letters", desc := "()Ljava/lang/String;" } : Jvm.MethodName)) ∈ lw_all := lw_g (lw_at lw_m5 157 rfl) rfl
theorem q1230 : (Jvm.Cond.privateMethod ({ cls := "SharedTaxis$Scanner", name := "letters", desc := "()Ljava/lang/String;" } : Jvm.MethodName)) ∈ lw_tbl := lw_at lw_m5 158 rfl
theorem q1231 : (Jvm.Cond.instanceMethod ({ cls := "SharedTaxis$Scanner", name := "letters", desc := "()Ljava/lang/String;" } : Jvm.MethodName)) ∈ lw_all := lw_g (lw_at lw_m5 159 rfl) rfl
theorem q1232 : (Jvm.Cond.code ({ cls := "SharedTaxis$Scanner", name := "letters", desc := "()Ljava/lang/String;" } : Jvm.MethodName) prog_10_method_4_code (2 : Nat) (Option.some (Jvm.ClassFile.FieldType.object "java/lang/String"))) ∈ lw_all := lw_g (lw_at lw_m5 160 rfl) rfl
theorem q1233 : (Jvm.Cond.classLink "SharedTaxis$Scanner" (59 : Nat) "java/lang/StringBuilder") ∈ lw_all := lw_g (lw_at lw_m5 161 rfl) rfl
theorem q1234 : (Jvm.Cond.methodLink "SharedTaxis$Scanner" (61 : Nat) ({ cls := "java/lang/StringBuilder", name := "<init>", desc := "()V" } : Jvm.MethodName)) ∈ lw_all := lw_g (lw_at lw_m5 162 rfl) rfl
theorem q1235 : (Jvm.Cond.methodLink "SharedTaxis$Scanner" (62 : Nat) ({ cls := "java/lang/StringBuilder", name := "append", desc := "(C)Ljava/lang/StringBuilder;" } : Jvm.MethodName)) ∈ lw_all := lw_g (lw_at lw_m5 163 rfl) rfl
theorem q1248 : (Jvm.Cond.methodLink "SharedTaxis$Scanner" (66 : Nat) ({ cls := "java/lang/StringBuilder", name := "toString", desc := "()Ljava/lang/String;" } : Jvm.MethodName)) ∈ lw_all := lw_g (lw_at lw_m5 176 rfl) rfl
theorem q1249 : (Jvm.Cond.methodLink "SharedTaxis$Scanner" (46 : Nat) ({ cls := "SharedTaxis$Scanner", name := "digits", desc := "()I" } : Jvm.MethodName)) ∈ lw_all := lw_g (lw_at lw_m5 177 rfl) rfl
theorem q1250 : (Jvm.Cond.privateMethod ({ cls := "SharedTaxis$Scanner", name := "digits", desc := "()I" } : Jvm.MethodName)) ∈ lw_tbl := lw_at lw_m5 178 rfl
theorem q1251 : (Jvm.Cond.instanceMethod ({ cls := "SharedTaxis$Scanner", name := "digits", desc := "()I" } : Jvm.MethodName)) ∈ lw_all := lw_g (lw_at lw_m5 179 rfl) rfl
theorem q1252 : (Jvm.Cond.code ({ cls := "SharedTaxis$Scanner", name := "digits", desc := "()I" } : Jvm.MethodName) prog_10_method_5_code (2 : Nat) (Option.some Jvm.ClassFile.FieldType.int)) ∈ lw_all := lw_g (lw_at lw_m5 180 rfl) rfl
theorem q1253 : (Jvm.Cond.constant "SharedTaxis$Scanner" (69 : Nat) (10000000 : Int32)) ∈ lw_all := lw_g (lw_at lw_m5 181 rfl) rfl
theorem q1254 : (Jvm.Cond.methodLink "SharedTaxis$Scanner" (70 : Nat) ({ cls := "java/lang/Math", name := "min", desc := "(II)I" } : Jvm.MethodName)) ∈ lw_all := lw_g (lw_at lw_m5 182 rfl) rfl
theorem q1255 : (Jvm.Cond.methodLink "SharedTaxis$Scanner" (53 : Nat) ({ cls := "java/lang/String", name := "indexOf", desc := "(I)I" } : Jvm.MethodName)) ∈ lw_all := lw_g (lw_at lw_m5 183 rfl) rfl
theorem q1301 : (Jvm.Cond.fieldLink "SharedTaxis$Scanner" (15 : Nat) "SharedTaxis$Scanner" "text" "[B") ∈ lw_all := lw_g (lw_at lw_m5 229 rfl) rfl
theorem q1302 : (Jvm.Cond.fieldLink "SharedTaxis$Scanner" (19 : Nat) "SharedTaxis$Scanner" "end" "I") ∈ lw_all := lw_g (lw_at lw_m5 230 rfl) rfl
theorem q1303 : (Jvm.Cond.fieldLink "SharedTaxis$Scanner" (23 : Nat) "SharedTaxis$Scanner" "symbols" "Ljava/lang/String;") ∈ lw_all := lw_g (lw_at lw_m5 231 rfl) rfl
theorem q1305 : (Jvm.Cond.fieldLink "SharedTaxis$Scanner" (35 : Nat) "SharedTaxis$Scanner" "kind" "I") ∈ lw_all := lw_g (lw_at lw_m5 233 rfl) rfl
theorem q1307 : (Jvm.Cond.fieldLink "SharedTaxis$Scanner" (32 : Nat) "SharedTaxis$Scanner" "begin" "I") ∈ lw_all := lw_g (lw_at lw_m5 235 rfl) rfl
theorem q1310 : (Jvm.Cond.fieldLink "SharedTaxis$Scanner" (29 : Nat) "SharedTaxis$Scanner" "next" "I") ∈ lw_all := lw_g (lw_at lw_m5 238 rfl) rfl
theorem q1311 : (Jvm.Cond.fieldLink "SharedTaxis$Scanner" (50 : Nat) "SharedTaxis$Scanner" "value" "I") ∈ lw_all := lw_g (lw_at lw_m5 239 rfl) rfl
theorem q1312 : (Jvm.Cond.fieldLink "SharedTaxis$Scanner" (9 : Nat) "SharedTaxis$Scanner" "word" "Ljava/lang/String;") ∈ lw_all := lw_g (lw_at lw_m6 0 rfl) rfl
theorem q1314 : (Jvm.Cond.laysFinal "SharedTaxis$Scanner" "SharedTaxis$Scanner" "text" "[B") ∈ lw_all := lw_g (lw_at lw_m6 2 rfl) rfl
theorem q1315 : (Jvm.Cond.soleField "SharedTaxis$Scanner" "text") ∈ lw_all := lw_g (lw_at lw_m6 3 rfl) rfl
theorem q1316 : (Jvm.Cond.laysFinal "SharedTaxis$Scanner" "SharedTaxis$Scanner" "end" "I") ∈ lw_all := lw_g (lw_at lw_m6 4 rfl) rfl
theorem q1317 : (Jvm.Cond.soleField "SharedTaxis$Scanner" "end") ∈ lw_all := lw_g (lw_at lw_m6 5 rfl) rfl
theorem q1318 : (Jvm.Cond.laysFinal "SharedTaxis$Scanner" "SharedTaxis$Scanner" "symbols" "Ljava/lang/String;") ∈ lw_all := lw_g (lw_at lw_m6 6 rfl) rfl
theorem q1319 : (Jvm.Cond.soleField "SharedTaxis$Scanner" "symbols") ∈ lw_all := lw_g (lw_at lw_m6 7 rfl) rfl
theorem q1320 : (Jvm.Cond.lays "SharedTaxis$Scanner" "SharedTaxis$Scanner" "kind" "I") ∈ lw_all := lw_g (lw_at lw_m6 8 rfl) rfl
theorem q1321 : (Jvm.Cond.soleField "SharedTaxis$Scanner" "kind") ∈ lw_all := lw_g (lw_at lw_m6 9 rfl) rfl
theorem q1322 : (Jvm.Cond.lays "SharedTaxis$Scanner" "SharedTaxis$Scanner" "begin" "I") ∈ lw_all := lw_g (lw_at lw_m6 10 rfl) rfl
theorem q1323 : (Jvm.Cond.soleField "SharedTaxis$Scanner" "begin") ∈ lw_all := lw_g (lw_at lw_m6 11 rfl) rfl
theorem q1324 : (Jvm.Cond.lays "SharedTaxis$Scanner" "SharedTaxis$Scanner" "next" "I") ∈ lw_all := lw_g (lw_at lw_m6 12 rfl) rfl
theorem q1325 : (Jvm.Cond.soleField "SharedTaxis$Scanner" "next") ∈ lw_all := lw_g (lw_at lw_m6 13 rfl) rfl
theorem q1326 : (Jvm.Cond.lays "SharedTaxis$Scanner" "SharedTaxis$Scanner" "value" "I") ∈ lw_all := lw_g (lw_at lw_m6 14 rfl) rfl
theorem q1327 : (Jvm.Cond.soleField "SharedTaxis$Scanner" "value") ∈ lw_all := lw_g (lw_at lw_m6 15 rfl) rfl
theorem q1328 : (Jvm.Cond.lays "SharedTaxis$Scanner" "SharedTaxis$Scanner" "word" "Ljava/lang/String;") ∈ lw_all := lw_g (lw_at lw_m6 16 rfl) rfl
theorem q1329 : (Jvm.Cond.soleField "SharedTaxis$Scanner" "word") ∈ lw_all := lw_g (lw_at lw_m6 17 rfl) rfl
theorem q1330 : (Jvm.Cond.superclass "SharedTaxis$Scanner" "java/lang/Object") ∈ lw_all := lw_g (lw_at lw_m6 18 rfl) rfl
theorem q1348 : (Jvm.Cond.instanceMethod ({ cls := "SharedTaxis$Scanner", name := "expectWord", desc := "(Ljava/lang/String;)V" } : Jvm.MethodName)) ∈ lw_all := lw_g (lw_at lw_m6 36 rfl) rfl
theorem q1349 : (Jvm.Cond.selects "SharedTaxis$Scanner" ({ cls := "SharedTaxis$Scanner", name := "expectWord", desc := "(Ljava/lang/String;)V" } : Jvm.MethodName) ({ cls := "SharedTaxis$Scanner", name := "expectWord", desc := "(Ljava/lang/String;)V" } : Jvm.MethodName)) ∈ lw_all := lw_g (lw_at lw_m6 37 rfl) rfl
theorem q1350 : (Jvm.Cond.code ({ cls := "SharedTaxis$Scanner", name := "expectWord", desc := "(Ljava/lang/String;)V" } : Jvm.MethodName) prog_10_method_11_code (2 : Nat) (Option.none : Option Jvm.ClassFile.FieldType)) ∈ lw_all := lw_g (lw_at lw_m6 38 rfl) rfl
theorem q1351 : (Jvm.Cond.methodLink "SharedTaxis$Scanner" (97 : Nat) ({ cls := "SharedTaxis$Scanner", name := "accept", desc := "(Ljava/lang/String;)Z" } : Jvm.MethodName)) ∈ lw_all := lw_g (lw_at lw_m6 39 rfl) rfl
theorem q1352 : (Jvm.Cond.instanceMethod ({ cls := "SharedTaxis$Scanner", name := "accept", desc := "(Ljava/lang/String;)Z" } : Jvm.MethodName)) ∈ lw_all := lw_g (lw_at lw_m6 40 rfl) rfl
theorem q1353 : (Jvm.Cond.selects "SharedTaxis$Scanner" ({ cls := "SharedTaxis$Scanner", name := "accept", desc := "(Ljava/lang/String;)Z" } : Jvm.MethodName) ({ cls := "SharedTaxis$Scanner", name := "accept", desc := "(Ljava/lang/String;)Z" } : Jvm.MethodName)) ∈ lw_all := lw_g (lw_at lw_m6 41 rfl) rfl
theorem q1354 : (Jvm.Cond.code ({ cls := "SharedTaxis$Scanner", name := "accept", desc := "(Ljava/lang/String;)Z" } : Jvm.MethodName) prog_10_method_9_code (3 : Nat) (Option.some Jvm.ClassFile.FieldType.boolean)) ∈ lw_all := lw_g (lw_at lw_m6 42 rfl) rfl
theorem q1355 : (Jvm.Cond.methodLink "SharedTaxis$Scanner" (85 : Nat) ({ cls := "SharedTaxis$Scanner", name := "isWord", desc := "(Ljava/lang/String;)Z" } : Jvm.MethodName)) ∈ lw_all := lw_g (lw_at lw_m6 43 rfl) rfl
theorem q1356 : (Jvm.Cond.instanceMethod ({ cls := "SharedTaxis$Scanner", name := "isWord", desc := "(Ljava/lang/String;)Z" } : Jvm.MethodName)) ∈ lw_all := lw_g (lw_at lw_m6 44 rfl) rfl
theorem q1357 : (Jvm.Cond.selects "SharedTaxis$Scanner" ({ cls := "SharedTaxis$Scanner", name := "isWord", desc := "(Ljava/lang/String;)Z" } : Jvm.MethodName) ({ cls := "SharedTaxis$Scanner", name := "isWord", desc := "(Ljava/lang/String;)Z" } : Jvm.MethodName)) ∈ lw_all := lw_g (lw_at lw_m6 45 rfl) rfl
theorem q1358 : (Jvm.Cond.code ({ cls := "SharedTaxis$Scanner", name := "isWord", desc := "(Ljava/lang/String;)Z" } : Jvm.MethodName) prog_10_method_8_code (2 : Nat) (Option.some Jvm.ClassFile.FieldType.boolean)) ∈ lw_all := lw_g (lw_at lw_m6 46 rfl) rfl
theorem q1359 : (Jvm.Cond.methodLink "SharedTaxis$Scanner" (81 : Nat) ({ cls := "java/lang/String", name := "equals", desc := "(Ljava/lang/Object;)Z" } : Jvm.MethodName)) ∈ lw_all := lw_g (lw_at lw_m6 47 rfl) rfl
theorem q1367 : (Jvm.Cond.methodLink "SharedTaxis$Scanner" (93 : Nat) ({ cls := "SharedTaxis$Scanner", name := "wrong", desc := "()LSharedTaxis$SyntaxException;" } : Jvm.MethodName)) ∈ lw_all := lw_g (lw_at lw_m6 55 rfl) rfl
theorem q1368 : (Jvm.Cond.instanceMethod ({ cls := "SharedTaxis$Scanner", name := "wrong", desc := "()LSharedTaxis$SyntaxException;" } : Jvm.MethodName)) ∈ lw_all := lw_g (lw_at lw_m6 56 rfl) rfl
theorem q1369 : (Jvm.Cond.selects "SharedTaxis$Scanner" ({ cls := "SharedTaxis$Scanner", name := "wrong", desc := "()LSharedTaxis$SyntaxException;" } : Jvm.MethodName) ({ cls := "SharedTaxis$Scanner", name := "wrong", desc := "()LSharedTaxis$SyntaxException;" } : Jvm.MethodName)) ∈ lw_all := lw_g (lw_at lw_m6 57 rfl) rfl
theorem q1370 : (Jvm.Cond.code ({ cls := "SharedTaxis$Scanner", name := "wrong", desc := "()LSharedTaxis$SyntaxException;" } : Jvm.MethodName) prog_10_method_6_code (1 : Nat) (Option.some (Jvm.ClassFile.FieldType.object "SharedTaxis$SyntaxException"))) ∈ lw_all := lw_g (lw_at lw_m6 58 rfl) rfl
theorem q1371 : (Jvm.Cond.classLink "SharedTaxis$Scanner" (76 : Nat) "SharedTaxis$SyntaxException") ∈ lw_all := lw_g (lw_at lw_m6 59 rfl) rfl
theorem q1380 : (Jvm.Cond.methodLink "SharedTaxis$Scanner" (78 : Nat) ({ cls := "SharedTaxis$SyntaxException", name := "<init>", desc := "(I)V" } : Jvm.MethodName)) ∈ lw_all := lw_g (lw_at lw_m6 68 rfl) rfl
theorem q1400 : (Jvm.Cond.instanceMethod ({ cls := "SharedTaxis$Scanner", name := "number", desc := "(II)I" } : Jvm.MethodName)) ∈ lw_all := lw_g (lw_at lw_m6 88 rfl) rfl
theorem q1401 : (Jvm.Cond.selects "SharedTaxis$Scanner" ({ cls := "SharedTaxis$Scanner", name := "number", desc := "(II)I" } : Jvm.MethodName) ({ cls := "SharedTaxis$Scanner", name := "number", desc := "(II)I" } : Jvm.MethodName)) ∈ lw_all := lw_g (lw_at lw_m6 89 rfl) rfl
theorem q1402 : (Jvm.Cond.code ({ cls := "SharedTaxis$Scanner", name := "number", desc := "(II)I" } : Jvm.MethodName) prog_10_method_13_code (4 : Nat) (Option.some Jvm.ClassFile.FieldType.int)) ∈ lw_all := lw_g (lw_at lw_m6 90 rfl) rfl
theorem q1403 : (Jvm.Cond.methodLink "SharedTaxis$Scanner" (103 : Nat) ({ cls := "SharedTaxis$Scanner", name := "look", desc := "(II)I" } : Jvm.MethodName)) ∈ lw_all := lw_g (lw_at lw_m6 91 rfl) rfl
theorem q1404 : (Jvm.Cond.instanceMethod ({ cls := "SharedTaxis$Scanner", name := "look", desc := "(II)I" } : Jvm.MethodName)) ∈ lw_all := lw_g (lw_at lw_m6 92 rfl) rfl
theorem q1405 : (Jvm.Cond.selects "SharedTaxis$Scanner" ({ cls := "SharedTaxis$Scanner", name := "look", desc := "(II)I" } : Jvm.MethodName) ({ cls := "SharedTaxis$Scanner", name := "look", desc := "(II)I" } : Jvm.MethodName)) ∈ lw_all := lw_g (lw_at lw_m6 93 rfl) rfl
theorem q1406 : (Jvm.Cond.code ({ cls := "SharedTaxis$Scanner", name := "look", desc := "(II)I" } : Jvm.MethodName) prog_10_method_12_code (3 : Nat) (Option.some Jvm.ClassFile.FieldType.int)) ∈ lw_all := lw_g (lw_at lw_m6 94 rfl) rfl
theorem q1407 : (Jvm.Cond.classLink "SharedTaxis$Scanner" (100 : Nat) "SharedTaxis$RangeException") ∈ lw_all := lw_g (lw_at lw_m6 95 rfl) rfl
theorem q1416 : (Jvm.Cond.methodLink "SharedTaxis$Scanner" (102 : Nat) ({ cls := "SharedTaxis$RangeException", name := "<init>", desc := "(I)V" } : Jvm.MethodName)) ∈ lw_all := lw_g (lw_at lw_m6 104 rfl) rfl
theorem q1425 : (Jvm.Cond.instanceMethod ({ cls := "SharedTaxis$Scanner", name := "expect", desc := "(C)V" } : Jvm.MethodName)) ∈ lw_all := lw_g (lw_at lw_m6 113 rfl) rfl
theorem q1426 : (Jvm.Cond.selects "SharedTaxis$Scanner" ({ cls := "SharedTaxis$Scanner", name := "expect", desc := "(C)V" } : Jvm.MethodName) ({ cls := "SharedTaxis$Scanner", name := "expect", desc := "(C)V" } : Jvm.MethodName)) ∈ lw_all := lw_g (lw_at lw_m6 114 rfl) rfl
theorem q1427 : (Jvm.Cond.code ({ cls := "SharedTaxis$Scanner", name := "expect", desc := "(C)V" } : Jvm.MethodName) prog_10_method_10_code (2 : Nat) (Option.none : Option Jvm.ClassFile.FieldType)) ∈ lw_all := lw_g (lw_at lw_m6 115 rfl) rfl
theorem q1428 : (Jvm.Cond.methodLink "SharedTaxis$Scanner" (89 : Nat) ({ cls := "SharedTaxis$Scanner", name := "isAt", desc := "(C)Z" } : Jvm.MethodName)) ∈ lw_all := lw_g (lw_at lw_m6 116 rfl) rfl
theorem q1429 : (Jvm.Cond.instanceMethod ({ cls := "SharedTaxis$Scanner", name := "isAt", desc := "(C)Z" } : Jvm.MethodName)) ∈ lw_all := lw_g (lw_at lw_m6 117 rfl) rfl
theorem q1430 : (Jvm.Cond.selects "SharedTaxis$Scanner" ({ cls := "SharedTaxis$Scanner", name := "isAt", desc := "(C)Z" } : Jvm.MethodName) ({ cls := "SharedTaxis$Scanner", name := "isAt", desc := "(C)Z" } : Jvm.MethodName)) ∈ lw_all := lw_g (lw_at lw_m6 118 rfl) rfl
theorem q1431 : (Jvm.Cond.code ({ cls := "SharedTaxis$Scanner", name := "isAt", desc := "(C)Z" } : Jvm.MethodName) prog_10_method_7_code (2 : Nat) (Option.some Jvm.ClassFile.FieldType.boolean)) ∈ lw_all := lw_g (lw_at lw_m6 119 rfl) rfl
theorem q1966 : (Jvm.Cond.selects "SharedTaxis$Scanner" ({ cls := "java/lang/Object", name := "equals", desc := "(Ljava/lang/Object;)Z" } : Jvm.MethodName) ({ cls := "java/lang/Object", name := "equals", desc := "(Ljava/lang/Object;)Z" } : Jvm.MethodName)) ∈ lw_all := lw_g (lw_at lw_m8 174 rfl) rfl
theorem q3361 : (Jvm.Cond.castable "SharedTaxis$Scanner" "java/lang/Object") ∈ lw_tbl := lw_at lw_m14 129 rfl
theorem q140 : (Jvm.Cond.initialized "SharedTaxis$TextException") ∈ lw_all := lw_g (lw_at lw_m1 28 rfl) rfl
theorem q1384 : (Jvm.Cond.instanceMethod ({ cls := "SharedTaxis$TextException", name := "<init>", desc := "(I)V" } : Jvm.MethodName)) ∈ lw_all := lw_g (lw_at lw_m6 72 rfl) rfl
theorem q1385 : (Jvm.Cond.code ({ cls := "SharedTaxis$TextException", name := "<init>", desc := "(I)V" } : Jvm.MethodName) prog_18_method_1_code (2 : Nat) (Option.none : Option Jvm.ClassFile.FieldType)) ∈ lw_all := lw_g (lw_at lw_m6 73 rfl) rfl
theorem q1386 : (Jvm.Cond.methodLink "SharedTaxis$TextException" (1 : Nat) ({ cls := "java/lang/Exception", name := "<init>", desc := "(Ljava/lang/String;Ljava/lang/Throwable;ZZ)V" } : Jvm.MethodName)) ∈ lw_all := lw_g (lw_at lw_m6 74 rfl) rfl
theorem q1392 : (Jvm.Cond.fieldLink "SharedTaxis$TextException" (7 : Nat) "SharedTaxis$TextException" "place" "I") ∈ lw_all := lw_g (lw_at lw_m6 80 rfl) rfl
theorem q1395 : (Jvm.Cond.soleField "SharedTaxis$TextException" "place") ∈ lw_all := lw_g (lw_at lw_m6 83 rfl) rfl
theorem q1539 : (Jvm.Cond.declares ({ cls := "SharedTaxis$TextException", name := "code", desc := "()I" } : Jvm.MethodName)) ∈ lw_tbl := lw_at lw_m6 227 rfl
theorem q1540 : (Jvm.Cond.sameMethod "SharedTaxis$TextException" "SharedTaxis$TextException" "code" "()I") ∈ lw_all := lw_g (lw_at lw_m6 228 rfl) rfl
theorem q141 : (Jvm.Cond.initialized "SharedTaxis$SyntaxException") ∈ lw_all := lw_g (lw_at lw_m1 29 rfl) rfl
theorem q451 : (Jvm.Cond.selects "SharedTaxis$SyntaxException" ({ cls := "java/lang/Throwable", name := "fillInStackTrace", desc := "()Ljava/lang/Throwable;" } : Jvm.MethodName) ({ cls := "java/lang/Throwable", name := "fillInStackTrace", desc := "()Ljava/lang/Throwable;" } : Jvm.MethodName)) ∈ lw_all := lw_g (lw_at lw_m2 99 rfl) rfl
theorem q1041 : (Jvm.Cond.selects "SharedTaxis$SyntaxException" ({ cls := "java/lang/Object", name := "getClass", desc := "()Ljava/lang/Class;" } : Jvm.MethodName) ({ cls := "java/lang/Object", name := "getClass", desc := "()Ljava/lang/Class;" } : Jvm.MethodName)) ∈ lw_all := lw_g (lw_at lw_m4 209 rfl) rfl
theorem q1372 : (Jvm.Cond.instantiable "SharedTaxis$SyntaxException" (7 : Nat)) ∈ lw_all := lw_g (lw_at lw_m6 60 rfl) rfl
theorem q1373 : (Jvm.Cond.castable "SharedTaxis$SyntaxException" "SharedTaxis$SyntaxException") ∈ lw_tbl := lw_at lw_m6 61 rfl
theorem q1374 : (Jvm.Cond.selects "SharedTaxis$SyntaxException" ({ cls := "java/lang/Throwable", name := "fillInStackTrace", desc := "(I)Ljava/lang/Throwable;" } : Jvm.MethodName) ({ cls := "java/lang/Throwable", name := "fillInStackTrace", desc := "(I)Ljava/lang/Throwable;" } : Jvm.MethodName)) ∈ lw_all := lw_g (lw_at lw_m6 62 rfl) rfl
theorem q1375 : (Jvm.Cond.lays "SharedTaxis$SyntaxException" "java/lang/Throwable" "cause" "Ljava/lang/Throwable;") ∈ lw_all := lw_g (lw_at lw_m6 63 rfl) rfl
theorem q1376 : (Jvm.Cond.lays "SharedTaxis$SyntaxException" "java/lang/Throwable" "stackTrace" "[Ljava/lang/StackTraceElement;") ∈ lw_all := lw_g (lw_at lw_m6 64 rfl) rfl
theorem q1377 : (Jvm.Cond.lays "SharedTaxis$SyntaxException" "java/lang/Throwable" "suppressedExceptions" "Ljava/util/List;") ∈ lw_all := lw_g (lw_at lw_m6 65 rfl) rfl
theorem q1378 : (Jvm.Cond.lays "SharedTaxis$SyntaxException" "java/lang/Throwable" "detailMessage" "Ljava/lang/String;") ∈ lw_all := lw_g (lw_at lw_m6 66 rfl) rfl
theorem q1379 : (Jvm.Cond.lays "SharedTaxis$SyntaxException" "java/lang/Throwable" "backtrace" "Ljava/lang/Object;") ∈ lw_all := lw_g (lw_at lw_m6 67 rfl) rfl
theorem q1381 : (Jvm.Cond.instanceMethod ({ cls := "SharedTaxis$SyntaxException", name := "<init>", desc := "(I)V" } : Jvm.MethodName)) ∈ lw_all := lw_g (lw_at lw_m6 69 rfl) rfl
theorem q1382 : (Jvm.Cond.code ({ cls := "SharedTaxis$SyntaxException", name := "<init>", desc := "(I)V" } : Jvm.MethodName) prog_14_method_1_code (2 : Nat) (Option.none : Option Jvm.ClassFile.FieldType)) ∈ lw_all := lw_g (lw_at lw_m6 70 rfl) rfl
theorem q1383 : (Jvm.Cond.methodLink "SharedTaxis$SyntaxException" (1 : Nat) ({ cls := "SharedTaxis$TextException", name := "<init>", desc := "(I)V" } : Jvm.MethodName)) ∈ lw_all := lw_g (lw_at lw_m6 71 rfl) rfl
theorem q1394 : (Jvm.Cond.laysFinal "SharedTaxis$SyntaxException" "SharedTaxis$TextException" "place" "I") ∈ lw_all := lw_g (lw_at lw_m6 82 rfl) rfl
theorem q1396 : (Jvm.Cond.lays "SharedTaxis$SyntaxException" "java/lang/Throwable" "depth" "I") ∈ lw_all := lw_g (lw_at lw_m6 84 rfl) rfl
theorem q1397 : (Jvm.Cond.superclass "SharedTaxis$SyntaxException" "SharedTaxis$TextException") ∈ lw_all := lw_g (lw_at lw_m6 85 rfl) rfl
theorem q1550 : (Jvm.Cond.selects "SharedTaxis$SyntaxException" ({ cls := "SharedTaxis$TextException", name := "code", desc := "()I" } : Jvm.MethodName) ({ cls := "SharedTaxis$SyntaxException", name := "code", desc := "()I" } : Jvm.MethodName)) ∈ lw_all := lw_g (lw_at lw_m6 238 rfl) rfl
theorem q1551 : (Jvm.Cond.instanceMethod ({ cls := "SharedTaxis$SyntaxException", name := "code", desc := "()I" } : Jvm.MethodName)) ∈ lw_all := lw_g (lw_at lw_m6 239 rfl) rfl
theorem q1552 : (Jvm.Cond.code ({ cls := "SharedTaxis$SyntaxException", name := "code", desc := "()I" } : Jvm.MethodName) prog_14_method_2_code (1 : Nat) (Option.some Jvm.ClassFile.FieldType.int)) ∈ lw_all := lw_g (lw_at lw_m7 0 rfl) rfl
theorem q1970 : (Jvm.Cond.selects "SharedTaxis$SyntaxException" ({ cls := "java/lang/Object", name := "equals", desc := "(Ljava/lang/Object;)Z" } : Jvm.MethodName) ({ cls := "java/lang/Object", name := "equals", desc := "(Ljava/lang/Object;)Z" } : Jvm.MethodName)) ∈ lw_all := lw_g (lw_at lw_m8 178 rfl) rfl
theorem q3351 : (Jvm.Cond.castable "SharedTaxis$SyntaxException" "SharedTaxis$TextException") ∈ lw_tbl := lw_at lw_m14 119 rfl
theorem q3364 : (Jvm.Cond.castable "SharedTaxis$SyntaxException" "java/lang/Object") ∈ lw_tbl := lw_at lw_m14 132 rfl
theorem q142 : (Jvm.Cond.initialized "SharedTaxis$RangeException") ∈ lw_all := lw_g (lw_at lw_m1 30 rfl) rfl
theorem q450 : (Jvm.Cond.selects "SharedTaxis$RangeException" ({ cls := "java/lang/Throwable", name := "fillInStackTrace", desc := "()Ljava/lang/Throwable;" } : Jvm.MethodName) ({ cls := "java/lang/Throwable", name := "fillInStackTrace", desc := "()Ljava/lang/Throwable;" } : Jvm.MethodName)) ∈ lw_all := lw_g (lw_at lw_m2 98 rfl) rfl
theorem q1034 : (Jvm.Cond.selects "SharedTaxis$RangeException" ({ cls := "java/lang/Object", name := "getClass", desc := "()Ljava/lang/Class;" } : Jvm.MethodName) ({ cls := "java/lang/Object", name := "getClass", desc := "()Ljava/lang/Class;" } : Jvm.MethodName)) ∈ lw_all := lw_g (lw_at lw_m4 202 rfl) rfl
theorem q1408 : (Jvm.Cond.instantiable "SharedTaxis$RangeException" (7 : Nat)) ∈ lw_all := lw_g (lw_at lw_m6 96 rfl) rfl
theorem q1409 : (Jvm.Cond.castable "SharedTaxis$RangeException" "SharedTaxis$RangeException") ∈ lw_tbl := lw_at lw_m6 97 rfl
theorem q1410 : (Jvm.Cond.selects "SharedTaxis$RangeException" ({ cls := "java/lang/Throwable", name := "fillInStackTrace", desc := "(I)Ljava/lang/Throwable;" } : Jvm.MethodName) ({ cls := "java/lang/Throwable", name := "fillInStackTrace", desc := "(I)Ljava/lang/Throwable;" } : Jvm.MethodName)) ∈ lw_all := lw_g (lw_at lw_m6 98 rfl) rfl
theorem q1411 : (Jvm.Cond.lays "SharedTaxis$RangeException" "java/lang/Throwable" "cause" "Ljava/lang/Throwable;") ∈ lw_all := lw_g (lw_at lw_m6 99 rfl) rfl
theorem q1412 : (Jvm.Cond.lays "SharedTaxis$RangeException" "java/lang/Throwable" "stackTrace" "[Ljava/lang/StackTraceElement;") ∈ lw_all := lw_g (lw_at lw_m6 100 rfl) rfl
theorem q1413 : (Jvm.Cond.lays "SharedTaxis$RangeException" "java/lang/Throwable" "suppressedExceptions" "Ljava/util/List;") ∈ lw_all := lw_g (lw_at lw_m6 101 rfl) rfl
theorem q1414 : (Jvm.Cond.lays "SharedTaxis$RangeException" "java/lang/Throwable" "detailMessage" "Ljava/lang/String;") ∈ lw_all := lw_g (lw_at lw_m6 102 rfl) rfl
theorem q1415 : (Jvm.Cond.lays "SharedTaxis$RangeException" "java/lang/Throwable" "backtrace" "Ljava/lang/Object;") ∈ lw_all := lw_g (lw_at lw_m6 103 rfl) rfl
theorem q1417 : (Jvm.Cond.instanceMethod ({ cls := "SharedTaxis$RangeException", name := "<init>", desc := "(I)V" } : Jvm.MethodName)) ∈ lw_all := lw_g (lw_at lw_m6 105 rfl) rfl
theorem q1418 : (Jvm.Cond.code ({ cls := "SharedTaxis$RangeException", name := "<init>", desc := "(I)V" } : Jvm.MethodName) prog_7_method_1_code (2 : Nat) (Option.none : Option Jvm.ClassFile.FieldType)) ∈ lw_all := lw_g (lw_at lw_m6 106 rfl) rfl
theorem q1419 : (Jvm.Cond.methodLink "SharedTaxis$RangeException" (1 : Nat) ({ cls := "SharedTaxis$TextException", name := "<init>", desc := "(I)V" } : Jvm.MethodName)) ∈ lw_all := lw_g (lw_at lw_m6 107 rfl) rfl
theorem q1420 : (Jvm.Cond.laysFinal "SharedTaxis$RangeException" "SharedTaxis$TextException" "place" "I") ∈ lw_all := lw_g (lw_at lw_m6 108 rfl) rfl
theorem q1421 : (Jvm.Cond.lays "SharedTaxis$RangeException" "java/lang/Throwable" "depth" "I") ∈ lw_all := lw_g (lw_at lw_m6 109 rfl) rfl
theorem q1422 : (Jvm.Cond.superclass "SharedTaxis$RangeException" "SharedTaxis$TextException") ∈ lw_all := lw_g (lw_at lw_m6 110 rfl) rfl
theorem q1547 : (Jvm.Cond.selects "SharedTaxis$RangeException" ({ cls := "SharedTaxis$TextException", name := "code", desc := "()I" } : Jvm.MethodName) ({ cls := "SharedTaxis$RangeException", name := "code", desc := "()I" } : Jvm.MethodName)) ∈ lw_all := lw_g (lw_at lw_m6 235 rfl) rfl
theorem q1548 : (Jvm.Cond.instanceMethod ({ cls := "SharedTaxis$RangeException", name := "code", desc := "()I" } : Jvm.MethodName)) ∈ lw_all := lw_g (lw_at lw_m6 236 rfl) rfl
theorem q1549 : (Jvm.Cond.code ({ cls := "SharedTaxis$RangeException", name := "code", desc := "()I" } : Jvm.MethodName) prog_7_method_2_code (1 : Nat) (Option.some Jvm.ClassFile.FieldType.int)) ∈ lw_all := lw_g (lw_at lw_m6 237 rfl) rfl
theorem q1963 : (Jvm.Cond.selects "SharedTaxis$RangeException" ({ cls := "java/lang/Object", name := "equals", desc := "(Ljava/lang/Object;)Z" } : Jvm.MethodName) ({ cls := "java/lang/Object", name := "equals", desc := "(Ljava/lang/Object;)Z" } : Jvm.MethodName)) ∈ lw_all := lw_g (lw_at lw_m8 171 rfl) rfl
theorem q3350 : (Jvm.Cond.castable "SharedTaxis$RangeException" "SharedTaxis$TextException") ∈ lw_tbl := lw_at lw_m14 118 rfl
theorem q3365 : (Jvm.Cond.castable "SharedTaxis$RangeException" "java/lang/Object") ∈ lw_tbl := lw_at lw_m14 133 rfl
theorem q181 : (Jvm.Cond.arrayOver (Jvm.ClassFile.FieldType.array Jvm.ClassFile.FieldType.int)) ∈ lw_tbl := lw_at lw_m1 69 rfl
theorem q197 : (Jvm.Cond.arrayClass Jvm.ClassFile.FieldType.byte) ∈ lw_all := lw_g (lw_at lw_m1 85 rfl) rfl
theorem q198 : (Jvm.Cond.arrayClass Jvm.ClassFile.FieldType.int) ∈ lw_all := lw_g (lw_at lw_m1 86 rfl) rfl
theorem q285 : (Jvm.Cond.arrayOver (Jvm.ClassFile.FieldType.object "java/lang/Object")) ∈ lw_tbl := lw_at lw_m1 173 rfl
theorem q2495 : (Jvm.Cond.arrayOver (Jvm.ClassFile.FieldType.object "SharedTaxis$Test")) ∈ lw_tbl := lw_at lw_m10 223 rfl
theorem q3334 : (Jvm.Cond.arrayClass Jvm.ClassFile.FieldType.long) ∈ lw_all := lw_g (lw_at lw_m14 102 rfl) rfl
theorem q3396 : (Jvm.Cond.arrayClass Jvm.ClassFile.FieldType.char) ∈ lw_all := lw_g (lw_at lw_m14 164 rfl) rfl
theorem q3397 : (Jvm.Cond.arrayClass Jvm.ClassFile.FieldType.short) ∈ lw_all := lw_g (lw_at lw_m14 165 rfl) rfl
