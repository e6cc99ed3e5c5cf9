/-! java/util/AbstractCollection -/
set_option maxRecDepth 100000
def RJ0 : String := "java/util/AbstractCollection"
abbrev cJ0_init : ByteArray := prog_50_method_1_code
def yJ0_init : MethodName := ⟨RJ0, "<init>", "()V"⟩
theorem dJ0_init_0 : decode cJ0_init 0 = .ok (.aload_n 0, 1) := by decide +kernel
theorem dJ0_init_1 : decode cJ0_init 1 = .ok (.invokespecial 1, 3) := by decide +kernel
theorem dJ0_init_4 : decode cJ0_init 4 = .ok (.return_, 1) := by decide +kernel
theorem q109 : (Jvm.Cond.initialized "java/util/AbstractCollection") ∈ lw_all := lw_g (lw_at lw_m1 3 rfl) rfl
theorem q194 : (Jvm.Cond.instanceMethod ({ cls := "java/util/AbstractCollection", name := "<init>", desc := "()V" } : Jvm.MethodName)) ∈ lw_all := lw_g (lw_at lw_m1 88 rfl) rfl
theorem q195 : (Jvm.Cond.code ({ cls := "java/util/AbstractCollection", name := "<init>", desc := "()V" } : Jvm.MethodName) prog_50_method_1_code (1 : Nat) (Option.none : Option Jvm.ClassFile.FieldType)) ∈ lw_all := lw_g (lw_at lw_m1 89 rfl) rfl
theorem q196 : (Jvm.Cond.methodLink "java/util/AbstractCollection" (1 : Nat) ({ cls := "java/lang/Object", name := "<init>", desc := "()V" } : Jvm.MethodName)) ∈ lw_all := lw_g (lw_at lw_m1 90 rfl) rfl
/-! java/util/AbstractList -/
set_option maxRecDepth 100000
def RJ1 : String := "java/util/AbstractList"
abbrev cJ1_init : ByteArray := prog_51_method_1_code
def yJ1_init : MethodName := ⟨RJ1, "<init>", "()V"⟩
def dkwJ1_init_0 : List UInt8 := [42, 183, 0, 1, 42, 3, 181, 0, 7, 177]
abbrev dktJ1_init_0 : List UInt8 := dkwJ1_init_0 ++ []
theorem dksJ1_init_0 : cJ1_init.data.toList.drop 0 = dktJ1_init_0 := by decide +kernel
theorem dJ1_init_0 : decode cJ1_init 0 = .ok (.aload_n 0, 1) := dk_42 (dk_at dksJ1_init_0 0 rfl rfl)
theorem dJ1_init_1 : decode cJ1_init 1 = .ok (.invokespecial 1, 3) := dk_183 0 1 (dk_at dksJ1_init_0 1 rfl rfl)
theorem dJ1_init_4 : decode cJ1_init 4 = .ok (.aload_n 0, 1) := dk_42 (dk_at dksJ1_init_0 4 rfl rfl)
theorem dJ1_init_5 : decode cJ1_init 5 = .ok (.iconst 0, 1) := dk_3 (dk_at dksJ1_init_0 5 rfl rfl)
theorem dJ1_init_6 : decode cJ1_init 6 = .ok (.putfield 7, 3) := dk_181 0 7 (dk_at dksJ1_init_0 6 rfl rfl)
theorem dJ1_init_9 : decode cJ1_init 9 = .ok (.return_, 1) := dk_177 (dk_at dksJ1_init_0 9 rfl rfl)
theorem q110 : (Jvm.Cond.initialized "java/util/AbstractList") ∈ lw_all := lw_g (lw_at lw_m1 4 rfl) rfl
theorem q191 : (Jvm.Cond.instanceMethod ({ cls := "java/util/AbstractList", name := "<init>", desc := "()V" } : Jvm.MethodName)) ∈ lw_all := lw_g (lw_at lw_m1 85 rfl) rfl
theorem q192 : (Jvm.Cond.code ({ cls := "java/util/AbstractList", name := "<init>", desc := "()V" } : Jvm.MethodName) prog_51_method_1_code (1 : Nat) (Option.none : Option Jvm.ClassFile.FieldType)) ∈ lw_all := lw_g (lw_at lw_m1 86 rfl) rfl
theorem q193 : (Jvm.Cond.methodLink "java/util/AbstractList" (1 : Nat) ({ cls := "java/util/AbstractCollection", name := "<init>", desc := "()V" } : Jvm.MethodName)) ∈ lw_all := lw_g (lw_at lw_m1 87 rfl) rfl
theorem q203 : (Jvm.Cond.fieldLink "java/util/AbstractList" (7 : Nat) "java/util/AbstractList" "modCount" "I") ∈ lw_all := lw_g (lw_at lw_m1 97 rfl) rfl
theorem q212 : (Jvm.Cond.soleField "java/util/AbstractList" "modCount") ∈ lw_all := lw_g (lw_at lw_m1 106 rfl) rfl
/-! java/util/LinkedHashMap -/
set_option maxRecDepth 100000
def RJ10 : String := "java/util/LinkedHashMap"
def TJ10 : u_T := fun k => match k with
  | 0 => ("java/util/AbstractMap", "keySet", "Ljava/util/Set;", false)
  | 1 => ("java/util/AbstractMap", "values", "Ljava/util/Collection;", false)
  | 2 => ("java/util/HashMap", "table", "[Ljava/util/HashMap$Node;", false)
  | 3 => ("java/util/HashMap", "entrySet", "Ljava/util/Set;", false)
  | 4 => ("java/util/HashMap", "size", "I", false)
  | 5 => ("java/util/HashMap", "modCount", "I", false)
  | 6 => ("java/util/HashMap", "threshold", "I", false)
  | 7 => ("java/util/HashMap", "loadFactor", "F", true)
  | 8 => ("java/util/LinkedHashMap", "head", "Ljava/util/LinkedHashMap$Entry;", false)
  | 9 => ("java/util/LinkedHashMap", "tail", "Ljava/util/LinkedHashMap$Entry;", false)
  | 10 => ("java/util/LinkedHashMap", "accessOrder", "Z", true)
  | _ => ("java/util/LinkedHashMap", "putMode", "I", false)
def tyJ10 : Nat → FieldType := fun k => match k with
  | 0 => .object "java/util/Set"
  | 1 => .object "java/util/Collection"
  | 2 => .array (.object "java/util/HashMap$Node")
  | 3 => .object "java/util/Set"
  | 4 => .int
  | 5 => .int
  | 6 => .int
  | 7 => .float
  | 8 => .object "java/util/LinkedHashMap$Entry"
  | 9 => .object "java/util/LinkedHashMap$Entry"
  | 10 => .boolean
  | _ => .int
abbrev wsJ100 : List Cond := u_ws RJ10 TJ10 12
theorem nmJ10 : ∀ a, a < 12 → ∀ b, b < 12 → a ≠ b → (TJ10 a).2.1 ≠ (TJ10 b).2.1 := by decide +kernel
theorem tyJ10_ok : ∀ k, k < 12 → parseFieldDescriptor (TJ10 k).2.2.1 = some (tyJ10 k) := by decide +kernel
abbrev cJ10_init : ByteArray := prog_66_method_16_code
def yJ10_init : MethodName := ⟨RJ10, "<init>", "()V"⟩
def dkwJ10_init_0 : List UInt8 := [42, 183, 0, 87, 42, 3, 181, 0, 1, 42, 3, 181, 0, 64, 177]
abbrev dktJ10_init_0 : List UInt8 := dkwJ10_init_0 ++ []
theorem dksJ10_init_0 : cJ10_init.data.toList.drop 0 = dktJ10_init_0 := by decide +kernel
theorem dJ10_init_0 : decode cJ10_init 0 = .ok (.aload_n 0, 1) := dk_42 (dk_at dksJ10_init_0 0 rfl rfl)
theorem dJ10_init_1 : decode cJ10_init 1 = .ok (.invokespecial 87, 3) := dk_183 0 87 (dk_at dksJ10_init_0 1 rfl rfl)
theorem dJ10_init_4 : decode cJ10_init 4 = .ok (.aload_n 0, 1) := dk_42 (dk_at dksJ10_init_0 4 rfl rfl)
theorem dJ10_init_5 : decode cJ10_init 5 = .ok (.iconst 0, 1) := dk_3 (dk_at dksJ10_init_0 5 rfl rfl)
theorem dJ10_init_6 : decode cJ10_init 6 = .ok (.putfield 1, 3) := dk_181 0 1 (dk_at dksJ10_init_0 6 rfl rfl)
theorem dJ10_init_9 : decode cJ10_init 9 = .ok (.aload_n 0, 1) := dk_42 (dk_at dksJ10_init_0 9 rfl rfl)
theorem dJ10_init_10 : decode cJ10_init 10 = .ok (.iconst 0, 1) := dk_3 (dk_at dksJ10_init_0 10 rfl rfl)
theorem dJ10_init_11 : decode cJ10_init 11 = .ok (.putfield 64, 3) := dk_181 0 64 (dk_at dksJ10_init_0 11 rfl rfl)
theorem dJ10_init_14 : decode cJ10_init 14 = .ok (.return_, 1) := dk_177 (dk_at dksJ10_init_0 14 rfl rfl)
abbrev cJ10_clear : ByteArray := prog_66_method_22_code
def yJ10_clear : MethodName := ⟨RJ10, "clear", "()V"⟩
def dkwJ10_clear_0 : List UInt8 := [42, 183, 0, 110, 42, 42, 1, 90, 181, 0, 11, 181, 0, 7, 177]
abbrev dktJ10_clear_0 : List UInt8 := dkwJ10_clear_0 ++ []
theorem dksJ10_clear_0 : cJ10_clear.data.toList.drop 0 = dktJ10_clear_0 := by decide +kernel
theorem dJ10_clear_0 : decode cJ10_clear 0 = .ok (.aload_n 0, 1) := dk_42 (dk_at dksJ10_clear_0 0 rfl rfl)
theorem dJ10_clear_1 : decode cJ10_clear 1 = .ok (.invokespecial 110, 3) := dk_183 0 110 (dk_at dksJ10_clear_0 1 rfl rfl)
theorem dJ10_clear_4 : decode cJ10_clear 4 = .ok (.aload_n 0, 1) := dk_42 (dk_at dksJ10_clear_0 4 rfl rfl)
theorem dJ10_clear_5 : decode cJ10_clear 5 = .ok (.aload_n 0, 1) := dk_42 (dk_at dksJ10_clear_0 5 rfl rfl)
theorem dJ10_clear_6 : decode cJ10_clear 6 = .ok (.aconst_null, 1) := dk_1 (dk_at dksJ10_clear_0 6 rfl rfl)
theorem dJ10_clear_7 : decode cJ10_clear 7 = .ok (.dup_x1, 1) := dk_90 (dk_at dksJ10_clear_0 7 rfl rfl)
theorem dJ10_clear_8 : decode cJ10_clear 8 = .ok (.putfield 11, 3) := dk_181 0 11 (dk_at dksJ10_clear_0 8 rfl rfl)
theorem dJ10_clear_11 : decode cJ10_clear 11 = .ok (.putfield 7, 3) := dk_181 0 7 (dk_at dksJ10_clear_0 11 rfl rfl)
theorem dJ10_clear_14 : decode cJ10_clear 14 = .ok (.return_, 1) := dk_177 (dk_at dksJ10_clear_0 14 rfl rfl)
abbrev cJ10_keySet : ByteArray := prog_66_method_24_code
def yJ10_keySet : MethodName := ⟨RJ10, "keySet", "()Ljava/util/Set;"⟩
theorem dJ10_keySet_0 : decode cJ10_keySet 0 = .ok (.aload_n 0, 1) := by decide +kernel
theorem dJ10_keySet_1 : decode cJ10_keySet 1 = .ok (.invokevirtual 113, 3) := by decide +kernel
theorem dJ10_keySet_4 : decode cJ10_keySet 4 = .ok (.areturn, 1) := by decide +kernel
abbrev cJ10_sequencedKeySet : ByteArray := prog_66_method_25_code
def yJ10_sequencedKeySet : MethodName := ⟨RJ10, "sequencedKeySet", "()Ljava/util/SequencedSet;"⟩
def dkwJ10_sequencedKeySet_1 : List UInt8 := [44, 176, 43, 192, 0, 126, 176]
abbrev dktJ10_sequencedKeySet_1 : List UInt8 := dkwJ10_sequencedKeySet_1 ++ []
def dkwJ10_sequencedKeySet_0 : List UInt8 := [42, 180, 0, 117, 76, 43, 199, 0, 20, 187, 0, 121, 89, 42, 3, 183, 0, 123, 77, 42, 44, 181, 0, 117]
abbrev dktJ10_sequencedKeySet_0 : List UInt8 := dkwJ10_sequencedKeySet_0 ++ dktJ10_sequencedKeySet_1
theorem dksJ10_sequencedKeySet_0 : cJ10_sequencedKeySet.data.toList.drop 0 = dktJ10_sequencedKeySet_0 := by decide +kernel
theorem dksJ10_sequencedKeySet_1 : cJ10_sequencedKeySet.data.toList.drop 24 = dktJ10_sequencedKeySet_1 := dk_seg dksJ10_sequencedKeySet_0 24 rfl rfl
theorem dJ10_sequencedKeySet_0 : decode cJ10_sequencedKeySet 0 = .ok (.aload_n 0, 1) := dk_42 (dk_at dksJ10_sequencedKeySet_0 0 rfl rfl)
theorem dJ10_sequencedKeySet_1 : decode cJ10_sequencedKeySet 1 = .ok (.getfield 117, 3) := dk_180 0 117 (dk_at dksJ10_sequencedKeySet_0 1 rfl rfl)
theorem dJ10_sequencedKeySet_4 : decode cJ10_sequencedKeySet 4 = .ok (.astore_n 1, 1) := dk_76 (dk_at dksJ10_sequencedKeySet_0 4 rfl rfl)
theorem dJ10_sequencedKeySet_5 : decode cJ10_sequencedKeySet 5 = .ok (.aload_n 1, 1) := dk_43 (dk_at dksJ10_sequencedKeySet_0 5 rfl rfl)
theorem dJ10_sequencedKeySet_6 : decode cJ10_sequencedKeySet 6 = .ok (.ifnonnull 20, 3) := dk_199 0 20 (dk_at dksJ10_sequencedKeySet_0 6 rfl rfl)
theorem dJ10_sequencedKeySet_9 : decode cJ10_sequencedKeySet 9 = .ok (.new 121, 3) := dk_187 0 121 (dk_at dksJ10_sequencedKeySet_0 9 rfl rfl)
theorem dJ10_sequencedKeySet_12 : decode cJ10_sequencedKeySet 12 = .ok (.dup, 1) := dk_89 (dk_at dksJ10_sequencedKeySet_0 12 rfl rfl)
theorem dJ10_sequencedKeySet_13 : decode cJ10_sequencedKeySet 13 = .ok (.aload_n 0, 1) := dk_42 (dk_at dksJ10_sequencedKeySet_0 13 rfl rfl)
theorem dJ10_sequencedKeySet_14 : decode cJ10_sequencedKeySet 14 = .ok (.iconst 0, 1) := dk_3 (dk_at dksJ10_sequencedKeySet_0 14 rfl rfl)
theorem dJ10_sequencedKeySet_15 : decode cJ10_sequencedKeySet 15 = .ok (.invokespecial 123, 3) := dk_183 0 123 (dk_at dksJ10_sequencedKeySet_0 15 rfl rfl)
theorem dJ10_sequencedKeySet_18 : decode cJ10_sequencedKeySet 18 = .ok (.astore_n 2, 1) := dk_77 (dk_at dksJ10_sequencedKeySet_0 18 rfl rfl)
theorem dJ10_sequencedKeySet_19 : decode cJ10_sequencedKeySet 19 = .ok (.aload_n 0, 1) := dk_42 (dk_at dksJ10_sequencedKeySet_0 19 rfl rfl)
theorem dJ10_sequencedKeySet_20 : decode cJ10_sequencedKeySet 20 = .ok (.aload_n 2, 1) := dk_44 (dk_at dksJ10_sequencedKeySet_0 20 rfl rfl)
theorem dJ10_sequencedKeySet_21 : decode cJ10_sequencedKeySet 21 = .ok (.putfield 117, 3) := dk_181 0 117 (dk_at dksJ10_sequencedKeySet_0 21 rfl rfl)
theorem dJ10_sequencedKeySet_24 : decode cJ10_sequencedKeySet 24 = .ok (.aload_n 2, 1) := dk_44 (dk_at dksJ10_sequencedKeySet_1 0 rfl rfl)
theorem dJ10_sequencedKeySet_25 : decode cJ10_sequencedKeySet 25 = .ok (.areturn, 1) := dk_176 (dk_at dksJ10_sequencedKeySet_1 1 rfl rfl)
theorem dJ10_sequencedKeySet_26 : decode cJ10_sequencedKeySet 26 = .ok (.aload_n 1, 1) := dk_43 (dk_at dksJ10_sequencedKeySet_1 2 rfl rfl)
theorem dJ10_sequencedKeySet_27 : decode cJ10_sequencedKeySet 27 = .ok (.checkcast 126, 3) := dk_192 0 126 (dk_at dksJ10_sequencedKeySet_1 3 rfl rfl)
theorem dJ10_sequencedKeySet_30 : decode cJ10_sequencedKeySet 30 = .ok (.areturn, 1) := dk_176 (dk_at dksJ10_sequencedKeySet_1 6 rfl rfl)
abbrev cJ10_get : ByteArray := prog_66_method_20_code
def yJ10_get : MethodName := ⟨RJ10, "get", "(Ljava/lang/Object;)Ljava/lang/Object;"⟩
def dkwJ10_get_1 : List UInt8 := [44, 180, 0, 107, 176]
abbrev dktJ10_get_1 : List UInt8 := dkwJ10_get_1 ++ []
def dkwJ10_get_0 : List UInt8 := [42, 43, 182, 0, 99, 89, 77, 199, 0, 5, 1, 176, 42, 180, 0, 64, 153, 0, 8, 42, 44, 182, 0, 103]
abbrev dktJ10_get_0 : List UInt8 := dkwJ10_get_0 ++ dktJ10_get_1
theorem dksJ10_get_0 : cJ10_get.data.toList.drop 0 = dktJ10_get_0 := by decide +kernel
theorem dksJ10_get_1 : cJ10_get.data.toList.drop 24 = dktJ10_get_1 := dk_seg dksJ10_get_0 24 rfl rfl
theorem dJ10_get_0 : decode cJ10_get 0 = .ok (.aload_n 0, 1) := dk_42 (dk_at dksJ10_get_0 0 rfl rfl)
theorem dJ10_get_1 : decode cJ10_get 1 = .ok (.aload_n 1, 1) := dk_43 (dk_at dksJ10_get_0 1 rfl rfl)
theorem dJ10_get_2 : decode cJ10_get 2 = .ok (.invokevirtual 99, 3) := dk_182 0 99 (dk_at dksJ10_get_0 2 rfl rfl)
theorem dJ10_get_5 : decode cJ10_get 5 = .ok (.dup, 1) := dk_89 (dk_at dksJ10_get_0 5 rfl rfl)
theorem dJ10_get_6 : decode cJ10_get 6 = .ok (.astore_n 2, 1) := dk_77 (dk_at dksJ10_get_0 6 rfl rfl)
theorem dJ10_get_7 : decode cJ10_get 7 = .ok (.ifnonnull 5, 3) := dk_199 0 5 (dk_at dksJ10_get_0 7 rfl rfl)
theorem dJ10_get_10 : decode cJ10_get 10 = .ok (.aconst_null, 1) := dk_1 (dk_at dksJ10_get_0 10 rfl rfl)
theorem dJ10_get_11 : decode cJ10_get 11 = .ok (.areturn, 1) := dk_176 (dk_at dksJ10_get_0 11 rfl rfl)
theorem dJ10_get_12 : decode cJ10_get 12 = .ok (.aload_n 0, 1) := dk_42 (dk_at dksJ10_get_0 12 rfl rfl)
theorem dJ10_get_13 : decode cJ10_get 13 = .ok (.getfield 64, 3) := dk_180 0 64 (dk_at dksJ10_get_0 13 rfl rfl)
theorem dJ10_get_16 : decode cJ10_get 16 = .ok (.ifCond .eq 8, 3) := dk_153 0 8 (dk_at dksJ10_get_0 16 rfl rfl)
theorem dJ10_get_19 : decode cJ10_get 19 = .ok (.aload_n 0, 1) := dk_42 (dk_at dksJ10_get_0 19 rfl rfl)
theorem dJ10_get_20 : decode cJ10_get 20 = .ok (.aload_n 2, 1) := dk_44 (dk_at dksJ10_get_0 20 rfl rfl)
theorem dJ10_get_21 : decode cJ10_get 21 = .ok (.invokevirtual 103, 3) := dk_182 0 103 (dk_at dksJ10_get_0 21 rfl rfl)
theorem dJ10_get_24 : decode cJ10_get 24 = .ok (.aload_n 2, 1) := dk_44 (dk_at dksJ10_get_1 0 rfl rfl)
theorem dJ10_get_25 : decode cJ10_get 25 = .ok (.getfield 107, 3) := dk_180 0 107 (dk_at dksJ10_get_1 1 rfl rfl)
theorem dJ10_get_28 : decode cJ10_get 28 = .ok (.areturn, 1) := dk_176 (dk_at dksJ10_get_1 4 rfl rfl)
abbrev cJ10_afterNodeAccess : ByteArray := prog_66_method_10_code
def yJ10_afterNodeAccess : MethodName := ⟨RJ10, "afterNodeAccess", "(Ljava/util/HashMap$Node;)V"⟩
def dkwJ10_afterNodeAccess_11 : List UInt8 := [181, 0, 7, 42, 89, 180, 0, 68, 4, 96, 181, 0, 68, 177]
abbrev dktJ10_afterNodeAccess_11 : List UInt8 := dkwJ10_afterNodeAccess_11 ++ []
def dkwJ10_afterNodeAccess_10 : List UInt8 := [25, 4, 181, 0, 11, 167, 0, 15, 25, 4, 45, 181, 0, 14, 45, 25, 4, 181, 0, 19, 42, 25, 4]
abbrev dktJ10_afterNodeAccess_10 : List UInt8 := dkwJ10_afterNodeAccess_10 ++ dktJ10_afterNodeAccess_11
def dkwJ10_afterNodeAccess_9 : List UInt8 := [25, 5, 198, 0, 13, 25, 5, 25, 6, 181, 0, 14, 167, 0, 6, 25, 6, 78, 45, 199, 0, 12, 42]
abbrev dktJ10_afterNodeAccess_9 : List UInt8 := dkwJ10_afterNodeAccess_9 ++ dktJ10_afterNodeAccess_10
def dkwJ10_afterNodeAccess_8 : List UInt8 := [181, 0, 19, 25, 6, 199, 0, 12, 42, 25, 5, 181, 0, 11, 167, 0, 10, 25, 6, 25, 5, 181, 0, 19]
abbrev dktJ10_afterNodeAccess_8 : List UInt8 := dkwJ10_afterNodeAccess_8 ++ dktJ10_afterNodeAccess_9
def dkwJ10_afterNodeAccess_7 : List UInt8 := [43, 192, 0, 15, 58, 4, 25, 4, 180, 0, 19, 58, 5, 25, 4, 180, 0, 14, 58, 6, 25, 4, 1]
abbrev dktJ10_afterNodeAccess_7 : List UInt8 := dkwJ10_afterNodeAccess_7 ++ dktJ10_afterNodeAccess_8
def dkwJ10_afterNodeAccess_6 : List UInt8 := [181, 0, 68, 167, 0, 127, 42, 180, 0, 1, 4, 160, 0, 119, 42, 180, 0, 7, 89, 78, 43, 165, 0, 109]
abbrev dktJ10_afterNodeAccess_6 : List UInt8 := dkwJ10_afterNodeAccess_6 ++ dktJ10_afterNodeAccess_7
def dkwJ10_afterNodeAccess_5 : List UInt8 := [181, 0, 19, 44, 25, 4, 181, 0, 14, 42, 25, 4, 181, 0, 11, 42, 89, 180, 0, 68, 4, 96]
abbrev dktJ10_afterNodeAccess_5 : List UInt8 := dkwJ10_afterNodeAccess_5 ++ dktJ10_afterNodeAccess_6
def dkwJ10_afterNodeAccess_4 : List UInt8 := [167, 0, 6, 25, 5, 77, 44, 199, 0, 12, 42, 25, 4, 181, 0, 7, 167, 0, 15, 25, 4, 44]
abbrev dktJ10_afterNodeAccess_4 : List UInt8 := dkwJ10_afterNodeAccess_4 ++ dktJ10_afterNodeAccess_5
def dkwJ10_afterNodeAccess_3 : List UInt8 := [167, 0, 10, 25, 5, 25, 6, 181, 0, 14, 25, 6, 198, 0, 13, 25, 6, 25, 5, 181, 0, 19]
abbrev dktJ10_afterNodeAccess_3 : List UInt8 := dkwJ10_afterNodeAccess_3 ++ dktJ10_afterNodeAccess_4
def dkwJ10_afterNodeAccess_2 : List UInt8 := [180, 0, 14, 58, 6, 25, 4, 1, 181, 0, 14, 25, 5, 199, 0, 12, 42, 25, 6, 181, 0, 7]
abbrev dktJ10_afterNodeAccess_2 : List UInt8 := dkwJ10_afterNodeAccess_2 ++ dktJ10_afterNodeAccess_3
def dkwJ10_afterNodeAccess_1 : List UInt8 := [180, 0, 11, 89, 77, 43, 165, 0, 112, 43, 192, 0, 15, 58, 4, 25, 4, 180, 0, 19, 58, 5, 25, 4]
abbrev dktJ10_afterNodeAccess_1 : List UInt8 := dkwJ10_afterNodeAccess_1 ++ dktJ10_afterNodeAccess_2
def dkwJ10_afterNodeAccess_0 : List UInt8 := [42, 180, 0, 1, 5, 159, 0, 17, 42, 180, 0, 1, 154, 0, 129, 42, 180, 0, 64, 153, 0, 122, 42]
abbrev dktJ10_afterNodeAccess_0 : List UInt8 := dkwJ10_afterNodeAccess_0 ++ dktJ10_afterNodeAccess_1
theorem dksJ10_afterNodeAccess_0 : cJ10_afterNodeAccess.data.toList.drop 0 = dktJ10_afterNodeAccess_0 := by decide +kernel
theorem dksJ10_afterNodeAccess_1 : cJ10_afterNodeAccess.data.toList.drop 23 = dktJ10_afterNodeAccess_1 := dk_seg dksJ10_afterNodeAccess_0 23 rfl rfl
theorem dksJ10_afterNodeAccess_2 : cJ10_afterNodeAccess.data.toList.drop 47 = dktJ10_afterNodeAccess_2 := dk_seg dksJ10_afterNodeAccess_1 24 rfl rfl
theorem dksJ10_afterNodeAccess_3 : cJ10_afterNodeAccess.data.toList.drop 69 = dktJ10_afterNodeAccess_3 := dk_seg dksJ10_afterNodeAccess_2 22 rfl rfl
theorem dksJ10_afterNodeAccess_4 : cJ10_afterNodeAccess.data.toList.drop 91 = dktJ10_afterNodeAccess_4 := dk_seg dksJ10_afterNodeAccess_3 22 rfl rfl
theorem dksJ10_afterNodeAccess_5 : cJ10_afterNodeAccess.data.toList.drop 113 = dktJ10_afterNodeAccess_5 := dk_seg dksJ10_afterNodeAccess_4 22 rfl rfl
theorem dksJ10_afterNodeAccess_6 : cJ10_afterNodeAccess.data.toList.drop 135 = dktJ10_afterNodeAccess_6 := dk_seg dksJ10_afterNodeAccess_5 22 rfl rfl
theorem dksJ10_afterNodeAccess_7 : cJ10_afterNodeAccess.data.toList.drop 159 = dktJ10_afterNodeAccess_7 := dk_seg dksJ10_afterNodeAccess_6 24 rfl rfl
theorem dksJ10_afterNodeAccess_8 : cJ10_afterNodeAccess.data.toList.drop 182 = dktJ10_afterNodeAccess_8 := dk_seg dksJ10_afterNodeAccess_7 23 rfl rfl
theorem dksJ10_afterNodeAccess_9 : cJ10_afterNodeAccess.data.toList.drop 206 = dktJ10_afterNodeAccess_9 := dk_seg dksJ10_afterNodeAccess_8 24 rfl rfl
theorem dksJ10_afterNodeAccess_10 : cJ10_afterNodeAccess.data.toList.drop 229 = dktJ10_afterNodeAccess_10 := dk_seg dksJ10_afterNodeAccess_9 23 rfl rfl
theorem dksJ10_afterNodeAccess_11 : cJ10_afterNodeAccess.data.toList.drop 252 = dktJ10_afterNodeAccess_11 := dk_seg dksJ10_afterNodeAccess_10 23 rfl rfl
theorem dJ10_afterNodeAccess_0 : decode cJ10_afterNodeAccess 0 = .ok (.aload_n 0, 1) := dk_42 (dk_at dksJ10_afterNodeAccess_0 0 rfl rfl)
theorem dJ10_afterNodeAccess_1 : decode cJ10_afterNodeAccess 1 = .ok (.getfield 1, 3) := dk_180 0 1 (dk_at dksJ10_afterNodeAccess_0 1 rfl rfl)
theorem dJ10_afterNodeAccess_4 : decode cJ10_afterNodeAccess 4 = .ok (.iconst 2, 1) := dk_5 (dk_at dksJ10_afterNodeAccess_0 4 rfl rfl)
theorem dJ10_afterNodeAccess_5 : decode cJ10_afterNodeAccess 5 = .ok (.if_icmp .eq 17, 3) := dk_159 0 17 (dk_at dksJ10_afterNodeAccess_0 5 rfl rfl)
theorem dJ10_afterNodeAccess_8 : decode cJ10_afterNodeAccess 8 = .ok (.aload_n 0, 1) := dk_42 (dk_at dksJ10_afterNodeAccess_0 8 rfl rfl)
theorem dJ10_afterNodeAccess_9 : decode cJ10_afterNodeAccess 9 = .ok (.getfield 1, 3) := dk_180 0 1 (dk_at dksJ10_afterNodeAccess_0 9 rfl rfl)
theorem dJ10_afterNodeAccess_12 : decode cJ10_afterNodeAccess 12 = .ok (.ifCond .ne 129, 3) := dk_154 0 129 (dk_at dksJ10_afterNodeAccess_0 12 rfl rfl)
theorem dJ10_afterNodeAccess_15 : decode cJ10_afterNodeAccess 15 = .ok (.aload_n 0, 1) := dk_42 (dk_at dksJ10_afterNodeAccess_0 15 rfl rfl)
theorem dJ10_afterNodeAccess_16 : decode cJ10_afterNodeAccess 16 = .ok (.getfield 64, 3) := dk_180 0 64 (dk_at dksJ10_afterNodeAccess_0 16 rfl rfl)
theorem dJ10_afterNodeAccess_19 : decode cJ10_afterNodeAccess 19 = .ok (.ifCond .eq 122, 3) := dk_153 0 122 (dk_at dksJ10_afterNodeAccess_0 19 rfl rfl)
theorem dJ10_afterNodeAccess_22 : decode cJ10_afterNodeAccess 22 = .ok (.aload_n 0, 1) := dk_42 (dk_at dksJ10_afterNodeAccess_0 22 rfl rfl)
theorem dJ10_afterNodeAccess_23 : decode cJ10_afterNodeAccess 23 = .ok (.getfield 11, 3) := dk_180 0 11 (dk_at dksJ10_afterNodeAccess_1 0 rfl rfl)
theorem dJ10_afterNodeAccess_26 : decode cJ10_afterNodeAccess 26 = .ok (.dup, 1) := dk_89 (dk_at dksJ10_afterNodeAccess_1 3 rfl rfl)
theorem dJ10_afterNodeAccess_27 : decode cJ10_afterNodeAccess 27 = .ok (.astore_n 2, 1) := dk_77 (dk_at dksJ10_afterNodeAccess_1 4 rfl rfl)
theorem dJ10_afterNodeAccess_28 : decode cJ10_afterNodeAccess 28 = .ok (.aload_n 1, 1) := dk_43 (dk_at dksJ10_afterNodeAccess_1 5 rfl rfl)
theorem dJ10_afterNodeAccess_29 : decode cJ10_afterNodeAccess 29 = .ok (.if_acmp .eq 112, 3) := dk_165 0 112 (dk_at dksJ10_afterNodeAccess_1 6 rfl rfl)
theorem dJ10_afterNodeAccess_32 : decode cJ10_afterNodeAccess 32 = .ok (.aload_n 1, 1) := dk_43 (dk_at dksJ10_afterNodeAccess_1 9 rfl rfl)
theorem dJ10_afterNodeAccess_33 : decode cJ10_afterNodeAccess 33 = .ok (.checkcast 15, 3) := dk_192 0 15 (dk_at dksJ10_afterNodeAccess_1 10 rfl rfl)
theorem dJ10_afterNodeAccess_36 : decode cJ10_afterNodeAccess 36 = .ok (.astore 4, 2) := dk_58 4 (dk_at dksJ10_afterNodeAccess_1 13 rfl rfl)
theorem dJ10_afterNodeAccess_38 : decode cJ10_afterNodeAccess 38 = .ok (.aload 4, 2) := dk_25 4 (dk_at dksJ10_afterNodeAccess_1 15 rfl rfl)
theorem dJ10_afterNodeAccess_40 : decode cJ10_afterNodeAccess 40 = .ok (.getfield 19, 3) := dk_180 0 19 (dk_at dksJ10_afterNodeAccess_1 17 rfl rfl)
theorem dJ10_afterNodeAccess_43 : decode cJ10_afterNodeAccess 43 = .ok (.astore 5, 2) := dk_58 5 (dk_at dksJ10_afterNodeAccess_1 20 rfl rfl)
theorem dJ10_afterNodeAccess_45 : decode cJ10_afterNodeAccess 45 = .ok (.aload 4, 2) := dk_25 4 (dk_at dksJ10_afterNodeAccess_1 22 rfl rfl)
theorem dJ10_afterNodeAccess_47 : decode cJ10_afterNodeAccess 47 = .ok (.getfield 14, 3) := dk_180 0 14 (dk_at dksJ10_afterNodeAccess_2 0 rfl rfl)
theorem dJ10_afterNodeAccess_50 : decode cJ10_afterNodeAccess 50 = .ok (.astore 6, 2) := dk_58 6 (dk_at dksJ10_afterNodeAccess_2 3 rfl rfl)
theorem dJ10_afterNodeAccess_52 : decode cJ10_afterNodeAccess 52 = .ok (.aload 4, 2) := dk_25 4 (dk_at dksJ10_afterNodeAccess_2 5 rfl rfl)
theorem dJ10_afterNodeAccess_54 : decode cJ10_afterNodeAccess 54 = .ok (.aconst_null, 1) := dk_1 (dk_at dksJ10_afterNodeAccess_2 7 rfl rfl)
theorem dJ10_afterNodeAccess_55 : decode cJ10_afterNodeAccess 55 = .ok (.putfield 14, 3) := dk_181 0 14 (dk_at dksJ10_afterNodeAccess_2 8 rfl rfl)
theorem dJ10_afterNodeAccess_58 : decode cJ10_afterNodeAccess 58 = .ok (.aload 5, 2) := dk_25 5 (dk_at dksJ10_afterNodeAccess_2 11 rfl rfl)
theorem dJ10_afterNodeAccess_60 : decode cJ10_afterNodeAccess 60 = .ok (.ifnonnull 12, 3) := dk_199 0 12 (dk_at dksJ10_afterNodeAccess_2 13 rfl rfl)
theorem dJ10_afterNodeAccess_63 : decode cJ10_afterNodeAccess 63 = .ok (.aload_n 0, 1) := dk_42 (dk_at dksJ10_afterNodeAccess_2 16 rfl rfl)
theorem dJ10_afterNodeAccess_64 : decode cJ10_afterNodeAccess 64 = .ok (.aload 6, 2) := dk_25 6 (dk_at dksJ10_afterNodeAccess_2 17 rfl rfl)
theorem dJ10_afterNodeAccess_66 : decode cJ10_afterNodeAccess 66 = .ok (.putfield 7, 3) := dk_181 0 7 (dk_at dksJ10_afterNodeAccess_2 19 rfl rfl)
theorem dJ10_afterNodeAccess_69 : decode cJ10_afterNodeAccess 69 = .ok (.goto 10, 3) := dk_167 0 10 (dk_at dksJ10_afterNodeAccess_3 0 rfl rfl)
theorem dJ10_afterNodeAccess_72 : decode cJ10_afterNodeAccess 72 = .ok (.aload 5, 2) := dk_25 5 (dk_at dksJ10_afterNodeAccess_3 3 rfl rfl)
theorem dJ10_afterNodeAccess_74 : decode cJ10_afterNodeAccess 74 = .ok (.aload 6, 2) := dk_25 6 (dk_at dksJ10_afterNodeAccess_3 5 rfl rfl)
theorem dJ10_afterNodeAccess_76 : decode cJ10_afterNodeAccess 76 = .ok (.putfield 14, 3) := dk_181 0 14 (dk_at dksJ10_afterNodeAccess_3 7 rfl rfl)
theorem dJ10_afterNodeAccess_79 : decode cJ10_afterNodeAccess 79 = .ok (.aload 6, 2) := dk_25 6 (dk_at dksJ10_afterNodeAccess_3 10 rfl rfl)
theorem dJ10_afterNodeAccess_81 : decode cJ10_afterNodeAccess 81 = .ok (.ifnull 13, 3) := dk_198 0 13 (dk_at dksJ10_afterNodeAccess_3 12 rfl rfl)
theorem dJ10_afterNodeAccess_84 : decode cJ10_afterNodeAccess 84 = .ok (.aload 6, 2) := dk_25 6 (dk_at dksJ10_afterNodeAccess_3 15 rfl rfl)
theorem dJ10_afterNodeAccess_86 : decode cJ10_afterNodeAccess 86 = .ok (.aload 5, 2) := dk_25 5 (dk_at dksJ10_afterNodeAccess_3 17 rfl rfl)
theorem dJ10_afterNodeAccess_88 : decode cJ10_afterNodeAccess 88 = .ok (.putfield 19, 3) := dk_181 0 19 (dk_at dksJ10_afterNodeAccess_3 19 rfl rfl)
theorem dJ10_afterNodeAccess_91 : decode cJ10_afterNodeAccess 91 = .ok (.goto 6, 3) := dk_167 0 6 (dk_at dksJ10_afterNodeAccess_4 0 rfl rfl)
theorem dJ10_afterNodeAccess_94 : decode cJ10_afterNodeAccess 94 = .ok (.aload 5, 2) := dk_25 5 (dk_at dksJ10_afterNodeAccess_4 3 rfl rfl)
theorem dJ10_afterNodeAccess_96 : decode cJ10_afterNodeAccess 96 = .ok (.astore_n 2, 1) := dk_77 (dk_at dksJ10_afterNodeAccess_4 5 rfl rfl)
theorem dJ10_afterNodeAccess_97 : decode cJ10_afterNodeAccess 97 = .ok (.aload_n 2, 1) := dk_44 (dk_at dksJ10_afterNodeAccess_4 6 rfl rfl)
theorem dJ10_afterNodeAccess_98 : decode cJ10_afterNodeAccess 98 = .ok (.ifnonnull 12, 3) := dk_199 0 12 (dk_at dksJ10_afterNodeAccess_4 7 rfl rfl)
theorem dJ10_afterNodeAccess_101 : decode cJ10_afterNodeAccess 101 = .ok (.aload_n 0, 1) := dk_42 (dk_at dksJ10_afterNodeAccess_4 10 rfl rfl)
theorem dJ10_afterNodeAccess_102 : decode cJ10_afterNodeAccess 102 = .ok (.aload 4, 2) := dk_25 4 (dk_at dksJ10_afterNodeAccess_4 11 rfl rfl)
theorem dJ10_afterNodeAccess_104 : decode cJ10_afterNodeAccess 104 = .ok (.putfield 7, 3) := dk_181 0 7 (dk_at dksJ10_afterNodeAccess_4 13 rfl rfl)
theorem dJ10_afterNodeAccess_107 : decode cJ10_afterNodeAccess 107 = .ok (.goto 15, 3) := dk_167 0 15 (dk_at dksJ10_afterNodeAccess_4 16 rfl rfl)
theorem dJ10_afterNodeAccess_110 : decode cJ10_afterNodeAccess 110 = .ok (.aload 4, 2) := dk_25 4 (dk_at dksJ10_afterNodeAccess_4 19 rfl rfl)
theorem dJ10_afterNodeAccess_112 : decode cJ10_afterNodeAccess 112 = .ok (.aload_n 2, 1) := dk_44 (dk_at dksJ10_afterNodeAccess_4 21 rfl rfl)
theorem dJ10_afterNodeAccess_113 : decode cJ10_afterNodeAccess 113 = .ok (.putfield 19, 3) := dk_181 0 19 (dk_at dksJ10_afterNodeAccess_5 0 rfl rfl)
theorem dJ10_afterNodeAccess_116 : decode cJ10_afterNodeAccess 116 = .ok (.aload_n 2, 1) := dk_44 (dk_at dksJ10_afterNodeAccess_5 3 rfl rfl)
theorem dJ10_afterNodeAccess_117 : decode cJ10_afterNodeAccess 117 = .ok (.aload 4, 2) := dk_25 4 (dk_at dksJ10_afterNodeAccess_5 4 rfl rfl)
theorem dJ10_afterNodeAccess_119 : decode cJ10_afterNodeAccess 119 = .ok (.putfield 14, 3) := dk_181 0 14 (dk_at dksJ10_afterNodeAccess_5 6 rfl rfl)
theorem dJ10_afterNodeAccess_122 : decode cJ10_afterNodeAccess 122 = .ok (.aload_n 0, 1) := dk_42 (dk_at dksJ10_afterNodeAccess_5 9 rfl rfl)
theorem dJ10_afterNodeAccess_123 : decode cJ10_afterNodeAccess 123 = .ok (.aload 4, 2) := dk_25 4 (dk_at dksJ10_afterNodeAccess_5 10 rfl rfl)
theorem dJ10_afterNodeAccess_125 : decode cJ10_afterNodeAccess 125 = .ok (.putfield 11, 3) := dk_181 0 11 (dk_at dksJ10_afterNodeAccess_5 12 rfl rfl)
theorem dJ10_afterNodeAccess_128 : decode cJ10_afterNodeAccess 128 = .ok (.aload_n 0, 1) := dk_42 (dk_at dksJ10_afterNodeAccess_5 15 rfl rfl)
theorem dJ10_afterNodeAccess_129 : decode cJ10_afterNodeAccess 129 = .ok (.dup, 1) := dk_89 (dk_at dksJ10_afterNodeAccess_5 16 rfl rfl)
theorem dJ10_afterNodeAccess_130 : decode cJ10_afterNodeAccess 130 = .ok (.getfield 68, 3) := dk_180 0 68 (dk_at dksJ10_afterNodeAccess_5 17 rfl rfl)
theorem dJ10_afterNodeAccess_133 : decode cJ10_afterNodeAccess 133 = .ok (.iconst 1, 1) := dk_4 (dk_at dksJ10_afterNodeAccess_5 20 rfl rfl)
theorem dJ10_afterNodeAccess_134 : decode cJ10_afterNodeAccess 134 = .ok (.iadd, 1) := dk_96 (dk_at dksJ10_afterNodeAccess_5 21 rfl rfl)
theorem dJ10_afterNodeAccess_135 : decode cJ10_afterNodeAccess 135 = .ok (.putfield 68, 3) := dk_181 0 68 (dk_at dksJ10_afterNodeAccess_6 0 rfl rfl)
theorem dJ10_afterNodeAccess_138 : decode cJ10_afterNodeAccess 138 = .ok (.goto 127, 3) := dk_167 0 127 (dk_at dksJ10_afterNodeAccess_6 3 rfl rfl)
theorem dJ10_afterNodeAccess_141 : decode cJ10_afterNodeAccess 141 = .ok (.aload_n 0, 1) := dk_42 (dk_at dksJ10_afterNodeAccess_6 6 rfl rfl)
theorem dJ10_afterNodeAccess_142 : decode cJ10_afterNodeAccess 142 = .ok (.getfield 1, 3) := dk_180 0 1 (dk_at dksJ10_afterNodeAccess_6 7 rfl rfl)
theorem dJ10_afterNodeAccess_145 : decode cJ10_afterNodeAccess 145 = .ok (.iconst 1, 1) := dk_4 (dk_at dksJ10_afterNodeAccess_6 10 rfl rfl)
theorem dJ10_afterNodeAccess_146 : decode cJ10_afterNodeAccess 146 = .ok (.if_icmp .ne 119, 3) := dk_160 0 119 (dk_at dksJ10_afterNodeAccess_6 11 rfl rfl)
theorem dJ10_afterNodeAccess_149 : decode cJ10_afterNodeAccess 149 = .ok (.aload_n 0, 1) := dk_42 (dk_at dksJ10_afterNodeAccess_6 14 rfl rfl)
theorem dJ10_afterNodeAccess_150 : decode cJ10_afterNodeAccess 150 = .ok (.getfield 7, 3) := dk_180 0 7 (dk_at dksJ10_afterNodeAccess_6 15 rfl rfl)
theorem dJ10_afterNodeAccess_153 : decode cJ10_afterNodeAccess 153 = .ok (.dup, 1) := dk_89 (dk_at dksJ10_afterNodeAccess_6 18 rfl rfl)
theorem dJ10_afterNodeAccess_154 : decode cJ10_afterNodeAccess 154 = .ok (.astore_n 3, 1) := dk_78 (dk_at dksJ10_afterNodeAccess_6 19 rfl rfl)
theorem dJ10_afterNodeAccess_155 : decode cJ10_afterNodeAccess 155 = .ok (.aload_n 1, 1) := dk_43 (dk_at dksJ10_afterNodeAccess_6 20 rfl rfl)
theorem dJ10_afterNodeAccess_156 : decode cJ10_afterNodeAccess 156 = .ok (.if_acmp .eq 109, 3) := dk_165 0 109 (dk_at dksJ10_afterNodeAccess_6 21 rfl rfl)
theorem dJ10_afterNodeAccess_159 : decode cJ10_afterNodeAccess 159 = .ok (.aload_n 1, 1) := dk_43 (dk_at dksJ10_afterNodeAccess_7 0 rfl rfl)
theorem dJ10_afterNodeAccess_160 : decode cJ10_afterNodeAccess 160 = .ok (.checkcast 15, 3) := dk_192 0 15 (dk_at dksJ10_afterNodeAccess_7 1 rfl rfl)
theorem dJ10_afterNodeAccess_163 : decode cJ10_afterNodeAccess 163 = .ok (.astore 4, 2) := dk_58 4 (dk_at dksJ10_afterNodeAccess_7 4 rfl rfl)
theorem dJ10_afterNodeAccess_165 : decode cJ10_afterNodeAccess 165 = .ok (.aload 4, 2) := dk_25 4 (dk_at dksJ10_afterNodeAccess_7 6 rfl rfl)
theorem dJ10_afterNodeAccess_167 : decode cJ10_afterNodeAccess 167 = .ok (.getfield 19, 3) := dk_180 0 19 (dk_at dksJ10_afterNodeAccess_7 8 rfl rfl)
theorem dJ10_afterNodeAccess_170 : decode cJ10_afterNodeAccess 170 = .ok (.astore 5, 2) := dk_58 5 (dk_at dksJ10_afterNodeAccess_7 11 rfl rfl)
theorem dJ10_afterNodeAccess_172 : decode cJ10_afterNodeAccess 172 = .ok (.aload 4, 2) := dk_25 4 (dk_at dksJ10_afterNodeAccess_7 13 rfl rfl)
theorem dJ10_afterNodeAccess_174 : decode cJ10_afterNodeAccess 174 = .ok (.getfield 14, 3) := dk_180 0 14 (dk_at dksJ10_afterNodeAccess_7 15 rfl rfl)
theorem dJ10_afterNodeAccess_177 : decode cJ10_afterNodeAccess 177 = .ok (.astore 6, 2) := dk_58 6 (dk_at dksJ10_afterNodeAccess_7 18 rfl rfl)
theorem dJ10_afterNodeAccess_179 : decode cJ10_afterNodeAccess 179 = .ok (.aload 4, 2) := dk_25 4 (dk_at dksJ10_afterNodeAccess_7 20 rfl rfl)
theorem dJ10_afterNodeAccess_181 : decode cJ10_afterNodeAccess 181 = .ok (.aconst_null, 1) := dk_1 (dk_at dksJ10_afterNodeAccess_7 22 rfl rfl)
theorem dJ10_afterNodeAccess_182 : decode cJ10_afterNodeAccess 182 = .ok (.putfield 19, 3) := dk_181 0 19 (dk_at dksJ10_afterNodeAccess_8 0 rfl rfl)
theorem dJ10_afterNodeAccess_185 : decode cJ10_afterNodeAccess 185 = .ok (.aload 6, 2) := dk_25 6 (dk_at dksJ10_afterNodeAccess_8 3 rfl rfl)
theorem dJ10_afterNodeAccess_187 : decode cJ10_afterNodeAccess 187 = .ok (.ifnonnull 12, 3) := dk_199 0 12 (dk_at dksJ10_afterNodeAccess_8 5 rfl rfl)
theorem dJ10_afterNodeAccess_190 : decode cJ10_afterNodeAccess 190 = .ok (.aload_n 0, 1) := dk_42 (dk_at dksJ10_afterNodeAccess_8 8 rfl rfl)
theorem dJ10_afterNodeAccess_191 : decode cJ10_afterNodeAccess 191 = .ok (.aload 5, 2) := dk_25 5 (dk_at dksJ10_afterNodeAccess_8 9 rfl rfl)
theorem dJ10_afterNodeAccess_193 : decode cJ10_afterNodeAccess 193 = .ok (.putfield 11, 3) := dk_181 0 11 (dk_at dksJ10_afterNodeAccess_8 11 rfl rfl)
theorem dJ10_afterNodeAccess_196 : decode cJ10_afterNodeAccess 196 = .ok (.goto 10, 3) := dk_167 0 10 (dk_at dksJ10_afterNodeAccess_8 14 rfl rfl)
theorem dJ10_afterNodeAccess_199 : decode cJ10_afterNodeAccess 199 = .ok (.aload 6, 2) := dk_25 6 (dk_at dksJ10_afterNodeAccess_8 17 rfl rfl)
theorem dJ10_afterNodeAccess_201 : decode cJ10_afterNodeAccess 201 = .ok (.aload 5, 2) := dk_25 5 (dk_at dksJ10_afterNodeAccess_8 19 rfl rfl)
theorem dJ10_afterNodeAccess_203 : decode cJ10_afterNodeAccess 203 = .ok (.putfield 19, 3) := dk_181 0 19 (dk_at dksJ10_afterNodeAccess_8 21 rfl rfl)
theorem dJ10_afterNodeAccess_206 : decode cJ10_afterNodeAccess 206 = .ok (.aload 5, 2) := dk_25 5 (dk_at dksJ10_afterNodeAccess_9 0 rfl rfl)
theorem dJ10_afterNodeAccess_208 : decode cJ10_afterNodeAccess 208 = .ok (.ifnull 13, 3) := dk_198 0 13 (dk_at dksJ10_afterNodeAccess_9 2 rfl rfl)
theorem dJ10_afterNodeAccess_211 : decode cJ10_afterNodeAccess 211 = .ok (.aload 5, 2) := dk_25 5 (dk_at dksJ10_afterNodeAccess_9 5 rfl rfl)
theorem dJ10_afterNodeAccess_213 : decode cJ10_afterNodeAccess 213 = .ok (.aload 6, 2) := dk_25 6 (dk_at dksJ10_afterNodeAccess_9 7 rfl rfl)
theorem dJ10_afterNodeAccess_215 : decode cJ10_afterNodeAccess 215 = .ok (.putfield 14, 3) := dk_181 0 14 (dk_at dksJ10_afterNodeAccess_9 9 rfl rfl)
theorem dJ10_afterNodeAccess_218 : decode cJ10_afterNodeAccess 218 = .ok (.goto 6, 3) := dk_167 0 6 (dk_at dksJ10_afterNodeAccess_9 12 rfl rfl)
theorem dJ10_afterNodeAccess_221 : decode cJ10_afterNodeAccess 221 = .ok (.aload 6, 2) := dk_25 6 (dk_at dksJ10_afterNodeAccess_9 15 rfl rfl)
theorem dJ10_afterNodeAccess_223 : decode cJ10_afterNodeAccess 223 = .ok (.astore_n 3, 1) := dk_78 (dk_at dksJ10_afterNodeAccess_9 17 rfl rfl)
theorem dJ10_afterNodeAccess_224 : decode cJ10_afterNodeAccess 224 = .ok (.aload_n 3, 1) := dk_45 (dk_at dksJ10_afterNodeAccess_9 18 rfl rfl)
theorem dJ10_afterNodeAccess_225 : decode cJ10_afterNodeAccess 225 = .ok (.ifnonnull 12, 3) := dk_199 0 12 (dk_at dksJ10_afterNodeAccess_9 19 rfl rfl)
theorem dJ10_afterNodeAccess_228 : decode cJ10_afterNodeAccess 228 = .ok (.aload_n 0, 1) := dk_42 (dk_at dksJ10_afterNodeAccess_9 22 rfl rfl)
theorem dJ10_afterNodeAccess_229 : decode cJ10_afterNodeAccess 229 = .ok (.aload 4, 2) := dk_25 4 (dk_at dksJ10_afterNodeAccess_10 0 rfl rfl)
theorem dJ10_afterNodeAccess_231 : decode cJ10_afterNodeAccess 231 = .ok (.putfield 11, 3) := dk_181 0 11 (dk_at dksJ10_afterNodeAccess_10 2 rfl rfl)
theorem dJ10_afterNodeAccess_234 : decode cJ10_afterNodeAccess 234 = .ok (.goto 15, 3) := dk_167 0 15 (dk_at dksJ10_afterNodeAccess_10 5 rfl rfl)
theorem dJ10_afterNodeAccess_237 : decode cJ10_afterNodeAccess 237 = .ok (.aload 4, 2) := dk_25 4 (dk_at dksJ10_afterNodeAccess_10 8 rfl rfl)
theorem dJ10_afterNodeAccess_239 : decode cJ10_afterNodeAccess 239 = .ok (.aload_n 3, 1) := dk_45 (dk_at dksJ10_afterNodeAccess_10 10 rfl rfl)
theorem dJ10_afterNodeAccess_240 : decode cJ10_afterNodeAccess 240 = .ok (.putfield 14, 3) := dk_181 0 14 (dk_at dksJ10_afterNodeAccess_10 11 rfl rfl)
theorem dJ10_afterNodeAccess_243 : decode cJ10_afterNodeAccess 243 = .ok (.aload_n 3, 1) := dk_45 (dk_at dksJ10_afterNodeAccess_10 14 rfl rfl)
theorem dJ10_afterNodeAccess_244 : decode cJ10_afterNodeAccess 244 = .ok (.aload 4, 2) := dk_25 4 (dk_at dksJ10_afterNodeAccess_10 15 rfl rfl)
theorem dJ10_afterNodeAccess_246 : decode cJ10_afterNodeAccess 246 = .ok (.putfield 19, 3) := dk_181 0 19 (dk_at dksJ10_afterNodeAccess_10 17 rfl rfl)
theorem dJ10_afterNodeAccess_249 : decode cJ10_afterNodeAccess 249 = .ok (.aload_n 0, 1) := dk_42 (dk_at dksJ10_afterNodeAccess_10 20 rfl rfl)
theorem dJ10_afterNodeAccess_250 : decode cJ10_afterNodeAccess 250 = .ok (.aload 4, 2) := dk_25 4 (dk_at dksJ10_afterNodeAccess_10 21 rfl rfl)
theorem dJ10_afterNodeAccess_252 : decode cJ10_afterNodeAccess 252 = .ok (.putfield 7, 3) := dk_181 0 7 (dk_at dksJ10_afterNodeAccess_11 0 rfl rfl)
theorem dJ10_afterNodeAccess_255 : decode cJ10_afterNodeAccess 255 = .ok (.aload_n 0, 1) := dk_42 (dk_at dksJ10_afterNodeAccess_11 3 rfl rfl)
theorem dJ10_afterNodeAccess_256 : decode cJ10_afterNodeAccess 256 = .ok (.dup, 1) := dk_89 (dk_at dksJ10_afterNodeAccess_11 4 rfl rfl)
theorem dJ10_afterNodeAccess_257 : decode cJ10_afterNodeAccess 257 = .ok (.getfield 68, 3) := dk_180 0 68 (dk_at dksJ10_afterNodeAccess_11 5 rfl rfl)
theorem dJ10_afterNodeAccess_260 : decode cJ10_afterNodeAccess 260 = .ok (.iconst 1, 1) := dk_4 (dk_at dksJ10_afterNodeAccess_11 8 rfl rfl)
theorem dJ10_afterNodeAccess_261 : decode cJ10_afterNodeAccess 261 = .ok (.iadd, 1) := dk_96 (dk_at dksJ10_afterNodeAccess_11 9 rfl rfl)
theorem dJ10_afterNodeAccess_262 : decode cJ10_afterNodeAccess 262 = .ok (.putfield 68, 3) := dk_181 0 68 (dk_at dksJ10_afterNodeAccess_11 10 rfl rfl)
theorem dJ10_afterNodeAccess_265 : decode cJ10_afterNodeAccess 265 = .ok (.return_, 1) := dk_177 (dk_at dksJ10_afterNodeAccess_11 13 rfl rfl)
abbrev cJ10_replacementNode : ByteArray := prog_66_method_5_code
def yJ10_replacementNode : MethodName := ⟨RJ10, "replacementNode", "(Ljava/util/HashMap$Node;Ljava/util/HashMap$Node;)Ljava/util/HashMap$Node;"⟩
def dkwJ10_replacementNode_1 : List UInt8 := [183, 0, 28, 58, 4, 42, 45, 25, 4, 182, 0, 46, 25, 4, 176]
abbrev dktJ10_replacementNode_1 : List UInt8 := dkwJ10_replacementNode_1 ++ []
def dkwJ10_replacementNode_0 : List UInt8 := [43, 192, 0, 15, 78, 187, 0, 15, 89, 45, 180, 0, 36, 45, 180, 0, 39, 45, 180, 0, 43, 44]
abbrev dktJ10_replacementNode_0 : List UInt8 := dkwJ10_replacementNode_0 ++ dktJ10_replacementNode_1
theorem dksJ10_replacementNode_0 : cJ10_replacementNode.data.toList.drop 0 = dktJ10_replacementNode_0 := by decide +kernel
theorem dksJ10_replacementNode_1 : cJ10_replacementNode.data.toList.drop 22 = dktJ10_replacementNode_1 := dk_seg dksJ10_replacementNode_0 22 rfl rfl
theorem dJ10_replacementNode_0 : decode cJ10_replacementNode 0 = .ok (.aload_n 1, 1) := dk_43 (dk_at dksJ10_replacementNode_0 0 rfl rfl)
theorem dJ10_replacementNode_1 : decode cJ10_replacementNode 1 = .ok (.checkcast 15, 3) := dk_192 0 15 (dk_at dksJ10_replacementNode_0 1 rfl rfl)
theorem dJ10_replacementNode_4 : decode cJ10_replacementNode 4 = .ok (.astore_n 3, 1) := dk_78 (dk_at dksJ10_replacementNode_0 4 rfl rfl)
theorem dJ10_replacementNode_5 : decode cJ10_replacementNode 5 = .ok (.new 15, 3) := dk_187 0 15 (dk_at dksJ10_replacementNode_0 5 rfl rfl)
theorem dJ10_replacementNode_8 : decode cJ10_replacementNode 8 = .ok (.dup, 1) := dk_89 (dk_at dksJ10_replacementNode_0 8 rfl rfl)
theorem dJ10_replacementNode_9 : decode cJ10_replacementNode 9 = .ok (.aload_n 3, 1) := dk_45 (dk_at dksJ10_replacementNode_0 9 rfl rfl)
theorem dJ10_replacementNode_10 : decode cJ10_replacementNode 10 = .ok (.getfield 36, 3) := dk_180 0 36 (dk_at dksJ10_replacementNode_0 10 rfl rfl)
theorem dJ10_replacementNode_13 : decode cJ10_replacementNode 13 = .ok (.aload_n 3, 1) := dk_45 (dk_at dksJ10_replacementNode_0 13 rfl rfl)
theorem dJ10_replacementNode_14 : decode cJ10_replacementNode 14 = .ok (.getfield 39, 3) := dk_180 0 39 (dk_at dksJ10_replacementNode_0 14 rfl rfl)
theorem dJ10_replacementNode_17 : decode cJ10_replacementNode 17 = .ok (.aload_n 3, 1) := dk_45 (dk_at dksJ10_replacementNode_0 17 rfl rfl)
theorem dJ10_replacementNode_18 : decode cJ10_replacementNode 18 = .ok (.getfield 43, 3) := dk_180 0 43 (dk_at dksJ10_replacementNode_0 18 rfl rfl)
theorem dJ10_replacementNode_21 : decode cJ10_replacementNode 21 = .ok (.aload_n 2, 1) := dk_44 (dk_at dksJ10_replacementNode_0 21 rfl rfl)
theorem dJ10_replacementNode_22 : decode cJ10_replacementNode 22 = .ok (.invokespecial 28, 3) := dk_183 0 28 (dk_at dksJ10_replacementNode_1 0 rfl rfl)
theorem dJ10_replacementNode_25 : decode cJ10_replacementNode 25 = .ok (.astore 4, 2) := dk_58 4 (dk_at dksJ10_replacementNode_1 3 rfl rfl)
theorem dJ10_replacementNode_27 : decode cJ10_replacementNode 27 = .ok (.aload_n 0, 1) := dk_42 (dk_at dksJ10_replacementNode_1 5 rfl rfl)
theorem dJ10_replacementNode_28 : decode cJ10_replacementNode 28 = .ok (.aload_n 3, 1) := dk_45 (dk_at dksJ10_replacementNode_1 6 rfl rfl)
theorem dJ10_replacementNode_29 : decode cJ10_replacementNode 29 = .ok (.aload 4, 2) := dk_25 4 (dk_at dksJ10_replacementNode_1 7 rfl rfl)
theorem dJ10_replacementNode_31 : decode cJ10_replacementNode 31 = .ok (.invokevirtual 46, 3) := dk_182 0 46 (dk_at dksJ10_replacementNode_1 9 rfl rfl)
theorem dJ10_replacementNode_34 : decode cJ10_replacementNode 34 = .ok (.aload 4, 2) := dk_25 4 (dk_at dksJ10_replacementNode_1 12 rfl rfl)
theorem dJ10_replacementNode_36 : decode cJ10_replacementNode 36 = .ok (.areturn, 1) := dk_176 (dk_at dksJ10_replacementNode_1 14 rfl rfl)
abbrev cJ10_transferLinks : ByteArray := prog_66_method_2_code
def yJ10_transferLinks : MethodName := ⟨RJ10, "transferLinks", "(Ljava/util/LinkedHashMap$Entry;Ljava/util/LinkedHashMap$Entry;)V"⟩
def dkwJ10_transferLinks_2 : List UInt8 := [181, 0, 11, 167, 0, 9, 25, 4, 44, 181, 0, 19, 177]
abbrev dktJ10_transferLinks_2 : List UInt8 := dkwJ10_transferLinks_2 ++ []
def dkwJ10_transferLinks_1 : List UInt8 := [199, 0, 11, 42, 44, 181, 0, 7, 167, 0, 8, 45, 44, 181, 0, 14, 25, 4, 199, 0, 11, 42, 44]
abbrev dktJ10_transferLinks_1 : List UInt8 := dkwJ10_transferLinks_1 ++ dktJ10_transferLinks_2
def dkwJ10_transferLinks_0 : List UInt8 := [44, 43, 180, 0, 19, 90, 181, 0, 19, 78, 44, 43, 180, 0, 14, 90, 181, 0, 14, 58, 4, 45]
abbrev dktJ10_transferLinks_0 : List UInt8 := dkwJ10_transferLinks_0 ++ dktJ10_transferLinks_1
theorem dksJ10_transferLinks_0 : cJ10_transferLinks.data.toList.drop 0 = dktJ10_transferLinks_0 := by decide +kernel
theorem dksJ10_transferLinks_1 : cJ10_transferLinks.data.toList.drop 22 = dktJ10_transferLinks_1 := dk_seg dksJ10_transferLinks_0 22 rfl rfl
theorem dksJ10_transferLinks_2 : cJ10_transferLinks.data.toList.drop 45 = dktJ10_transferLinks_2 := dk_seg dksJ10_transferLinks_1 23 rfl rfl
theorem dJ10_transferLinks_0 : decode cJ10_transferLinks 0 = .ok (.aload_n 2, 1) := dk_44 (dk_at dksJ10_transferLinks_0 0 rfl rfl)
theorem dJ10_transferLinks_1 : decode cJ10_transferLinks 1 = .ok (.aload_n 1, 1) := dk_43 (dk_at dksJ10_transferLinks_0 1 rfl rfl)
theorem dJ10_transferLinks_2 : decode cJ10_transferLinks 2 = .ok (.getfield 19, 3) := dk_180 0 19 (dk_at dksJ10_transferLinks_0 2 rfl rfl)
theorem dJ10_transferLinks_5 : decode cJ10_transferLinks 5 = .ok (.dup_x1, 1) := dk_90 (dk_at dksJ10_transferLinks_0 5 rfl rfl)
theorem dJ10_transferLinks_6 : decode cJ10_transferLinks 6 = .ok (.putfield 19, 3) := dk_181 0 19 (dk_at dksJ10_transferLinks_0 6 rfl rfl)
theorem dJ10_transferLinks_9 : decode cJ10_transferLinks 9 = .ok (.astore_n 3, 1) := dk_78 (dk_at dksJ10_transferLinks_0 9 rfl rfl)
theorem dJ10_transferLinks_10 : decode cJ10_transferLinks 10 = .ok (.aload_n 2, 1) := dk_44 (dk_at dksJ10_transferLinks_0 10 rfl rfl)
theorem dJ10_transferLinks_11 : decode cJ10_transferLinks 11 = .ok (.aload_n 1, 1) := dk_43 (dk_at dksJ10_transferLinks_0 11 rfl rfl)
theorem dJ10_transferLinks_12 : decode cJ10_transferLinks 12 = .ok (.getfield 14, 3) := dk_180 0 14 (dk_at dksJ10_transferLinks_0 12 rfl rfl)
theorem dJ10_transferLinks_15 : decode cJ10_transferLinks 15 = .ok (.dup_x1, 1) := dk_90 (dk_at dksJ10_transferLinks_0 15 rfl rfl)
theorem dJ10_transferLinks_16 : decode cJ10_transferLinks 16 = .ok (.putfield 14, 3) := dk_181 0 14 (dk_at dksJ10_transferLinks_0 16 rfl rfl)
theorem dJ10_transferLinks_19 : decode cJ10_transferLinks 19 = .ok (.astore 4, 2) := dk_58 4 (dk_at dksJ10_transferLinks_0 19 rfl rfl)
theorem dJ10_transferLinks_21 : decode cJ10_transferLinks 21 = .ok (.aload_n 3, 1) := dk_45 (dk_at dksJ10_transferLinks_0 21 rfl rfl)
theorem dJ10_transferLinks_22 : decode cJ10_transferLinks 22 = .ok (.ifnonnull 11, 3) := dk_199 0 11 (dk_at dksJ10_transferLinks_1 0 rfl rfl)
theorem dJ10_transferLinks_25 : decode cJ10_transferLinks 25 = .ok (.aload_n 0, 1) := dk_42 (dk_at dksJ10_transferLinks_1 3 rfl rfl)
theorem dJ10_transferLinks_26 : decode cJ10_transferLinks 26 = .ok (.aload_n 2, 1) := dk_44 (dk_at dksJ10_transferLinks_1 4 rfl rfl)
theorem dJ10_transferLinks_27 : decode cJ10_transferLinks 27 = .ok (.putfield 7, 3) := dk_181 0 7 (dk_at dksJ10_transferLinks_1 5 rfl rfl)
theorem dJ10_transferLinks_30 : decode cJ10_transferLinks 30 = .ok (.goto 8, 3) := dk_167 0 8 (dk_at dksJ10_transferLinks_1 8 rfl rfl)
theorem dJ10_transferLinks_33 : decode cJ10_transferLinks 33 = .ok (.aload_n 3, 1) := dk_45 (dk_at dksJ10_transferLinks_1 11 rfl rfl)
theorem dJ10_transferLinks_34 : decode cJ10_transferLinks 34 = .ok (.aload_n 2, 1) := dk_44 (dk_at dksJ10_transferLinks_1 12 rfl rfl)
theorem dJ10_transferLinks_35 : decode cJ10_transferLinks 35 = .ok (.putfield 14, 3) := dk_181 0 14 (dk_at dksJ10_transferLinks_1 13 rfl rfl)
theorem dJ10_transferLinks_38 : decode cJ10_transferLinks 38 = .ok (.aload 4, 2) := dk_25 4 (dk_at dksJ10_transferLinks_1 16 rfl rfl)
theorem dJ10_transferLinks_40 : decode cJ10_transferLinks 40 = .ok (.ifnonnull 11, 3) := dk_199 0 11 (dk_at dksJ10_transferLinks_1 18 rfl rfl)
theorem dJ10_transferLinks_43 : decode cJ10_transferLinks 43 = .ok (.aload_n 0, 1) := dk_42 (dk_at dksJ10_transferLinks_1 21 rfl rfl)
theorem dJ10_transferLinks_44 : decode cJ10_transferLinks 44 = .ok (.aload_n 2, 1) := dk_44 (dk_at dksJ10_transferLinks_1 22 rfl rfl)
theorem dJ10_transferLinks_45 : decode cJ10_transferLinks 45 = .ok (.putfield 11, 3) := dk_181 0 11 (dk_at dksJ10_transferLinks_2 0 rfl rfl)
theorem dJ10_transferLinks_48 : decode cJ10_transferLinks 48 = .ok (.goto 9, 3) := dk_167 0 9 (dk_at dksJ10_transferLinks_2 3 rfl rfl)
theorem dJ10_transferLinks_51 : decode cJ10_transferLinks 51 = .ok (.aload 4, 2) := dk_25 4 (dk_at dksJ10_transferLinks_2 6 rfl rfl)
theorem dJ10_transferLinks_53 : decode cJ10_transferLinks 53 = .ok (.aload_n 2, 1) := dk_44 (dk_at dksJ10_transferLinks_2 8 rfl rfl)
theorem dJ10_transferLinks_54 : decode cJ10_transferLinks 54 = .ok (.putfield 19, 3) := dk_181 0 19 (dk_at dksJ10_transferLinks_2 9 rfl rfl)
theorem dJ10_transferLinks_57 : decode cJ10_transferLinks 57 = .ok (.return_, 1) := dk_177 (dk_at dksJ10_transferLinks_2 12 rfl rfl)
abbrev cJ10_newNode : ByteArray := prog_66_method_4_code
def yJ10_newNode : MethodName := ⟨RJ10, "newNode", "(ILjava/lang/Object;Ljava/lang/Object;Ljava/util/HashMap$Node;)Ljava/util/HashMap$Node;"⟩
def dkwJ10_newNode_0 : List UInt8 := [187, 0, 15, 89, 27, 44, 45, 25, 4, 183, 0, 28, 58, 5, 42, 25, 5, 182, 0, 32, 25, 5, 176]
abbrev dktJ10_newNode_0 : List UInt8 := dkwJ10_newNode_0 ++ []
theorem dksJ10_newNode_0 : cJ10_newNode.data.toList.drop 0 = dktJ10_newNode_0 := by decide +kernel
theorem dJ10_newNode_0 : decode cJ10_newNode 0 = .ok (.new 15, 3) := dk_187 0 15 (dk_at dksJ10_newNode_0 0 rfl rfl)
theorem dJ10_newNode_3 : decode cJ10_newNode 3 = .ok (.dup, 1) := dk_89 (dk_at dksJ10_newNode_0 3 rfl rfl)
theorem dJ10_newNode_4 : decode cJ10_newNode 4 = .ok (.iload_n 1, 1) := dk_27 (dk_at dksJ10_newNode_0 4 rfl rfl)
theorem dJ10_newNode_5 : decode cJ10_newNode 5 = .ok (.aload_n 2, 1) := dk_44 (dk_at dksJ10_newNode_0 5 rfl rfl)
theorem dJ10_newNode_6 : decode cJ10_newNode 6 = .ok (.aload_n 3, 1) := dk_45 (dk_at dksJ10_newNode_0 6 rfl rfl)
theorem dJ10_newNode_7 : decode cJ10_newNode 7 = .ok (.aload 4, 2) := dk_25 4 (dk_at dksJ10_newNode_0 7 rfl rfl)
theorem dJ10_newNode_9 : decode cJ10_newNode 9 = .ok (.invokespecial 28, 3) := dk_183 0 28 (dk_at dksJ10_newNode_0 9 rfl rfl)
theorem dJ10_newNode_12 : decode cJ10_newNode 12 = .ok (.astore 5, 2) := dk_58 5 (dk_at dksJ10_newNode_0 12 rfl rfl)
theorem dJ10_newNode_14 : decode cJ10_newNode 14 = .ok (.aload_n 0, 1) := dk_42 (dk_at dksJ10_newNode_0 14 rfl rfl)
theorem dJ10_newNode_15 : decode cJ10_newNode 15 = .ok (.aload 5, 2) := dk_25 5 (dk_at dksJ10_newNode_0 15 rfl rfl)
theorem dJ10_newNode_17 : decode cJ10_newNode 17 = .ok (.invokevirtual 32, 3) := dk_182 0 32 (dk_at dksJ10_newNode_0 17 rfl rfl)
theorem dJ10_newNode_20 : decode cJ10_newNode 20 = .ok (.aload 5, 2) := dk_25 5 (dk_at dksJ10_newNode_0 20 rfl rfl)
theorem dJ10_newNode_22 : decode cJ10_newNode 22 = .ok (.areturn, 1) := dk_176 (dk_at dksJ10_newNode_0 22 rfl rfl)
abbrev cJ10_linkNodeAtEnd : ByteArray := prog_66_method_1_code
def yJ10_linkNodeAtEnd : MethodName := ⟨RJ10, "linkNodeAtEnd", "(Ljava/util/LinkedHashMap$Entry;)V"⟩
def dkwJ10_linkNodeAtEnd_3 : List UInt8 := [181, 0, 14, 177]
abbrev dktJ10_linkNodeAtEnd_3 : List UInt8 := dkwJ10_linkNodeAtEnd_3 ++ []
def dkwJ10_linkNodeAtEnd_2 : List UInt8 := [42, 43, 181, 0, 11, 44, 199, 0, 11, 42, 43, 181, 0, 7, 167, 0, 13, 43, 44, 181, 0, 19, 44, 43]
abbrev dktJ10_linkNodeAtEnd_2 : List UInt8 := dkwJ10_linkNodeAtEnd_2 ++ dktJ10_linkNodeAtEnd_3
def dkwJ10_linkNodeAtEnd_1 : List UInt8 := [181, 0, 11, 167, 0, 13, 43, 44, 181, 0, 14, 44, 43, 181, 0, 19, 167, 0, 35, 42, 180, 0, 11, 77]
abbrev dktJ10_linkNodeAtEnd_1 : List UInt8 := dkwJ10_linkNodeAtEnd_1 ++ dktJ10_linkNodeAtEnd_2
def dkwJ10_linkNodeAtEnd_0 : List UInt8 := [42, 180, 0, 1, 4, 160, 0, 38, 42, 180, 0, 7, 77, 42, 43, 181, 0, 7, 44, 199, 0, 11, 42, 43]
abbrev dktJ10_linkNodeAtEnd_0 : List UInt8 := dkwJ10_linkNodeAtEnd_0 ++ dktJ10_linkNodeAtEnd_1
theorem dksJ10_linkNodeAtEnd_0 : cJ10_linkNodeAtEnd.data.toList.drop 0 = dktJ10_linkNodeAtEnd_0 := by decide +kernel
theorem dksJ10_linkNodeAtEnd_1 : cJ10_linkNodeAtEnd.data.toList.drop 24 = dktJ10_linkNodeAtEnd_1 := dk_seg dksJ10_linkNodeAtEnd_0 24 rfl rfl
theorem dksJ10_linkNodeAtEnd_2 : cJ10_linkNodeAtEnd.data.toList.drop 48 = dktJ10_linkNodeAtEnd_2 := dk_seg dksJ10_linkNodeAtEnd_1 24 rfl rfl
theorem dksJ10_linkNodeAtEnd_3 : cJ10_linkNodeAtEnd.data.toList.drop 72 = dktJ10_linkNodeAtEnd_3 := dk_seg dksJ10_linkNodeAtEnd_2 24 rfl rfl
theorem dJ10_linkNodeAtEnd_0 : decode cJ10_linkNodeAtEnd 0 = .ok (.aload_n 0, 1) := dk_42 (dk_at dksJ10_linkNodeAtEnd_0 0 rfl rfl)
theorem dJ10_linkNodeAtEnd_1 : decode cJ10_linkNodeAtEnd 1 = .ok (.getfield 1, 3) := dk_180 0 1 (dk_at dksJ10_linkNodeAtEnd_0 1 rfl rfl)
theorem dJ10_linkNodeAtEnd_4 : decode cJ10_linkNodeAtEnd 4 = .ok (.iconst 1, 1) := dk_4 (dk_at dksJ10_linkNodeAtEnd_0 4 rfl rfl)
theorem dJ10_linkNodeAtEnd_5 : decode cJ10_linkNodeAtEnd 5 = .ok (.if_icmp .ne 38, 3) := dk_160 0 38 (dk_at dksJ10_linkNodeAtEnd_0 5 rfl rfl)
theorem dJ10_linkNodeAtEnd_8 : decode cJ10_linkNodeAtEnd 8 = .ok (.aload_n 0, 1) := dk_42 (dk_at dksJ10_linkNodeAtEnd_0 8 rfl rfl)
theorem dJ10_linkNodeAtEnd_9 : decode cJ10_linkNodeAtEnd 9 = .ok (.getfield 7, 3) := dk_180 0 7 (dk_at dksJ10_linkNodeAtEnd_0 9 rfl rfl)
theorem dJ10_linkNodeAtEnd_12 : decode cJ10_linkNodeAtEnd 12 = .ok (.astore_n 2, 1) := dk_77 (dk_at dksJ10_linkNodeAtEnd_0 12 rfl rfl)
theorem dJ10_linkNodeAtEnd_13 : decode cJ10_linkNodeAtEnd 13 = .ok (.aload_n 0, 1) := dk_42 (dk_at dksJ10_linkNodeAtEnd_0 13 rfl rfl)
theorem dJ10_linkNodeAtEnd_14 : decode cJ10_linkNodeAtEnd 14 = .ok (.aload_n 1, 1) := dk_43 (dk_at dksJ10_linkNodeAtEnd_0 14 rfl rfl)
theorem dJ10_linkNodeAtEnd_15 : decode cJ10_linkNodeAtEnd 15 = .ok (.putfield 7, 3) := dk_181 0 7 (dk_at dksJ10_linkNodeAtEnd_0 15 rfl rfl)
theorem dJ10_linkNodeAtEnd_18 : decode cJ10_linkNodeAtEnd 18 = .ok (.aload_n 2, 1) := dk_44 (dk_at dksJ10_linkNodeAtEnd_0 18 rfl rfl)
theorem dJ10_linkNodeAtEnd_19 : decode cJ10_linkNodeAtEnd 19 = .ok (.ifnonnull 11, 3) := dk_199 0 11 (dk_at dksJ10_linkNodeAtEnd_0 19 rfl rfl)
theorem dJ10_linkNodeAtEnd_22 : decode cJ10_linkNodeAtEnd 22 = .ok (.aload_n 0, 1) := dk_42 (dk_at dksJ10_linkNodeAtEnd_0 22 rfl rfl)
theorem dJ10_linkNodeAtEnd_23 : decode cJ10_linkNodeAtEnd 23 = .ok (.aload_n 1, 1) := dk_43 (dk_at dksJ10_linkNodeAtEnd_0 23 rfl rfl)
theorem dJ10_linkNodeAtEnd_24 : decode cJ10_linkNodeAtEnd 24 = .ok (.putfield 11, 3) := dk_181 0 11 (dk_at dksJ10_linkNodeAtEnd_1 0 rfl rfl)
theorem dJ10_linkNodeAtEnd_27 : decode cJ10_linkNodeAtEnd 27 = .ok (.goto 13, 3) := dk_167 0 13 (dk_at dksJ10_linkNodeAtEnd_1 3 rfl rfl)
theorem dJ10_linkNodeAtEnd_30 : decode cJ10_linkNodeAtEnd 30 = .ok (.aload_n 1, 1) := dk_43 (dk_at dksJ10_linkNodeAtEnd_1 6 rfl rfl)
theorem dJ10_linkNodeAtEnd_31 : decode cJ10_linkNodeAtEnd 31 = .ok (.aload_n 2, 1) := dk_44 (dk_at dksJ10_linkNodeAtEnd_1 7 rfl rfl)
theorem dJ10_linkNodeAtEnd_32 : decode cJ10_linkNodeAtEnd 32 = .ok (.putfield 14, 3) := dk_181 0 14 (dk_at dksJ10_linkNodeAtEnd_1 8 rfl rfl)
theorem dJ10_linkNodeAtEnd_35 : decode cJ10_linkNodeAtEnd 35 = .ok (.aload_n 2, 1) := dk_44 (dk_at dksJ10_linkNodeAtEnd_1 11 rfl rfl)
theorem dJ10_linkNodeAtEnd_36 : decode cJ10_linkNodeAtEnd 36 = .ok (.aload_n 1, 1) := dk_43 (dk_at dksJ10_linkNodeAtEnd_1 12 rfl rfl)
theorem dJ10_linkNodeAtEnd_37 : decode cJ10_linkNodeAtEnd 37 = .ok (.putfield 19, 3) := dk_181 0 19 (dk_at dksJ10_linkNodeAtEnd_1 13 rfl rfl)
theorem dJ10_linkNodeAtEnd_40 : decode cJ10_linkNodeAtEnd 40 = .ok (.goto 35, 3) := dk_167 0 35 (dk_at dksJ10_linkNodeAtEnd_1 16 rfl rfl)
theorem dJ10_linkNodeAtEnd_43 : decode cJ10_linkNodeAtEnd 43 = .ok (.aload_n 0, 1) := dk_42 (dk_at dksJ10_linkNodeAtEnd_1 19 rfl rfl)
theorem dJ10_linkNodeAtEnd_44 : decode cJ10_linkNodeAtEnd 44 = .ok (.getfield 11, 3) := dk_180 0 11 (dk_at dksJ10_linkNodeAtEnd_1 20 rfl rfl)
theorem dJ10_linkNodeAtEnd_47 : decode cJ10_linkNodeAtEnd 47 = .ok (.astore_n 2, 1) := dk_77 (dk_at dksJ10_linkNodeAtEnd_1 23 rfl rfl)
theorem dJ10_linkNodeAtEnd_48 : decode cJ10_linkNodeAtEnd 48 = .ok (.aload_n 0, 1) := dk_42 (dk_at dksJ10_linkNodeAtEnd_2 0 rfl rfl)
theorem dJ10_linkNodeAtEnd_49 : decode cJ10_linkNodeAtEnd 49 = .ok (.aload_n 1, 1) := dk_43 (dk_at dksJ10_linkNodeAtEnd_2 1 rfl rfl)
theorem dJ10_linkNodeAtEnd_50 : decode cJ10_linkNodeAtEnd 50 = .ok (.putfield 11, 3) := dk_181 0 11 (dk_at dksJ10_linkNodeAtEnd_2 2 rfl rfl)
theorem dJ10_linkNodeAtEnd_53 : decode cJ10_linkNodeAtEnd 53 = .ok (.aload_n 2, 1) := dk_44 (dk_at dksJ10_linkNodeAtEnd_2 5 rfl rfl)
theorem dJ10_linkNodeAtEnd_54 : decode cJ10_linkNodeAtEnd 54 = .ok (.ifnonnull 11, 3) := dk_199 0 11 (dk_at dksJ10_linkNodeAtEnd_2 6 rfl rfl)
theorem dJ10_linkNodeAtEnd_57 : decode cJ10_linkNodeAtEnd 57 = .ok (.aload_n 0, 1) := dk_42 (dk_at dksJ10_linkNodeAtEnd_2 9 rfl rfl)
theorem dJ10_linkNodeAtEnd_58 : decode cJ10_linkNodeAtEnd 58 = .ok (.aload_n 1, 1) := dk_43 (dk_at dksJ10_linkNodeAtEnd_2 10 rfl rfl)
theorem dJ10_linkNodeAtEnd_59 : decode cJ10_linkNodeAtEnd 59 = .ok (.putfield 7, 3) := dk_181 0 7 (dk_at dksJ10_linkNodeAtEnd_2 11 rfl rfl)
theorem dJ10_linkNodeAtEnd_62 : decode cJ10_linkNodeAtEnd 62 = .ok (.goto 13, 3) := dk_167 0 13 (dk_at dksJ10_linkNodeAtEnd_2 14 rfl rfl)
theorem dJ10_linkNodeAtEnd_65 : decode cJ10_linkNodeAtEnd 65 = .ok (.aload_n 1, 1) := dk_43 (dk_at dksJ10_linkNodeAtEnd_2 17 rfl rfl)
theorem dJ10_linkNodeAtEnd_66 : decode cJ10_linkNodeAtEnd 66 = .ok (.aload_n 2, 1) := dk_44 (dk_at dksJ10_linkNodeAtEnd_2 18 rfl rfl)
theorem dJ10_linkNodeAtEnd_67 : decode cJ10_linkNodeAtEnd 67 = .ok (.putfield 19, 3) := dk_181 0 19 (dk_at dksJ10_linkNodeAtEnd_2 19 rfl rfl)
theorem dJ10_linkNodeAtEnd_70 : decode cJ10_linkNodeAtEnd 70 = .ok (.aload_n 2, 1) := dk_44 (dk_at dksJ10_linkNodeAtEnd_2 22 rfl rfl)
theorem dJ10_linkNodeAtEnd_71 : decode cJ10_linkNodeAtEnd 71 = .ok (.aload_n 1, 1) := dk_43 (dk_at dksJ10_linkNodeAtEnd_2 23 rfl rfl)
theorem dJ10_linkNodeAtEnd_72 : decode cJ10_linkNodeAtEnd 72 = .ok (.putfield 14, 3) := dk_181 0 14 (dk_at dksJ10_linkNodeAtEnd_3 0 rfl rfl)
theorem dJ10_linkNodeAtEnd_75 : decode cJ10_linkNodeAtEnd 75 = .ok (.return_, 1) := dk_177 (dk_at dksJ10_linkNodeAtEnd_3 3 rfl rfl)
abbrev cJ10_newTreeNode : ByteArray := prog_66_method_6_code
def yJ10_newTreeNode : MethodName := ⟨RJ10, "newTreeNode", "(ILjava/lang/Object;Ljava/lang/Object;Ljava/util/HashMap$Node;)Ljava/util/HashMap$TreeNode;"⟩
def dkwJ10_newTreeNode_0 : List UInt8 := [187, 0, 50, 89, 27, 44, 45, 25, 4, 183, 0, 52, 58, 5, 42, 25, 5, 182, 0, 32, 25, 5, 176]
abbrev dktJ10_newTreeNode_0 : List UInt8 := dkwJ10_newTreeNode_0 ++ []
theorem dksJ10_newTreeNode_0 : cJ10_newTreeNode.data.toList.drop 0 = dktJ10_newTreeNode_0 := by decide +kernel
theorem dJ10_newTreeNode_0 : decode cJ10_newTreeNode 0 = .ok (.new 50, 3) := dk_187 0 50 (dk_at dksJ10_newTreeNode_0 0 rfl rfl)
theorem dJ10_newTreeNode_3 : decode cJ10_newTreeNode 3 = .ok (.dup, 1) := dk_89 (dk_at dksJ10_newTreeNode_0 3 rfl rfl)
theorem dJ10_newTreeNode_4 : decode cJ10_newTreeNode 4 = .ok (.iload_n 1, 1) := dk_27 (dk_at dksJ10_newTreeNode_0 4 rfl rfl)
theorem dJ10_newTreeNode_5 : decode cJ10_newTreeNode 5 = .ok (.aload_n 2, 1) := dk_44 (dk_at dksJ10_newTreeNode_0 5 rfl rfl)
theorem dJ10_newTreeNode_6 : decode cJ10_newTreeNode 6 = .ok (.aload_n 3, 1) := dk_45 (dk_at dksJ10_newTreeNode_0 6 rfl rfl)
theorem dJ10_newTreeNode_7 : decode cJ10_newTreeNode 7 = .ok (.aload 4, 2) := dk_25 4 (dk_at dksJ10_newTreeNode_0 7 rfl rfl)
theorem dJ10_newTreeNode_9 : decode cJ10_newTreeNode 9 = .ok (.invokespecial 52, 3) := dk_183 0 52 (dk_at dksJ10_newTreeNode_0 9 rfl rfl)
theorem dJ10_newTreeNode_12 : decode cJ10_newTreeNode 12 = .ok (.astore 5, 2) := dk_58 5 (dk_at dksJ10_newTreeNode_0 12 rfl rfl)
theorem dJ10_newTreeNode_14 : decode cJ10_newTreeNode 14 = .ok (.aload_n 0, 1) := dk_42 (dk_at dksJ10_newTreeNode_0 14 rfl rfl)
theorem dJ10_newTreeNode_15 : decode cJ10_newTreeNode 15 = .ok (.aload 5, 2) := dk_25 5 (dk_at dksJ10_newTreeNode_0 15 rfl rfl)
theorem dJ10_newTreeNode_17 : decode cJ10_newTreeNode 17 = .ok (.invokevirtual 32, 3) := dk_182 0 32 (dk_at dksJ10_newTreeNode_0 17 rfl rfl)
theorem dJ10_newTreeNode_20 : decode cJ10_newTreeNode 20 = .ok (.aload 5, 2) := dk_25 5 (dk_at dksJ10_newTreeNode_0 20 rfl rfl)
theorem dJ10_newTreeNode_22 : decode cJ10_newTreeNode 22 = .ok (.areturn, 1) := dk_176 (dk_at dksJ10_newTreeNode_0 22 rfl rfl)
abbrev cJ10_replacementTreeNode : ByteArray := prog_66_method_7_code
def yJ10_replacementTreeNode : MethodName := ⟨RJ10, "replacementTreeNode", "(Ljava/util/HashMap$Node;Ljava/util/HashMap$Node;)Ljava/util/HashMap$TreeNode;"⟩
def dkwJ10_replacementTreeNode_1 : List UInt8 := [183, 0, 52, 58, 4, 42, 45, 25, 4, 182, 0, 46, 25, 4, 176]
abbrev dktJ10_replacementTreeNode_1 : List UInt8 := dkwJ10_replacementTreeNode_1 ++ []
def dkwJ10_replacementTreeNode_0 : List UInt8 := [43, 192, 0, 15, 78, 187, 0, 50, 89, 45, 180, 0, 36, 45, 180, 0, 39, 45, 180, 0, 43, 44]
abbrev dktJ10_replacementTreeNode_0 : List UInt8 := dkwJ10_replacementTreeNode_0 ++ dktJ10_replacementTreeNode_1
theorem dksJ10_replacementTreeNode_0 : cJ10_replacementTreeNode.data.toList.drop 0 = dktJ10_replacementTreeNode_0 := by decide +kernel
theorem dksJ10_replacementTreeNode_1 : cJ10_replacementTreeNode.data.toList.drop 22 = dktJ10_replacementTreeNode_1 := dk_seg dksJ10_replacementTreeNode_0 22 rfl rfl
theorem dJ10_replacementTreeNode_0 : decode cJ10_replacementTreeNode 0 = .ok (.aload_n 1, 1) := dk_43 (dk_at dksJ10_replacementTreeNode_0 0 rfl rfl)
theorem dJ10_replacementTreeNode_1 : decode cJ10_replacementTreeNode 1 = .ok (.checkcast 15, 3) := dk_192 0 15 (dk_at dksJ10_replacementTreeNode_0 1 rfl rfl)
theorem dJ10_replacementTreeNode_4 : decode cJ10_replacementTreeNode 4 = .ok (.astore_n 3, 1) := dk_78 (dk_at dksJ10_replacementTreeNode_0 4 rfl rfl)
theorem dJ10_replacementTreeNode_5 : decode cJ10_replacementTreeNode 5 = .ok (.new 50, 3) := dk_187 0 50 (dk_at dksJ10_replacementTreeNode_0 5 rfl rfl)
theorem dJ10_replacementTreeNode_8 : decode cJ10_replacementTreeNode 8 = .ok (.dup, 1) := dk_89 (dk_at dksJ10_replacementTreeNode_0 8 rfl rfl)
theorem dJ10_replacementTreeNode_9 : decode cJ10_replacementTreeNode 9 = .ok (.aload_n 3, 1) := dk_45 (dk_at dksJ10_replacementTreeNode_0 9 rfl rfl)
theorem dJ10_replacementTreeNode_10 : decode cJ10_replacementTreeNode 10 = .ok (.getfield 36, 3) := dk_180 0 36 (dk_at dksJ10_replacementTreeNode_0 10 rfl rfl)
theorem dJ10_replacementTreeNode_13 : decode cJ10_replacementTreeNode 13 = .ok (.aload_n 3, 1) := dk_45 (dk_at dksJ10_replacementTreeNode_0 13 rfl rfl)
theorem dJ10_replacementTreeNode_14 : decode cJ10_replacementTreeNode 14 = .ok (.getfield 39, 3) := dk_180 0 39 (dk_at dksJ10_replacementTreeNode_0 14 rfl rfl)
theorem dJ10_replacementTreeNode_17 : decode cJ10_replacementTreeNode 17 = .ok (.aload_n 3, 1) := dk_45 (dk_at dksJ10_replacementTreeNode_0 17 rfl rfl)
theorem dJ10_replacementTreeNode_18 : decode cJ10_replacementTreeNode 18 = .ok (.getfield 43, 3) := dk_180 0 43 (dk_at dksJ10_replacementTreeNode_0 18 rfl rfl)
theorem dJ10_replacementTreeNode_21 : decode cJ10_replacementTreeNode 21 = .ok (.aload_n 2, 1) := dk_44 (dk_at dksJ10_replacementTreeNode_0 21 rfl rfl)
theorem dJ10_replacementTreeNode_22 : decode cJ10_replacementTreeNode 22 = .ok (.invokespecial 52, 3) := dk_183 0 52 (dk_at dksJ10_replacementTreeNode_1 0 rfl rfl)
theorem dJ10_replacementTreeNode_25 : decode cJ10_replacementTreeNode 25 = .ok (.astore 4, 2) := dk_58 4 (dk_at dksJ10_replacementTreeNode_1 3 rfl rfl)
theorem dJ10_replacementTreeNode_27 : decode cJ10_replacementTreeNode 27 = .ok (.aload_n 0, 1) := dk_42 (dk_at dksJ10_replacementTreeNode_1 5 rfl rfl)
theorem dJ10_replacementTreeNode_28 : decode cJ10_replacementTreeNode 28 = .ok (.aload_n 3, 1) := dk_45 (dk_at dksJ10_replacementTreeNode_1 6 rfl rfl)
theorem dJ10_replacementTreeNode_29 : decode cJ10_replacementTreeNode 29 = .ok (.aload 4, 2) := dk_25 4 (dk_at dksJ10_replacementTreeNode_1 7 rfl rfl)
theorem dJ10_replacementTreeNode_31 : decode cJ10_replacementTreeNode 31 = .ok (.invokevirtual 46, 3) := dk_182 0 46 (dk_at dksJ10_replacementTreeNode_1 9 rfl rfl)
theorem dJ10_replacementTreeNode_34 : decode cJ10_replacementTreeNode 34 = .ok (.aload 4, 2) := dk_25 4 (dk_at dksJ10_replacementTreeNode_1 12 rfl rfl)
theorem dJ10_replacementTreeNode_36 : decode cJ10_replacementTreeNode 36 = .ok (.areturn, 1) := dk_176 (dk_at dksJ10_replacementTreeNode_1 14 rfl rfl)
abbrev cJ10_afterNodeInsertion : ByteArray := prog_66_method_9_code
def yJ10_afterNodeInsertion : MethodName := ⟨RJ10, "afterNodeInsertion", "(Z)V"⟩
def dkwJ10_afterNodeInsertion_1 : List UInt8 := [180, 0, 39, 78, 42, 45, 184, 0, 57, 45, 1, 3, 4, 182, 0, 60, 87, 177]
abbrev dktJ10_afterNodeInsertion_1 : List UInt8 := dkwJ10_afterNodeInsertion_1 ++ []
def dkwJ10_afterNodeInsertion_0 : List UInt8 := [27, 153, 0, 38, 42, 180, 0, 7, 89, 77, 198, 0, 29, 42, 44, 182, 0, 53, 153, 0, 21, 44]
abbrev dktJ10_afterNodeInsertion_0 : List UInt8 := dkwJ10_afterNodeInsertion_0 ++ dktJ10_afterNodeInsertion_1
theorem dksJ10_afterNodeInsertion_0 : cJ10_afterNodeInsertion.data.toList.drop 0 = dktJ10_afterNodeInsertion_0 := by decide +kernel
theorem dksJ10_afterNodeInsertion_1 : cJ10_afterNodeInsertion.data.toList.drop 22 = dktJ10_afterNodeInsertion_1 := dk_seg dksJ10_afterNodeInsertion_0 22 rfl rfl
theorem dJ10_afterNodeInsertion_0 : decode cJ10_afterNodeInsertion 0 = .ok (.iload_n 1, 1) := dk_27 (dk_at dksJ10_afterNodeInsertion_0 0 rfl rfl)
theorem dJ10_afterNodeInsertion_1 : decode cJ10_afterNodeInsertion 1 = .ok (.ifCond .eq 38, 3) := dk_153 0 38 (dk_at dksJ10_afterNodeInsertion_0 1 rfl rfl)
theorem dJ10_afterNodeInsertion_4 : decode cJ10_afterNodeInsertion 4 = .ok (.aload_n 0, 1) := dk_42 (dk_at dksJ10_afterNodeInsertion_0 4 rfl rfl)
theorem dJ10_afterNodeInsertion_5 : decode cJ10_afterNodeInsertion 5 = .ok (.getfield 7, 3) := dk_180 0 7 (dk_at dksJ10_afterNodeInsertion_0 5 rfl rfl)
theorem dJ10_afterNodeInsertion_8 : decode cJ10_afterNodeInsertion 8 = .ok (.dup, 1) := dk_89 (dk_at dksJ10_afterNodeInsertion_0 8 rfl rfl)
theorem dJ10_afterNodeInsertion_9 : decode cJ10_afterNodeInsertion 9 = .ok (.astore_n 2, 1) := dk_77 (dk_at dksJ10_afterNodeInsertion_0 9 rfl rfl)
theorem dJ10_afterNodeInsertion_10 : decode cJ10_afterNodeInsertion 10 = .ok (.ifnull 29, 3) := dk_198 0 29 (dk_at dksJ10_afterNodeInsertion_0 10 rfl rfl)
theorem dJ10_afterNodeInsertion_13 : decode cJ10_afterNodeInsertion 13 = .ok (.aload_n 0, 1) := dk_42 (dk_at dksJ10_afterNodeInsertion_0 13 rfl rfl)
theorem dJ10_afterNodeInsertion_14 : decode cJ10_afterNodeInsertion 14 = .ok (.aload_n 2, 1) := dk_44 (dk_at dksJ10_afterNodeInsertion_0 14 rfl rfl)
theorem dJ10_afterNodeInsertion_15 : decode cJ10_afterNodeInsertion 15 = .ok (.invokevirtual 53, 3) := dk_182 0 53 (dk_at dksJ10_afterNodeInsertion_0 15 rfl rfl)
theorem dJ10_afterNodeInsertion_18 : decode cJ10_afterNodeInsertion 18 = .ok (.ifCond .eq 21, 3) := dk_153 0 21 (dk_at dksJ10_afterNodeInsertion_0 18 rfl rfl)
theorem dJ10_afterNodeInsertion_21 : decode cJ10_afterNodeInsertion 21 = .ok (.aload_n 2, 1) := dk_44 (dk_at dksJ10_afterNodeInsertion_0 21 rfl rfl)
theorem dJ10_afterNodeInsertion_22 : decode cJ10_afterNodeInsertion 22 = .ok (.getfield 39, 3) := dk_180 0 39 (dk_at dksJ10_afterNodeInsertion_1 0 rfl rfl)
theorem dJ10_afterNodeInsertion_25 : decode cJ10_afterNodeInsertion 25 = .ok (.astore_n 3, 1) := dk_78 (dk_at dksJ10_afterNodeInsertion_1 3 rfl rfl)
theorem dJ10_afterNodeInsertion_26 : decode cJ10_afterNodeInsertion 26 = .ok (.aload_n 0, 1) := dk_42 (dk_at dksJ10_afterNodeInsertion_1 4 rfl rfl)
theorem dJ10_afterNodeInsertion_27 : decode cJ10_afterNodeInsertion 27 = .ok (.aload_n 3, 1) := dk_45 (dk_at dksJ10_afterNodeInsertion_1 5 rfl rfl)
theorem dJ10_afterNodeInsertion_28 : decode cJ10_afterNodeInsertion 28 = .ok (.invokestatic 57, 3) := dk_184 0 57 (dk_at dksJ10_afterNodeInsertion_1 6 rfl rfl)
theorem dJ10_afterNodeInsertion_31 : decode cJ10_afterNodeInsertion 31 = .ok (.aload_n 3, 1) := dk_45 (dk_at dksJ10_afterNodeInsertion_1 9 rfl rfl)
theorem dJ10_afterNodeInsertion_32 : decode cJ10_afterNodeInsertion 32 = .ok (.aconst_null, 1) := dk_1 (dk_at dksJ10_afterNodeInsertion_1 10 rfl rfl)
theorem dJ10_afterNodeInsertion_33 : decode cJ10_afterNodeInsertion 33 = .ok (.iconst 0, 1) := dk_3 (dk_at dksJ10_afterNodeInsertion_1 11 rfl rfl)
theorem dJ10_afterNodeInsertion_34 : decode cJ10_afterNodeInsertion 34 = .ok (.iconst 1, 1) := dk_4 (dk_at dksJ10_afterNodeInsertion_1 12 rfl rfl)
theorem dJ10_afterNodeInsertion_35 : decode cJ10_afterNodeInsertion 35 = .ok (.invokevirtual 60, 3) := dk_182 0 60 (dk_at dksJ10_afterNodeInsertion_1 13 rfl rfl)
theorem dJ10_afterNodeInsertion_38 : decode cJ10_afterNodeInsertion 38 = .ok (.pop, 1) := dk_87 (dk_at dksJ10_afterNodeInsertion_1 16 rfl rfl)
theorem dJ10_afterNodeInsertion_39 : decode cJ10_afterNodeInsertion 39 = .ok (.return_, 1) := dk_177 (dk_at dksJ10_afterNodeInsertion_1 17 rfl rfl)
abbrev cJ10_removeEldestEntry : ByteArray := prog_66_method_23_code
def yJ10_removeEldestEntry : MethodName := ⟨RJ10, "removeEldestEntry", "(Ljava/util/Map$Entry;)Z"⟩
theorem dJ10_removeEldestEntry_0 : decode cJ10_removeEldestEntry 0 = .ok (.iconst 0, 1) := by decide +kernel
theorem dJ10_removeEldestEntry_1 : decode cJ10_removeEldestEntry 1 = .ok (.ireturn, 1) := by decide +kernel
theorem q120 : (Jvm.Cond.initialized "java/util/LinkedHashMap") ∈ lw_all := lw_g (lw_at lw_m1 14 rfl) rfl
theorem q231 : (Jvm.Cond.sameField "java/util/LinkedHashMap" "java/util/HashMap" "modCount" "I") ∈ lw_all := lw_g (lw_at lw_m1 125 rfl) rfl
theorem q232 : (Jvm.Cond.fieldLink "java/util/LinkedHashMap" (68 : Nat) "java/util/LinkedHashMap" "modCount" "I") ∈ lw_all := lw_g (lw_at lw_m1 126 rfl) rfl
theorem q238 : (Jvm.Cond.fieldLink "java/util/LinkedHashMap" (117 : Nat) "java/util/LinkedHashMap" "keySet" "Ljava/util/Set;") ∈ lw_all := lw_g (lw_at lw_m1 132 rfl) rfl
theorem q239 : (Jvm.Cond.sameField "java/util/LinkedHashMap" "java/util/AbstractMap" "keySet" "Ljava/util/Set;") ∈ lw_all := lw_g (lw_at lw_m1 133 rfl) rfl
theorem q328 : (Jvm.Cond.instantiable "java/util/LinkedHashMap" (12 : Nat)) ∈ lw_all := lw_g (lw_at lw_m1 222 rfl) rfl
theorem q330 : (Jvm.Cond.instanceMethod ({ cls := "java/util/LinkedHashMap", name := "<init>", desc := "()V" } : Jvm.MethodName)) ∈ lw_all := lw_g (lw_at lw_m1 224 rfl) rfl
theorem q331 : (Jvm.Cond.code ({ cls := "java/util/LinkedHashMap", name := "<init>", desc := "()V" } : Jvm.MethodName) prog_66_method_16_code (1 : Nat) (Option.none : Option Jvm.ClassFile.FieldType)) ∈ lw_all := lw_g (lw_at lw_m1 225 rfl) rfl
theorem q332 : (Jvm.Cond.methodLink "java/util/LinkedHashMap" (87 : Nat) ({ cls := "java/util/HashMap", name := "<init>", desc := "()V" } : Jvm.MethodName)) ∈ lw_all := lw_g (lw_at lw_m1 226 rfl) rfl
theorem q333 : (Jvm.Cond.fieldLink "java/util/LinkedHashMap" (7 : Nat) "java/util/LinkedHashMap" "head" "Ljava/util/LinkedHashMap$Entry;") ∈ lw_all := lw_g (lw_at lw_m1 227 rfl) rfl
theorem q336 : (Jvm.Cond.fieldLink "java/util/LinkedHashMap" (11 : Nat) "java/util/LinkedHashMap" "tail" "Ljava/util/LinkedHashMap$Entry;") ∈ lw_all := lw_g (lw_at lw_m1 230 rfl) rfl
theorem q337 : (Jvm.Cond.fieldLink "java/util/LinkedHashMap" (64 : Nat) "java/util/LinkedHashMap" "accessOrder" "Z") ∈ lw_all := lw_g (lw_at lw_m1 231 rfl) rfl
theorem q338 : (Jvm.Cond.fieldLink "java/util/LinkedHashMap" (1 : Nat) "java/util/LinkedHashMap" "putMode" "I") ∈ lw_all := lw_g (lw_at lw_m1 232 rfl) rfl
theorem q339 : (Jvm.Cond.lays "java/util/LinkedHashMap" "java/util/LinkedHashMap" "head" "Ljava/util/LinkedHashMap$Entry;") ∈ lw_all := lw_g (lw_at lw_m1 233 rfl) rfl
theorem q340 : (Jvm.Cond.soleField "java/util/LinkedHashMap" "head") ∈ lw_all := lw_g (lw_at lw_m1 234 rfl) rfl
theorem q341 : (Jvm.Cond.lays "java/util/LinkedHashMap" "java/util/LinkedHashMap" "tail" "Ljava/util/LinkedHashMap$Entry;") ∈ lw_all := lw_g (lw_at lw_m1 235 rfl) rfl
theorem q342 : (Jvm.Cond.soleField "java/util/LinkedHashMap" "tail") ∈ lw_all := lw_g (lw_at lw_m1 236 rfl) rfl
theorem q343 : (Jvm.Cond.laysFinal "java/util/LinkedHashMap" "java/util/LinkedHashMap" "accessOrder" "Z") ∈ lw_all := lw_g (lw_at lw_m1 237 rfl) rfl
theorem q344 : (Jvm.Cond.soleField "java/util/LinkedHashMap" "accessOrder") ∈ lw_all := lw_g (lw_at lw_m1 238 rfl) rfl
theorem q345 : (Jvm.Cond.lays "java/util/LinkedHashMap" "java/util/LinkedHashMap" "putMode" "I") ∈ lw_all := lw_g (lw_at lw_m1 239 rfl) rfl
theorem q346 : (Jvm.Cond.soleField "java/util/LinkedHashMap" "putMode") ∈ lw_all := lw_g (lw_at lw_m2 0 rfl) rfl
theorem q347 : (Jvm.Cond.lays "java/util/LinkedHashMap" "java/util/HashMap" "table" "[Ljava/util/HashMap$Node;") ∈ lw_all := lw_g (lw_at lw_m2 1 rfl) rfl
theorem q348 : (Jvm.Cond.lays "java/util/LinkedHashMap" "java/util/HashMap" "entrySet" "Ljava/util/Set;") ∈ lw_all := lw_g (lw_at lw_m2 2 rfl) rfl
theorem q349 : (Jvm.Cond.lays "java/util/LinkedHashMap" "java/util/HashMap" "size" "I") ∈ lw_all := lw_g (lw_at lw_m2 3 rfl) rfl
theorem q350 : (Jvm.Cond.lays "java/util/LinkedHashMap" "java/util/HashMap" "modCount" "I") ∈ lw_all := lw_g (lw_at lw_m2 4 rfl) rfl
theorem q351 : (Jvm.Cond.lays "java/util/LinkedHashMap" "java/util/HashMap" "threshold" "I") ∈ lw_all := lw_g (lw_at lw_m2 5 rfl) rfl
theorem q352 : (Jvm.Cond.laysFinal "java/util/LinkedHashMap" "java/util/HashMap" "loadFactor" "F") ∈ lw_all := lw_g (lw_at lw_m2 6 rfl) rfl
theorem q353 : (Jvm.Cond.lays "java/util/LinkedHashMap" "java/util/AbstractMap" "keySet" "Ljava/util/Set;") ∈ lw_all := lw_g (lw_at lw_m2 7 rfl) rfl
theorem q354 : (Jvm.Cond.lays "java/util/LinkedHashMap" "java/util/AbstractMap" "values" "Ljava/util/Collection;") ∈ lw_all := lw_g (lw_at lw_m2 8 rfl) rfl
theorem q355 : (Jvm.Cond.superclass "java/util/LinkedHashMap" "java/util/HashMap") ∈ lw_all := lw_g (lw_at lw_m2 9 rfl) rfl
theorem q407 : (Jvm.Cond.selects "java/util/LinkedHashMap" ({ cls := "java/util/HashMap", name := "clear", desc := "()V" } : Jvm.MethodName) ({ cls := "java/util/LinkedHashMap", name := "clear", desc := "()V" } : Jvm.MethodName)) ∈ lw_all := lw_g (lw_at lw_m2 61 rfl) rfl
theorem q408 : (Jvm.Cond.instanceMethod ({ cls := "java/util/LinkedHashMap", name := "clear", desc := "()V" } : Jvm.MethodName)) ∈ lw_all := lw_g (lw_at lw_m2 62 rfl) rfl
theorem q409 : (Jvm.Cond.code ({ cls := "java/util/LinkedHashMap", name := "clear", desc := "()V" } : Jvm.MethodName) prog_66_method_22_code (1 : Nat) (Option.none : Option Jvm.ClassFile.FieldType)) ∈ lw_all := lw_g (lw_at lw_m2 63 rfl) rfl
theorem q410 : (Jvm.Cond.methodLink "java/util/LinkedHashMap" (110 : Nat) ({ cls := "java/util/HashMap", name := "clear", desc := "()V" } : Jvm.MethodName)) ∈ lw_all := lw_g (lw_at lw_m2 64 rfl) rfl
theorem q634 : (Jvm.Cond.selects "java/util/LinkedHashMap" ({ cls := "java/lang/Object", name := "getClass", desc := "()Ljava/lang/Class;" } : Jvm.MethodName) ({ cls := "java/lang/Object", name := "getClass", desc := "()Ljava/lang/Class;" } : Jvm.MethodName)) ∈ lw_all := lw_g (lw_at lw_m3 48 rfl) rfl
theorem q776 : (Jvm.Cond.instanceMethod ({ cls := "java/util/LinkedHashMap", name := "keySet", desc := "()Ljava/util/Set;" } : Jvm.MethodName)) ∈ lw_all := lw_g (lw_at lw_m3 190 rfl) rfl
theorem q777 : (Jvm.Cond.selects "java/util/LinkedHashMap" ({ cls := "java/util/LinkedHashMap", name := "keySet", desc := "()Ljava/util/Set;" } : Jvm.MethodName) ({ cls := "java/util/LinkedHashMap", name := "keySet", desc := "()Ljava/util/Set;" } : Jvm.MethodName)) ∈ lw_all := lw_g (lw_at lw_m3 191 rfl) rfl
theorem q778 : (Jvm.Cond.code ({ cls := "java/util/LinkedHashMap", name := "keySet", desc := "()Ljava/util/Set;" } : Jvm.MethodName) prog_66_method_24_code (1 : Nat) (Option.some (Jvm.ClassFile.FieldType.object "java/util/Set"))) ∈ lw_all := lw_g (lw_at lw_m3 192 rfl) rfl
theorem q779 : (Jvm.Cond.methodLink "java/util/LinkedHashMap" (113 : Nat) ({ cls := "java/util/LinkedHashMap", name := "sequencedKeySet", desc := "()Ljava/util/SequencedSet;" } : Jvm.MethodName)) ∈ lw_all := lw_g (lw_at lw_m3 193 rfl) rfl
theorem q780 : (Jvm.Cond.instanceMethod ({ cls := "java/util/LinkedHashMap", name := "sequencedKeySet", desc := "()Ljava/util/SequencedSet;" } : Jvm.MethodName)) ∈ lw_all := lw_g (lw_at lw_m3 194 rfl) rfl
theorem q781 : (Jvm.Cond.selects "java/util/LinkedHashMap" ({ cls := "java/util/LinkedHashMap", name := "sequencedKeySet", desc := "()Ljava/util/SequencedSet;" } : Jvm.MethodName) ({ cls := "java/util/LinkedHashMap", name := "sequencedKeySet", desc := "()Ljava/util/SequencedSet;" } : Jvm.MethodName)) ∈ lw_all := lw_g (lw_at lw_m3 195 rfl) rfl
theorem q782 : (Jvm.Cond.code ({ cls := "java/util/LinkedHashMap", name := "sequencedKeySet", desc := "()Ljava/util/SequencedSet;" } : Jvm.MethodName) prog_66_method_25_code (3 : Nat) (Option.some (Jvm.ClassFile.FieldType.object "java/util/SequencedSet"))) ∈ lw_all := lw_g (lw_at lw_m3 196 rfl) rfl
theorem q783 : (Jvm.Cond.classLink "java/util/LinkedHashMap" (121 : Nat) "java/util/LinkedHashMap$LinkedKeySet") ∈ lw_all := lw_g (lw_at lw_m3 197 rfl) rfl
theorem q785 : (Jvm.Cond.methodLink "java/util/LinkedHashMap" (123 : Nat) ({ cls := "java/util/LinkedHashMap$LinkedKeySet", name := "<init>", desc := "(Ljava/util/LinkedHashMap;Z)V" } : Jvm.MethodName)) ∈ lw_all := lw_g (lw_at lw_m3 199 rfl) rfl
theorem q796 : (Jvm.Cond.classLink "java/util/LinkedHashMap" (126 : Nat) "java/util/SequencedSet") ∈ lw_all := lw_g (lw_at lw_m3 210 rfl) rfl
theorem q842 : (Jvm.Cond.selects "java/util/LinkedHashMap" ({ cls := "java/util/HashMap", name := "keySet", desc := "()Ljava/util/Set;" } : Jvm.MethodName) ({ cls := "java/util/LinkedHashMap", name := "keySet", desc := "()Ljava/util/Set;" } : Jvm.MethodName)) ∈ lw_all := lw_g (lw_at lw_m4 16 rfl) rfl
theorem q893 : (Jvm.Cond.instanceMethod ({ cls := "java/util/LinkedHashMap", name := "get", desc := "(Ljava/lang/Object;)Ljava/lang/Object;" } : Jvm.MethodName)) ∈ lw_all := lw_g (lw_at lw_m4 67 rfl) rfl
theorem q894 : (Jvm.Cond.selects "java/util/LinkedHashMap" ({ cls := "java/util/LinkedHashMap", name := "get", desc := "(Ljava/lang/Object;)Ljava/lang/Object;" } : Jvm.MethodName) ({ cls := "java/util/LinkedHashMap", name := "get", desc := "(Ljava/lang/Object;)Ljava/lang/Object;" } : Jvm.MethodName)) ∈ lw_all := lw_g (lw_at lw_m4 68 rfl) rfl
theorem q895 : (Jvm.Cond.code ({ cls := "java/util/LinkedHashMap", name := "get", desc := "(Ljava/lang/Object;)Ljava/lang/Object;" } : Jvm.MethodName) prog_66_method_20_code (3 : Nat) (Option.some (Jvm.ClassFile.FieldType.object "java/lang/Object"))) ∈ lw_all := lw_g (lw_at lw_m4 69 rfl) rfl
theorem q896 : (Jvm.Cond.methodLink "java/util/LinkedHashMap" (99 : Nat) ({ cls := "java/util/LinkedHashMap", name := "getNode", desc := "(Ljava/lang/Object;)Ljava/util/HashMap$Node;" } : Jvm.MethodName)) ∈ lw_all := lw_g (lw_at lw_m4 70 rfl) rfl
theorem q897 : (Jvm.Cond.sameMethod "java/util/LinkedHashMap" "java/util/HashMap" "getNode" "(Ljava/lang/Object;)Ljava/util/HashMap$Node;") ∈ lw_all := lw_g (lw_at lw_m4 71 rfl) rfl
theorem q899 : (Jvm.Cond.selects "java/util/LinkedHashMap" ({ cls := "java/util/LinkedHashMap", name := "getNode", desc := "(Ljava/lang/Object;)Ljava/util/HashMap$Node;" } : Jvm.MethodName) ({ cls := "java/util/HashMap", name := "getNode", desc := "(Ljava/lang/Object;)Ljava/util/HashMap$Node;" } : Jvm.MethodName)) ∈ lw_all := lw_g (lw_at lw_m4 73 rfl) rfl
theorem q1298 : (Jvm.Cond.methodLink "java/util/LinkedHashMap" (103 : Nat) ({ cls := "java/util/LinkedHashMap", name := "afterNodeAccess", desc := "(Ljava/util/HashMap$Node;)V" } : Jvm.MethodName)) ∈ lw_all := lw_g (lw_at lw_m5 232 rfl) rfl
theorem q1299 : (Jvm.Cond.instanceMethod ({ cls := "java/util/LinkedHashMap", name := "afterNodeAccess", desc := "(Ljava/util/HashMap$Node;)V" } : Jvm.MethodName)) ∈ lw_all := lw_g (lw_at lw_m5 233 rfl) rfl
theorem q1300 : (Jvm.Cond.selects "java/util/LinkedHashMap" ({ cls := "java/util/LinkedHashMap", name := "afterNodeAccess", desc := "(Ljava/util/HashMap$Node;)V" } : Jvm.MethodName) ({ cls := "java/util/LinkedHashMap", name := "afterNodeAccess", desc := "(Ljava/util/HashMap$Node;)V" } : Jvm.MethodName)) ∈ lw_all := lw_g (lw_at lw_m5 234 rfl) rfl
theorem q1301 : (Jvm.Cond.code ({ cls := "java/util/LinkedHashMap", name := "afterNodeAccess", desc := "(Ljava/util/HashMap$Node;)V" } : Jvm.MethodName) prog_66_method_10_code (7 : Nat) (Option.none : Option Jvm.ClassFile.FieldType)) ∈ lw_all := lw_g (lw_at lw_m5 235 rfl) rfl
theorem q1302 : (Jvm.Cond.classLink "java/util/LinkedHashMap" (15 : Nat) "java/util/LinkedHashMap$Entry") ∈ lw_all := lw_g (lw_at lw_m5 236 rfl) rfl
theorem q1393 : (Jvm.Cond.selects "java/util/LinkedHashMap" ({ cls := "java/util/HashMap", name := "containsKey", desc := "(Ljava/lang/Object;)Z" } : Jvm.MethodName) ({ cls := "java/util/HashMap", name := "containsKey", desc := "(Ljava/lang/Object;)Z" } : Jvm.MethodName)) ∈ lw_all := lw_g (lw_at lw_m6 87 rfl) rfl
theorem q1400 : (Jvm.Cond.selects "java/util/LinkedHashMap" ({ cls := "java/util/HashMap", name := "get", desc := "(Ljava/lang/Object;)Ljava/lang/Object;" } : Jvm.MethodName) ({ cls := "java/util/LinkedHashMap", name := "get", desc := "(Ljava/lang/Object;)Ljava/lang/Object;" } : Jvm.MethodName)) ∈ lw_all := lw_g (lw_at lw_m6 94 rfl) rfl
theorem q1859 : (Jvm.Cond.selects "java/util/LinkedHashMap" ({ cls := "java/util/HashMap", name := "put", desc := "(Ljava/lang/Object;Ljava/lang/Object;)Ljava/lang/Object;" } : Jvm.MethodName) ({ cls := "java/util/HashMap", name := "put", desc := "(Ljava/lang/Object;Ljava/lang/Object;)Ljava/lang/Object;" } : Jvm.MethodName)) ∈ lw_all := lw_g (lw_at lw_m8 73 rfl) rfl
theorem q1865 : (Jvm.Cond.selects "java/util/LinkedHashMap" ({ cls := "java/util/HashMap", name := "putVal", desc := "(ILjava/lang/Object;Ljava/lang/Object;ZZ)Ljava/lang/Object;" } : Jvm.MethodName) ({ cls := "java/util/HashMap", name := "putVal", desc := "(ILjava/lang/Object;Ljava/lang/Object;ZZ)Ljava/lang/Object;" } : Jvm.MethodName)) ∈ lw_all := lw_g (lw_at lw_m8 79 rfl) rfl
theorem q1871 : (Jvm.Cond.selects "java/util/LinkedHashMap" ({ cls := "java/util/HashMap", name := "resize", desc := "()[Ljava/util/HashMap$Node;" } : Jvm.MethodName) ({ cls := "java/util/HashMap", name := "resize", desc := "()[Ljava/util/HashMap$Node;" } : Jvm.MethodName)) ∈ lw_all := lw_g (lw_at lw_m8 85 rfl) rfl
theorem q1890 : (Jvm.Cond.selects "java/util/LinkedHashMap" ({ cls := "java/util/HashMap", name := "replacementNode", desc := "(Ljava/util/HashMap$Node;Ljava/util/HashMap$Node;)Ljava/util/HashMap$Node;" } : Jvm.MethodName) ({ cls := "java/util/LinkedHashMap", name := "replacementNode", desc := "(Ljava/util/HashMap$Node;Ljava/util/HashMap$Node;)Ljava/util/HashMap$Node;" } : Jvm.MethodName)) ∈ lw_all := lw_g (lw_at lw_m8 104 rfl) rfl
theorem q1891 : (Jvm.Cond.instanceMethod ({ cls := "java/util/LinkedHashMap", name := "replacementNode", desc := "(Ljava/util/HashMap$Node;Ljava/util/HashMap$Node;)Ljava/util/HashMap$Node;" } : Jvm.MethodName)) ∈ lw_all := lw_g (lw_at lw_m8 105 rfl) rfl
theorem q1892 : (Jvm.Cond.code ({ cls := "java/util/LinkedHashMap", name := "replacementNode", desc := "(Ljava/util/HashMap$Node;Ljava/util/HashMap$Node;)Ljava/util/HashMap$Node;" } : Jvm.MethodName) prog_66_method_5_code (5 : Nat) (Option.some (Jvm.ClassFile.FieldType.object "java/util/HashMap$Node"))) ∈ lw_all := lw_g (lw_at lw_m8 106 rfl) rfl
theorem q1894 : (Jvm.Cond.methodLink "java/util/LinkedHashMap" (28 : Nat) ({ cls := "java/util/LinkedHashMap$Entry", name := "<init>", desc := "(ILjava/lang/Object;Ljava/lang/Object;Ljava/util/HashMap$Node;)V" } : Jvm.MethodName)) ∈ lw_all := lw_g (lw_at lw_m8 108 rfl) rfl
theorem q1901 : (Jvm.Cond.fieldLink "java/util/LinkedHashMap" (19 : Nat) "java/util/LinkedHashMap$Entry" "before" "Ljava/util/LinkedHashMap$Entry;") ∈ lw_all := lw_g (lw_at lw_m8 115 rfl) rfl
theorem q1903 : (Jvm.Cond.fieldLink "java/util/LinkedHashMap" (14 : Nat) "java/util/LinkedHashMap$Entry" "after" "Ljava/util/LinkedHashMap$Entry;") ∈ lw_all := lw_g (lw_at lw_m8 117 rfl) rfl
theorem q1908 : (Jvm.Cond.fieldLink "java/util/LinkedHashMap" (36 : Nat) "java/util/LinkedHashMap$Entry" "hash" "I") ∈ lw_all := lw_g (lw_at lw_m8 122 rfl) rfl
theorem q1915 : (Jvm.Cond.fieldLink "java/util/LinkedHashMap" (39 : Nat) "java/util/LinkedHashMap$Entry" "key" "Ljava/lang/Object;") ∈ lw_all := lw_g (lw_at lw_m8 129 rfl) rfl
theorem q1919 : (Jvm.Cond.fieldLink "java/util/LinkedHashMap" (43 : Nat) "java/util/LinkedHashMap$Entry" "value" "Ljava/lang/Object;") ∈ lw_all := lw_g (lw_at lw_m8 133 rfl) rfl
theorem q1922 : (Jvm.Cond.fieldLink "java/util/LinkedHashMap" (107 : Nat) "java/util/HashMap$Node" "value" "Ljava/lang/Object;") ∈ lw_all := lw_g (lw_at lw_m8 136 rfl) rfl
theorem q1943 : (Jvm.Cond.methodLink "java/util/LinkedHashMap" (46 : Nat) ({ cls := "java/util/LinkedHashMap", name := "transferLinks", desc := "(Ljava/util/LinkedHashMap$Entry;Ljava/util/LinkedHashMap$Entry;)V" } : Jvm.MethodName)) ∈ lw_all := lw_g (lw_at lw_m8 157 rfl) rfl
theorem q1944 : (Jvm.Cond.privateMethod ({ cls := "java/util/LinkedHashMap", name := "transferLinks", desc := "(Ljava/util/LinkedHashMap$Entry;Ljava/util/LinkedHashMap$Entry;)V" } : Jvm.MethodName)) ∈ lw_tbl := lw_at lw_m8 158 rfl
theorem q1945 : (Jvm.Cond.instanceMethod ({ cls := "java/util/LinkedHashMap", name := "transferLinks", desc := "(Ljava/util/LinkedHashMap$Entry;Ljava/util/LinkedHashMap$Entry;)V" } : Jvm.MethodName)) ∈ lw_all := lw_g (lw_at lw_m8 159 rfl) rfl
theorem q1946 : (Jvm.Cond.code ({ cls := "java/util/LinkedHashMap", name := "transferLinks", desc := "(Ljava/util/LinkedHashMap$Entry;Ljava/util/LinkedHashMap$Entry;)V" } : Jvm.MethodName) prog_66_method_2_code (5 : Nat) (Option.none : Option Jvm.ClassFile.FieldType)) ∈ lw_all := lw_g (lw_at lw_m8 160 rfl) rfl
theorem q1977 : (Jvm.Cond.selects "java/util/LinkedHashMap" ({ cls := "java/util/HashMap", name := "newNode", desc := "(ILjava/lang/Object;Ljava/lang/Object;Ljava/util/HashMap$Node;)Ljava/util/HashMap$Node;" } : Jvm.MethodName) ({ cls := "java/util/LinkedHashMap", name := "newNode", desc := "(ILjava/lang/Object;Ljava/lang/Object;Ljava/util/HashMap$Node;)Ljava/util/HashMap$Node;" } : Jvm.MethodName)) ∈ lw_all := lw_g (lw_at lw_m8 191 rfl) rfl
theorem q1978 : (Jvm.Cond.instanceMethod ({ cls := "java/util/LinkedHashMap", name := "newNode", desc := "(ILjava/lang/Object;Ljava/lang/Object;Ljava/util/HashMap$Node;)Ljava/util/HashMap$Node;" } : Jvm.MethodName)) ∈ lw_all := lw_g (lw_at lw_m8 192 rfl) rfl
theorem q1979 : (Jvm.Cond.code ({ cls := "java/util/LinkedHashMap", name := "newNode", desc := "(ILjava/lang/Object;Ljava/lang/Object;Ljava/util/HashMap$Node;)Ljava/util/HashMap$Node;" } : Jvm.MethodName) prog_66_method_4_code (6 : Nat) (Option.some (Jvm.ClassFile.FieldType.object "java/util/HashMap$Node"))) ∈ lw_all := lw_g (lw_at lw_m8 193 rfl) rfl
theorem q1980 : (Jvm.Cond.methodLink "java/util/LinkedHashMap" (32 : Nat) ({ cls := "java/util/LinkedHashMap", name := "linkNodeAtEnd", desc := "(Ljava/util/LinkedHashMap$Entry;)V" } : Jvm.MethodName)) ∈ lw_all := lw_g (lw_at lw_m8 194 rfl) rfl
theorem q1981 : (Jvm.Cond.privateMethod ({ cls := "java/util/LinkedHashMap", name := "linkNodeAtEnd", desc := "(Ljava/util/LinkedHashMap$Entry;)V" } : Jvm.MethodName)) ∈ lw_tbl := lw_at lw_m8 195 rfl
theorem q1982 : (Jvm.Cond.instanceMethod ({ cls := "java/util/LinkedHashMap", name := "linkNodeAtEnd", desc := "(Ljava/util/LinkedHashMap$Entry;)V" } : Jvm.MethodName)) ∈ lw_all := lw_g (lw_at lw_m8 196 rfl) rfl
theorem q1983 : (Jvm.Cond.code ({ cls := "java/util/LinkedHashMap", name := "linkNodeAtEnd", desc := "(Ljava/util/LinkedHashMap$Entry;)V" } : Jvm.MethodName) prog_66_method_1_code (3 : Nat) (Option.none : Option Jvm.ClassFile.FieldType)) ∈ lw_all := lw_g (lw_at lw_m8 197 rfl) rfl
theorem q1993 : (Jvm.Cond.selects "java/util/LinkedHashMap" ({ cls := "java/util/HashMap", name := "newTreeNode", desc := "(ILjava/lang/Object;Ljava/lang/Object;Ljava/util/HashMap$Node;)Ljava/util/HashMap$TreeNode;" } : Jvm.MethodName) ({ cls := "java/util/LinkedHashMap", name := "newTreeNode", desc := "(ILjava/lang/Object;Ljava/lang/Object;Ljava/util/HashMap$Node;)Ljava/util/HashMap$TreeNode;" } : Jvm.MethodName)) ∈ lw_all := lw_g (lw_at lw_m8 207 rfl) rfl
theorem q1994 : (Jvm.Cond.instanceMethod ({ cls := "java/util/LinkedHashMap", name := "newTreeNode", desc := "(ILjava/lang/Object;Ljava/lang/Object;Ljava/util/HashMap$Node;)Ljava/util/HashMap$TreeNode;" } : Jvm.MethodName)) ∈ lw_all := lw_g (lw_at lw_m8 208 rfl) rfl
theorem q1995 : (Jvm.Cond.code ({ cls := "java/util/LinkedHashMap", name := "newTreeNode", desc := "(ILjava/lang/Object;Ljava/lang/Object;Ljava/util/HashMap$Node;)Ljava/util/HashMap$TreeNode;" } : Jvm.MethodName) prog_66_method_6_code (6 : Nat) (Option.some (Jvm.ClassFile.FieldType.object "java/util/HashMap$TreeNode"))) ∈ lw_all := lw_g (lw_at lw_m8 209 rfl) rfl
theorem q1996 : (Jvm.Cond.classLink "java/util/LinkedHashMap" (50 : Nat) "java/util/HashMap$TreeNode") ∈ lw_all := lw_g (lw_at lw_m8 210 rfl) rfl
theorem q1998 : (Jvm.Cond.methodLink "java/util/LinkedHashMap" (52 : Nat) ({ cls := "java/util/HashMap$TreeNode", name := "<init>", desc := "(ILjava/lang/Object;Ljava/lang/Object;Ljava/util/HashMap$Node;)V" } : Jvm.MethodName)) ∈ lw_all := lw_g (lw_at lw_m8 212 rfl) rfl
theorem q2031 : (Jvm.Cond.selects "java/util/LinkedHashMap" ({ cls := "java/util/HashMap", name := "treeifyBin", desc := "([Ljava/util/HashMap$Node;I)V" } : Jvm.MethodName) ({ cls := "java/util/HashMap", name := "treeifyBin", desc := "([Ljava/util/HashMap$Node;I)V" } : Jvm.MethodName)) ∈ lw_all := lw_g (lw_at lw_m9 5 rfl) rfl
theorem q2037 : (Jvm.Cond.selects "java/util/LinkedHashMap" ({ cls := "java/util/HashMap", name := "replacementTreeNode", desc := "(Ljava/util/HashMap$Node;Ljava/util/HashMap$Node;)Ljava/util/HashMap$TreeNode;" } : Jvm.MethodName) ({ cls := "java/util/LinkedHashMap", name := "replacementTreeNode", desc := "(Ljava/util/HashMap$Node;Ljava/util/HashMap$Node;)Ljava/util/HashMap$TreeNode;" } : Jvm.MethodName)) ∈ lw_all := lw_g (lw_at lw_m9 11 rfl) rfl
theorem q2038 : (Jvm.Cond.instanceMethod ({ cls := "java/util/LinkedHashMap", name := "replacementTreeNode", desc := "(Ljava/util/HashMap$Node;Ljava/util/HashMap$Node;)Ljava/util/HashMap$TreeNode;" } : Jvm.MethodName)) ∈ lw_all := lw_g (lw_at lw_m9 12 rfl) rfl
theorem q2039 : (Jvm.Cond.code ({ cls := "java/util/LinkedHashMap", name := "replacementTreeNode", desc := "(Ljava/util/HashMap$Node;Ljava/util/HashMap$Node;)Ljava/util/HashMap$TreeNode;" } : Jvm.MethodName) prog_66_method_7_code (5 : Nat) (Option.some (Jvm.ClassFile.FieldType.object "java/util/HashMap$TreeNode"))) ∈ lw_all := lw_g (lw_at lw_m9 13 rfl) rfl
theorem q2046 : (Jvm.Cond.selects "java/util/LinkedHashMap" ({ cls := "java/util/HashMap", name := "afterNodeAccess", desc := "(Ljava/util/HashMap$Node;)V" } : Jvm.MethodName) ({ cls := "java/util/LinkedHashMap", name := "afterNodeAccess", desc := "(Ljava/util/HashMap$Node;)V" } : Jvm.MethodName)) ∈ lw_all := lw_g (lw_at lw_m9 20 rfl) rfl
theorem q2052 : (Jvm.Cond.selects "java/util/LinkedHashMap" ({ cls := "java/util/HashMap", name := "afterNodeInsertion", desc := "(Z)V" } : Jvm.MethodName) ({ cls := "java/util/LinkedHashMap", name := "afterNodeInsertion", desc := "(Z)V" } : Jvm.MethodName)) ∈ lw_all := lw_g (lw_at lw_m9 26 rfl) rfl
theorem q2053 : (Jvm.Cond.instanceMethod ({ cls := "java/util/LinkedHashMap", name := "afterNodeInsertion", desc := "(Z)V" } : Jvm.MethodName)) ∈ lw_all := lw_g (lw_at lw_m9 27 rfl) rfl
theorem q2054 : (Jvm.Cond.code ({ cls := "java/util/LinkedHashMap", name := "afterNodeInsertion", desc := "(Z)V" } : Jvm.MethodName) prog_66_method_9_code (4 : Nat) (Option.none : Option Jvm.ClassFile.FieldType)) ∈ lw_all := lw_g (lw_at lw_m9 28 rfl) rfl
theorem q2055 : (Jvm.Cond.methodLink "java/util/LinkedHashMap" (53 : Nat) ({ cls := "java/util/LinkedHashMap", name := "removeEldestEntry", desc := "(Ljava/util/Map$Entry;)Z" } : Jvm.MethodName)) ∈ lw_all := lw_g (lw_at lw_m9 29 rfl) rfl
theorem q2056 : (Jvm.Cond.instanceMethod ({ cls := "java/util/LinkedHashMap", name := "removeEldestEntry", desc := "(Ljava/util/Map$Entry;)Z" } : Jvm.MethodName)) ∈ lw_all := lw_g (lw_at lw_m9 30 rfl) rfl
theorem q2057 : (Jvm.Cond.selects "java/util/LinkedHashMap" ({ cls := "java/util/LinkedHashMap", name := "removeEldestEntry", desc := "(Ljava/util/Map$Entry;)Z" } : Jvm.MethodName) ({ cls := "java/util/LinkedHashMap", name := "removeEldestEntry", desc := "(Ljava/util/Map$Entry;)Z" } : Jvm.MethodName)) ∈ lw_all := lw_g (lw_at lw_m9 31 rfl) rfl
theorem q2058 : (Jvm.Cond.code ({ cls := "java/util/LinkedHashMap", name := "removeEldestEntry", desc := "(Ljava/util/Map$Entry;)Z" } : Jvm.MethodName) prog_66_method_23_code (2 : Nat) (Option.some Jvm.ClassFile.FieldType.boolean)) ∈ lw_all := lw_g (lw_at lw_m9 32 rfl) rfl
theorem q2245 : (Jvm.Cond.sameMethod "java/util/LinkedHashMap" "java/util/HashMap" "containsKey" "(Ljava/lang/Object;)Z") ∈ lw_all := lw_g (lw_at lw_m9 219 rfl) rfl
theorem q2247 : (Jvm.Cond.selects "java/util/LinkedHashMap" ({ cls := "java/util/LinkedHashMap", name := "containsKey", desc := "(Ljava/lang/Object;)Z" } : Jvm.MethodName) ({ cls := "java/util/HashMap", name := "containsKey", desc := "(Ljava/lang/Object;)Z" } : Jvm.MethodName)) ∈ lw_all := lw_g (lw_at lw_m9 221 rfl) rfl
theorem q2250 : (Jvm.Cond.sameMethod "java/util/LinkedHashMap" "java/util/HashMap" "put" "(Ljava/lang/Object;Ljava/lang/Object;)Ljava/lang/Object;") ∈ lw_all := lw_g (lw_at lw_m9 224 rfl) rfl
theorem q2252 : (Jvm.Cond.selects "java/util/LinkedHashMap" ({ cls := "java/util/LinkedHashMap", name := "put", desc := "(Ljava/lang/Object;Ljava/lang/Object;)Ljava/lang/Object;" } : Jvm.MethodName) ({ cls := "java/util/HashMap", name := "put", desc := "(Ljava/lang/Object;Ljava/lang/Object;)Ljava/lang/Object;" } : Jvm.MethodName)) ∈ lw_all := lw_g (lw_at lw_m9 226 rfl) rfl
theorem q2391 : (Jvm.Cond.sameMethod "java/util/LinkedHashMap" "java/util/HashMap" "size" "()I") ∈ lw_all := lw_g (lw_at lw_m10 125 rfl) rfl
theorem q2393 : (Jvm.Cond.selects "java/util/LinkedHashMap" ({ cls := "java/util/LinkedHashMap", name := "size", desc := "()I" } : Jvm.MethodName) ({ cls := "java/util/HashMap", name := "size", desc := "()I" } : Jvm.MethodName)) ∈ lw_all := lw_g (lw_at lw_m10 127 rfl) rfl
theorem q3540 : (Jvm.Cond.selects "java/util/LinkedHashMap" ({ cls := "java/util/LinkedHashMap", name := "clear", desc := "()V" } : Jvm.MethodName) ({ cls := "java/util/LinkedHashMap", name := "clear", desc := "()V" } : Jvm.MethodName)) ∈ lw_all := lw_g (lw_at lw_m15 74 rfl) rfl
theorem q3547 : (Jvm.Cond.selects "java/util/LinkedHashMap" ({ cls := "java/util/HashMap", name := "getNode", desc := "(Ljava/lang/Object;)Ljava/util/HashMap$Node;" } : Jvm.MethodName) ({ cls := "java/util/HashMap", name := "getNode", desc := "(Ljava/lang/Object;)Ljava/util/HashMap$Node;" } : Jvm.MethodName)) ∈ lw_all := lw_g (lw_at lw_m15 81 rfl) rfl
theorem q3589 : (Jvm.Cond.castable "java/util/LinkedHashMap" "java/lang/Object") ∈ lw_tbl := lw_at lw_m15 123 rfl
theorem in_J10 : ∀ w ∈ wsJ100, w ∈ lw_all := lw_in wsJ100 [353, 354, 347, 348, 349, 350, 351, 352, 339, 341, 343, 345] (by decide +kernel) (by decide +kernel)
/-! java/util/ArrayList$Itr -/
set_option maxRecDepth 100000
def RJ11 : String := "java/util/ArrayList$Itr"
def TJ11 : u_T := fun k => match k with
  | 0 => ("java/util/ArrayList$Itr", "cursor", "I", false)
  | 1 => ("java/util/ArrayList$Itr", "lastRet", "I", false)
  | 2 => ("java/util/ArrayList$Itr", "expectedModCount", "I", false)
  | _ => ("java/util/ArrayList$Itr", "this$0", "Ljava/util/ArrayList;", true)
def tyJ11 : Nat → FieldType := fun k => match k with
  | 0 => .int
  | 1 => .int
  | 2 => .int
  | _ => .object "java/util/ArrayList"
abbrev wsJ110 : List Cond := u_ws RJ11 TJ11 4
theorem nmJ11 : ∀ a, a < 4 → ∀ b, b < 4 → a ≠ b → (TJ11 a).2.1 ≠ (TJ11 b).2.1 := by decide +kernel
theorem tyJ11_ok : ∀ k, k < 4 → parseFieldDescriptor (TJ11 k).2.2.1 = some (tyJ11 k) := by decide +kernel
abbrev cJ11_init : ByteArray := prog_55_method_1_code
def yJ11_init : MethodName := ⟨RJ11, "<init>", "(Ljava/util/ArrayList;)V"⟩
def dkwJ11_init_1 : List UInt8 := [181, 0, 22, 177]
abbrev dktJ11_init_1 : List UInt8 := dkwJ11_init_1 ++ []
def dkwJ11_init_0 : List UInt8 := [42, 43, 181, 0, 1, 42, 183, 0, 7, 42, 2, 181, 0, 13, 42, 42, 180, 0, 1, 180, 0, 17]
abbrev dktJ11_init_0 : List UInt8 := dkwJ11_init_0 ++ dktJ11_init_1
theorem dksJ11_init_0 : cJ11_init.data.toList.drop 0 = dktJ11_init_0 := by decide +kernel
theorem dksJ11_init_1 : cJ11_init.data.toList.drop 22 = dktJ11_init_1 := dk_seg dksJ11_init_0 22 rfl rfl
theorem dJ11_init_0 : decode cJ11_init 0 = .ok (.aload_n 0, 1) := dk_42 (dk_at dksJ11_init_0 0 rfl rfl)
theorem dJ11_init_1 : decode cJ11_init 1 = .ok (.aload_n 1, 1) := dk_43 (dk_at dksJ11_init_0 1 rfl rfl)
theorem dJ11_init_2 : decode cJ11_init 2 = .ok (.putfield 1, 3) := dk_181 0 1 (dk_at dksJ11_init_0 2 rfl rfl)
theorem dJ11_init_5 : decode cJ11_init 5 = .ok (.aload_n 0, 1) := dk_42 (dk_at dksJ11_init_0 5 rfl rfl)
theorem dJ11_init_6 : decode cJ11_init 6 = .ok (.invokespecial 7, 3) := dk_183 0 7 (dk_at dksJ11_init_0 6 rfl rfl)
theorem dJ11_init_9 : decode cJ11_init 9 = .ok (.aload_n 0, 1) := dk_42 (dk_at dksJ11_init_0 9 rfl rfl)
theorem dJ11_init_10 : decode cJ11_init 10 = .ok (.iconst (-1), 1) := dk_2 (dk_at dksJ11_init_0 10 rfl rfl)
theorem dJ11_init_11 : decode cJ11_init 11 = .ok (.putfield 13, 3) := dk_181 0 13 (dk_at dksJ11_init_0 11 rfl rfl)
theorem dJ11_init_14 : decode cJ11_init 14 = .ok (.aload_n 0, 1) := dk_42 (dk_at dksJ11_init_0 14 rfl rfl)
theorem dJ11_init_15 : decode cJ11_init 15 = .ok (.aload_n 0, 1) := dk_42 (dk_at dksJ11_init_0 15 rfl rfl)
theorem dJ11_init_16 : decode cJ11_init 16 = .ok (.getfield 1, 3) := dk_180 0 1 (dk_at dksJ11_init_0 16 rfl rfl)
theorem dJ11_init_19 : decode cJ11_init 19 = .ok (.getfield 17, 3) := dk_180 0 17 (dk_at dksJ11_init_0 19 rfl rfl)
theorem dJ11_init_22 : decode cJ11_init 22 = .ok (.putfield 22, 3) := dk_181 0 22 (dk_at dksJ11_init_1 0 rfl rfl)
theorem dJ11_init_25 : decode cJ11_init 25 = .ok (.return_, 1) := dk_177 (dk_at dksJ11_init_1 3 rfl rfl)
abbrev cJ11_hasNext : ByteArray := prog_55_method_2_code
def yJ11_hasNext : MethodName := ⟨RJ11, "hasNext", "()Z"⟩
def dkwJ11_hasNext_0 : List UInt8 := [42, 180, 0, 25, 42, 180, 0, 1, 180, 0, 28, 159, 0, 7, 4, 167, 0, 4, 3, 172]
abbrev dktJ11_hasNext_0 : List UInt8 := dkwJ11_hasNext_0 ++ []
theorem dksJ11_hasNext_0 : cJ11_hasNext.data.toList.drop 0 = dktJ11_hasNext_0 := by decide +kernel
theorem dJ11_hasNext_0 : decode cJ11_hasNext 0 = .ok (.aload_n 0, 1) := dk_42 (dk_at dksJ11_hasNext_0 0 rfl rfl)
theorem dJ11_hasNext_1 : decode cJ11_hasNext 1 = .ok (.getfield 25, 3) := dk_180 0 25 (dk_at dksJ11_hasNext_0 1 rfl rfl)
theorem dJ11_hasNext_4 : decode cJ11_hasNext 4 = .ok (.aload_n 0, 1) := dk_42 (dk_at dksJ11_hasNext_0 4 rfl rfl)
theorem dJ11_hasNext_5 : decode cJ11_hasNext 5 = .ok (.getfield 1, 3) := dk_180 0 1 (dk_at dksJ11_hasNext_0 5 rfl rfl)
theorem dJ11_hasNext_8 : decode cJ11_hasNext 8 = .ok (.getfield 28, 3) := dk_180 0 28 (dk_at dksJ11_hasNext_0 8 rfl rfl)
theorem dJ11_hasNext_11 : decode cJ11_hasNext 11 = .ok (.if_icmp .eq 7, 3) := dk_159 0 7 (dk_at dksJ11_hasNext_0 11 rfl rfl)
theorem dJ11_hasNext_14 : decode cJ11_hasNext 14 = .ok (.iconst 1, 1) := dk_4 (dk_at dksJ11_hasNext_0 14 rfl rfl)
theorem dJ11_hasNext_15 : decode cJ11_hasNext 15 = .ok (.goto 4, 3) := dk_167 0 4 (dk_at dksJ11_hasNext_0 15 rfl rfl)
theorem dJ11_hasNext_18 : decode cJ11_hasNext 18 = .ok (.iconst 0, 1) := dk_3 (dk_at dksJ11_hasNext_0 18 rfl rfl)
theorem dJ11_hasNext_19 : decode cJ11_hasNext 19 = .ok (.ireturn, 1) := dk_172 (dk_at dksJ11_hasNext_0 19 rfl rfl)
abbrev cJ11_next : ByteArray := prog_55_method_3_code
def yJ11_next : MethodName := ⟨RJ11, "next", "()Ljava/lang/Object;"⟩
def dkwJ11_next_2 : List UInt8 := [183, 0, 43, 191, 42, 27, 4, 96, 181, 0, 25, 44, 42, 27, 90, 181, 0, 13, 50, 176]
abbrev dktJ11_next_2 : List UInt8 := dkwJ11_next_2 ++ []
def dkwJ11_next_1 : List UInt8 := [183, 0, 36, 191, 42, 180, 0, 1, 180, 0, 37, 77, 27, 44, 190, 161, 0, 11, 187, 0, 41, 89]
abbrev dktJ11_next_1 : List UInt8 := dkwJ11_next_1 ++ dktJ11_next_2
def dkwJ11_next_0 : List UInt8 := [42, 182, 0, 31, 42, 180, 0, 25, 60, 27, 42, 180, 0, 1, 180, 0, 28, 161, 0, 11, 187, 0, 34, 89]
abbrev dktJ11_next_0 : List UInt8 := dkwJ11_next_0 ++ dktJ11_next_1
theorem dksJ11_next_0 : cJ11_next.data.toList.drop 0 = dktJ11_next_0 := by decide +kernel
theorem dksJ11_next_1 : cJ11_next.data.toList.drop 24 = dktJ11_next_1 := dk_seg dksJ11_next_0 24 rfl rfl
theorem dksJ11_next_2 : cJ11_next.data.toList.drop 46 = dktJ11_next_2 := dk_seg dksJ11_next_1 22 rfl rfl
theorem dJ11_next_0 : decode cJ11_next 0 = .ok (.aload_n 0, 1) := dk_42 (dk_at dksJ11_next_0 0 rfl rfl)
theorem dJ11_next_1 : decode cJ11_next 1 = .ok (.invokevirtual 31, 3) := dk_182 0 31 (dk_at dksJ11_next_0 1 rfl rfl)
theorem dJ11_next_4 : decode cJ11_next 4 = .ok (.aload_n 0, 1) := dk_42 (dk_at dksJ11_next_0 4 rfl rfl)
theorem dJ11_next_5 : decode cJ11_next 5 = .ok (.getfield 25, 3) := dk_180 0 25 (dk_at dksJ11_next_0 5 rfl rfl)
theorem dJ11_next_8 : decode cJ11_next 8 = .ok (.istore_n 1, 1) := dk_60 (dk_at dksJ11_next_0 8 rfl rfl)
theorem dJ11_next_9 : decode cJ11_next 9 = .ok (.iload_n 1, 1) := dk_27 (dk_at dksJ11_next_0 9 rfl rfl)
theorem dJ11_next_10 : decode cJ11_next 10 = .ok (.aload_n 0, 1) := dk_42 (dk_at dksJ11_next_0 10 rfl rfl)
theorem dJ11_next_11 : decode cJ11_next 11 = .ok (.getfield 1, 3) := dk_180 0 1 (dk_at dksJ11_next_0 11 rfl rfl)
theorem dJ11_next_14 : decode cJ11_next 14 = .ok (.getfield 28, 3) := dk_180 0 28 (dk_at dksJ11_next_0 14 rfl rfl)
theorem dJ11_next_17 : decode cJ11_next 17 = .ok (.if_icmp .lt 11, 3) := dk_161 0 11 (dk_at dksJ11_next_0 17 rfl rfl)
theorem dJ11_next_20 : decode cJ11_next 20 = .ok (.new 34, 3) := dk_187 0 34 (dk_at dksJ11_next_0 20 rfl rfl)
theorem dJ11_next_23 : decode cJ11_next 23 = .ok (.dup, 1) := dk_89 (dk_at dksJ11_next_0 23 rfl rfl)
theorem dJ11_next_24 : decode cJ11_next 24 = .ok (.invokespecial 36, 3) := dk_183 0 36 (dk_at dksJ11_next_1 0 rfl rfl)
theorem dJ11_next_27 : decode cJ11_next 27 = .ok (.athrow, 1) := dk_191 (dk_at dksJ11_next_1 3 rfl rfl)
theorem dJ11_next_28 : decode cJ11_next 28 = .ok (.aload_n 0, 1) := dk_42 (dk_at dksJ11_next_1 4 rfl rfl)
theorem dJ11_next_29 : decode cJ11_next 29 = .ok (.getfield 1, 3) := dk_180 0 1 (dk_at dksJ11_next_1 5 rfl rfl)
theorem dJ11_next_32 : decode cJ11_next 32 = .ok (.getfield 37, 3) := dk_180 0 37 (dk_at dksJ11_next_1 8 rfl rfl)
theorem dJ11_next_35 : decode cJ11_next 35 = .ok (.astore_n 2, 1) := dk_77 (dk_at dksJ11_next_1 11 rfl rfl)
theorem dJ11_next_36 : decode cJ11_next 36 = .ok (.iload_n 1, 1) := dk_27 (dk_at dksJ11_next_1 12 rfl rfl)
theorem dJ11_next_37 : decode cJ11_next 37 = .ok (.aload_n 2, 1) := dk_44 (dk_at dksJ11_next_1 13 rfl rfl)
theorem dJ11_next_38 : decode cJ11_next 38 = .ok (.arraylength, 1) := dk_190 (dk_at dksJ11_next_1 14 rfl rfl)
theorem dJ11_next_39 : decode cJ11_next 39 = .ok (.if_icmp .lt 11, 3) := dk_161 0 11 (dk_at dksJ11_next_1 15 rfl rfl)
theorem dJ11_next_42 : decode cJ11_next 42 = .ok (.new 41, 3) := dk_187 0 41 (dk_at dksJ11_next_1 18 rfl rfl)
theorem dJ11_next_45 : decode cJ11_next 45 = .ok (.dup, 1) := dk_89 (dk_at dksJ11_next_1 21 rfl rfl)
theorem dJ11_next_46 : decode cJ11_next 46 = .ok (.invokespecial 43, 3) := dk_183 0 43 (dk_at dksJ11_next_2 0 rfl rfl)
theorem dJ11_next_49 : decode cJ11_next 49 = .ok (.athrow, 1) := dk_191 (dk_at dksJ11_next_2 3 rfl rfl)
theorem dJ11_next_50 : decode cJ11_next 50 = .ok (.aload_n 0, 1) := dk_42 (dk_at dksJ11_next_2 4 rfl rfl)
theorem dJ11_next_51 : decode cJ11_next 51 = .ok (.iload_n 1, 1) := dk_27 (dk_at dksJ11_next_2 5 rfl rfl)
theorem dJ11_next_52 : decode cJ11_next 52 = .ok (.iconst 1, 1) := dk_4 (dk_at dksJ11_next_2 6 rfl rfl)
theorem dJ11_next_53 : decode cJ11_next 53 = .ok (.iadd, 1) := dk_96 (dk_at dksJ11_next_2 7 rfl rfl)
theorem dJ11_next_54 : decode cJ11_next 54 = .ok (.putfield 25, 3) := dk_181 0 25 (dk_at dksJ11_next_2 8 rfl rfl)
theorem dJ11_next_57 : decode cJ11_next 57 = .ok (.aload_n 2, 1) := dk_44 (dk_at dksJ11_next_2 11 rfl rfl)
theorem dJ11_next_58 : decode cJ11_next 58 = .ok (.aload_n 0, 1) := dk_42 (dk_at dksJ11_next_2 12 rfl rfl)
theorem dJ11_next_59 : decode cJ11_next 59 = .ok (.iload_n 1, 1) := dk_27 (dk_at dksJ11_next_2 13 rfl rfl)
theorem dJ11_next_60 : decode cJ11_next 60 = .ok (.dup_x1, 1) := dk_90 (dk_at dksJ11_next_2 14 rfl rfl)
theorem dJ11_next_61 : decode cJ11_next 61 = .ok (.putfield 13, 3) := dk_181 0 13 (dk_at dksJ11_next_2 15 rfl rfl)
theorem dJ11_next_64 : decode cJ11_next 64 = .ok (.aaload, 1) := dk_50 (dk_at dksJ11_next_2 18 rfl rfl)
theorem dJ11_next_65 : decode cJ11_next 65 = .ok (.areturn, 1) := dk_176 (dk_at dksJ11_next_2 19 rfl rfl)
abbrev cJ11_checkForComodification : ByteArray := prog_55_method_6_code
def yJ11_checkForComodification : MethodName := ⟨RJ11, "checkForComodification", "()V"⟩
def dkwJ11_checkForComodification_0 : List UInt8 := [42, 180, 0, 1, 180, 0, 17, 42, 180, 0, 22, 159, 0, 11, 187, 0, 41, 89, 183, 0, 43, 191, 177]
abbrev dktJ11_checkForComodification_0 : List UInt8 := dkwJ11_checkForComodification_0 ++ []
theorem dksJ11_checkForComodification_0 : cJ11_checkForComodification.data.toList.drop 0 = dktJ11_checkForComodification_0 := by decide +kernel
theorem dJ11_checkForComodification_0 : decode cJ11_checkForComodification 0 = .ok (.aload_n 0, 1) := dk_42 (dk_at dksJ11_checkForComodification_0 0 rfl rfl)
theorem dJ11_checkForComodification_1 : decode cJ11_checkForComodification 1 = .ok (.getfield 1, 3) := dk_180 0 1 (dk_at dksJ11_checkForComodification_0 1 rfl rfl)
theorem dJ11_checkForComodification_4 : decode cJ11_checkForComodification 4 = .ok (.getfield 17, 3) := dk_180 0 17 (dk_at dksJ11_checkForComodification_0 4 rfl rfl)
theorem dJ11_checkForComodification_7 : decode cJ11_checkForComodification 7 = .ok (.aload_n 0, 1) := dk_42 (dk_at dksJ11_checkForComodification_0 7 rfl rfl)
theorem dJ11_checkForComodification_8 : decode cJ11_checkForComodification 8 = .ok (.getfield 22, 3) := dk_180 0 22 (dk_at dksJ11_checkForComodification_0 8 rfl rfl)
theorem dJ11_checkForComodification_11 : decode cJ11_checkForComodification 11 = .ok (.if_icmp .eq 11, 3) := dk_159 0 11 (dk_at dksJ11_checkForComodification_0 11 rfl rfl)
theorem dJ11_checkForComodification_14 : decode cJ11_checkForComodification 14 = .ok (.new 41, 3) := dk_187 0 41 (dk_at dksJ11_checkForComodification_0 14 rfl rfl)
theorem dJ11_checkForComodification_17 : decode cJ11_checkForComodification 17 = .ok (.dup, 1) := dk_89 (dk_at dksJ11_checkForComodification_0 17 rfl rfl)
theorem dJ11_checkForComodification_18 : decode cJ11_checkForComodification 18 = .ok (.invokespecial 43, 3) := dk_183 0 43 (dk_at dksJ11_checkForComodification_0 18 rfl rfl)
theorem dJ11_checkForComodification_21 : decode cJ11_checkForComodification 21 = .ok (.athrow, 1) := dk_191 (dk_at dksJ11_checkForComodification_0 21 rfl rfl)
theorem dJ11_checkForComodification_22 : decode cJ11_checkForComodification 22 = .ok (.return_, 1) := dk_177 (dk_at dksJ11_checkForComodification_0 22 rfl rfl)
theorem q121 : (Jvm.Cond.initialized "java/util/ArrayList$Itr") ∈ lw_all := lw_g (lw_at lw_m1 15 rfl) rfl
theorem q200 : (Jvm.Cond.fieldLink "java/util/ArrayList$Itr" (37 : Nat) "java/util/ArrayList" "elementData" "[Ljava/lang/Object;") ∈ lw_all := lw_g (lw_at lw_m1 94 rfl) rfl
theorem q201 : (Jvm.Cond.fieldLinkNest "java/util/ArrayList$Itr" (28 : Nat) "java/util/ArrayList" "size" "I" "java/util/ArrayList") ∈ lw_tbl := lw_at lw_m1 95 rfl
theorem q204 : (Jvm.Cond.fieldLink "java/util/ArrayList$Itr" (17 : Nat) "java/util/ArrayList" "modCount" "I") ∈ lw_all := lw_g (lw_at lw_m1 98 rfl) rfl
theorem q419 : (Jvm.Cond.instantiable "java/util/ArrayList$Itr" (4 : Nat)) ∈ lw_all := lw_g (lw_at lw_m2 73 rfl) rfl
theorem q421 : (Jvm.Cond.instanceMethod ({ cls := "java/util/ArrayList$Itr", name := "<init>", desc := "(Ljava/util/ArrayList;)V" } : Jvm.MethodName)) ∈ lw_all := lw_g (lw_at lw_m2 75 rfl) rfl
theorem q422 : (Jvm.Cond.code ({ cls := "java/util/ArrayList$Itr", name := "<init>", desc := "(Ljava/util/ArrayList;)V" } : Jvm.MethodName) prog_55_method_1_code (2 : Nat) (Option.none : Option Jvm.ClassFile.FieldType)) ∈ lw_all := lw_g (lw_at lw_m2 76 rfl) rfl
theorem q423 : (Jvm.Cond.methodLink "java/util/ArrayList$Itr" (7 : Nat) ({ cls := "java/lang/Object", name := "<init>", desc := "()V" } : Jvm.MethodName)) ∈ lw_all := lw_g (lw_at lw_m2 77 rfl) rfl
theorem q424 : (Jvm.Cond.fieldLink "java/util/ArrayList$Itr" (25 : Nat) "java/util/ArrayList$Itr" "cursor" "I") ∈ lw_all := lw_g (lw_at lw_m2 78 rfl) rfl
theorem q425 : (Jvm.Cond.fieldLink "java/util/ArrayList$Itr" (13 : Nat) "java/util/ArrayList$Itr" "lastRet" "I") ∈ lw_all := lw_g (lw_at lw_m2 79 rfl) rfl
theorem q426 : (Jvm.Cond.fieldLink "java/util/ArrayList$Itr" (22 : Nat) "java/util/ArrayList$Itr" "expectedModCount" "I") ∈ lw_all := lw_g (lw_at lw_m2 80 rfl) rfl
theorem q427 : (Jvm.Cond.fieldLink "java/util/ArrayList$Itr" (1 : Nat) "java/util/ArrayList$Itr" "this$0" "Ljava/util/ArrayList;") ∈ lw_all := lw_g (lw_at lw_m2 81 rfl) rfl
theorem q428 : (Jvm.Cond.lays "java/util/ArrayList$Itr" "java/util/ArrayList$Itr" "cursor" "I") ∈ lw_all := lw_g (lw_at lw_m2 82 rfl) rfl
theorem q429 : (Jvm.Cond.soleField "java/util/ArrayList$Itr" "cursor") ∈ lw_all := lw_g (lw_at lw_m2 83 rfl) rfl
theorem q430 : (Jvm.Cond.lays "java/util/ArrayList$Itr" "java/util/ArrayList$Itr" "lastRet" "I") ∈ lw_all := lw_g (lw_at lw_m2 84 rfl) rfl
theorem q431 : (Jvm.Cond.soleField "java/util/ArrayList$Itr" "lastRet") ∈ lw_all := lw_g (lw_at lw_m2 85 rfl) rfl
theorem q432 : (Jvm.Cond.lays "java/util/ArrayList$Itr" "java/util/ArrayList$Itr" "expectedModCount" "I") ∈ lw_all := lw_g (lw_at lw_m2 86 rfl) rfl
theorem q433 : (Jvm.Cond.soleField "java/util/ArrayList$Itr" "expectedModCount") ∈ lw_all := lw_g (lw_at lw_m2 87 rfl) rfl
theorem q434 : (Jvm.Cond.laysFinal "java/util/ArrayList$Itr" "java/util/ArrayList$Itr" "this$0" "Ljava/util/ArrayList;") ∈ lw_all := lw_g (lw_at lw_m2 88 rfl) rfl
theorem q435 : (Jvm.Cond.soleField "java/util/ArrayList$Itr" "this$0") ∈ lw_all := lw_g (lw_at lw_m2 89 rfl) rfl
theorem q436 : (Jvm.Cond.superclass "java/util/ArrayList$Itr" "java/lang/Object") ∈ lw_all := lw_g (lw_at lw_m2 90 rfl) rfl
theorem q441 : (Jvm.Cond.castable "java/util/ArrayList$Itr" "java/util/Iterator") ∈ lw_tbl := lw_at lw_m2 95 rfl
theorem q442 : (Jvm.Cond.selects "java/util/ArrayList$Itr" ({ cls := "java/util/Iterator", name := "hasNext", desc := "()Z" } : Jvm.MethodName) ({ cls := "java/util/ArrayList$Itr", name := "hasNext", desc := "()Z" } : Jvm.MethodName)) ∈ lw_all := lw_g (lw_at lw_m2 96 rfl) rfl
theorem q443 : (Jvm.Cond.unhidden "java/util/ArrayList$Itr" "hasNext" "()Z") ∈ lw_tbl := lw_at lw_m2 97 rfl
theorem q444 : (Jvm.Cond.instanceMethod ({ cls := "java/util/ArrayList$Itr", name := "hasNext", desc := "()Z" } : Jvm.MethodName)) ∈ lw_all := lw_g (lw_at lw_m2 98 rfl) rfl
theorem q445 : (Jvm.Cond.publicMethod ({ cls := "java/util/ArrayList$Itr", name := "hasNext", desc := "()Z" } : Jvm.MethodName)) ∈ lw_tbl := lw_at lw_m2 99 rfl
theorem q446 : (Jvm.Cond.code ({ cls := "java/util/ArrayList$Itr", name := "hasNext", desc := "()Z" } : Jvm.MethodName) prog_55_method_2_code (1 : Nat) (Option.some Jvm.ClassFile.FieldType.boolean)) ∈ lw_all := lw_g (lw_at lw_m2 100 rfl) rfl
theorem q463 : (Jvm.Cond.selects "java/util/ArrayList$Itr" ({ cls := "java/util/Iterator", name := "next", desc := "()Ljava/lang/Object;" } : Jvm.MethodName) ({ cls := "java/util/ArrayList$Itr", name := "next", desc := "()Ljava/lang/Object;" } : Jvm.MethodName)) ∈ lw_all := lw_g (lw_at lw_m2 117 rfl) rfl
theorem q464 : (Jvm.Cond.unhidden "java/util/ArrayList$Itr" "next" "()Ljava/lang/Object;") ∈ lw_tbl := lw_at lw_m2 118 rfl
theorem q465 : (Jvm.Cond.instanceMethod ({ cls := "java/util/ArrayList$Itr", name := "next", desc := "()Ljava/lang/Object;" } : Jvm.MethodName)) ∈ lw_all := lw_g (lw_at lw_m2 119 rfl) rfl
theorem q466 : (Jvm.Cond.publicMethod ({ cls := "java/util/ArrayList$Itr", name := "next", desc := "()Ljava/lang/Object;" } : Jvm.MethodName)) ∈ lw_tbl := lw_at lw_m2 120 rfl
theorem q467 : (Jvm.Cond.code ({ cls := "java/util/ArrayList$Itr", name := "next", desc := "()Ljava/lang/Object;" } : Jvm.MethodName) prog_55_method_3_code (3 : Nat) (Option.some (Jvm.ClassFile.FieldType.object "java/lang/Object"))) ∈ lw_all := lw_g (lw_at lw_m2 121 rfl) rfl
theorem q468 : (Jvm.Cond.methodLink "java/util/ArrayList$Itr" (31 : Nat) ({ cls := "java/util/ArrayList$Itr", name := "checkForComodification", desc := "()V" } : Jvm.MethodName)) ∈ lw_all := lw_g (lw_at lw_m2 122 rfl) rfl
theorem q469 : (Jvm.Cond.instanceMethod ({ cls := "java/util/ArrayList$Itr", name := "checkForComodification", desc := "()V" } : Jvm.MethodName)) ∈ lw_all := lw_g (lw_at lw_m2 123 rfl) rfl
theorem q470 : (Jvm.Cond.selects "java/util/ArrayList$Itr" ({ cls := "java/util/ArrayList$Itr", name := "checkForComodification", desc := "()V" } : Jvm.MethodName) ({ cls := "java/util/ArrayList$Itr", name := "checkForComodification", desc := "()V" } : Jvm.MethodName)) ∈ lw_all := lw_g (lw_at lw_m2 124 rfl) rfl
theorem q471 : (Jvm.Cond.code ({ cls := "java/util/ArrayList$Itr", name := "checkForComodification", desc := "()V" } : Jvm.MethodName) prog_55_method_6_code (1 : Nat) (Option.none : Option Jvm.ClassFile.FieldType)) ∈ lw_all := lw_g (lw_at lw_m2 125 rfl) rfl
theorem q472 : (Jvm.Cond.classLink "java/util/ArrayList$Itr" (34 : Nat) "java/util/NoSuchElementException") ∈ lw_all := lw_g (lw_at lw_m2 126 rfl) rfl
theorem q512 : (Jvm.Cond.methodLink "java/util/ArrayList$Itr" (36 : Nat) ({ cls := "java/util/NoSuchElementException", name := "<init>", desc := "()V" } : Jvm.MethodName)) ∈ lw_all := lw_g (lw_at lw_m2 166 rfl) rfl
theorem q627 : (Jvm.Cond.selects "java/util/ArrayList$Itr" ({ cls := "java/lang/Object", name := "getClass", desc := "()Ljava/lang/Class;" } : Jvm.MethodName) ({ cls := "java/lang/Object", name := "getClass", desc := "()Ljava/lang/Class;" } : Jvm.MethodName)) ∈ lw_all := lw_g (lw_at lw_m3 41 rfl) rfl
theorem q3590 : (Jvm.Cond.castable "java/util/ArrayList$Itr" "java/lang/Object") ∈ lw_tbl := lw_at lw_m15 124 rfl
theorem in_J11 : ∀ w ∈ wsJ110, w ∈ lw_all := lw_in wsJ110 [428, 430, 432, 434] (by decide +kernel) (by decide +kernel)
/-! java/lang/Throwable -/
set_option maxRecDepth 100000
def RJ12 : String := "java/lang/Throwable"
def TJ12 : u_T := fun k => match k with
  | 0 => ("java/lang/Throwable", "cause", "Ljava/lang/Throwable;", false)
  | 1 => ("java/lang/Throwable", "stackTrace", "[Ljava/lang/StackTraceElement;", false)
  | 2 => ("java/lang/Throwable", "suppressedExceptions", "Ljava/util/List;", false)
  | 3 => ("java/lang/Throwable", "detailMessage", "Ljava/lang/String;", false)
  | _ => ("java/lang/Throwable", "backtrace", "Ljava/lang/Object;", false)
def tyJ12 : Nat → FieldType := fun k => match k with
  | 0 => .object "java/lang/Throwable"
  | 1 => .array (.object "java/lang/StackTraceElement")
  | 2 => .object "java/util/List"
  | 3 => .object "java/lang/String"
  | _ => .object "java/lang/Object"
abbrev wsJ120 : List Cond := u_ws RJ12 TJ12 5
theorem nmJ12 : ∀ a, a < 5 → ∀ b, b < 5 → a ≠ b → (TJ12 a).2.1 ≠ (TJ12 b).2.1 := by decide +kernel
theorem tyJ12_ok : ∀ k, k < 5 → parseFieldDescriptor (TJ12 k).2.2.1 = some (tyJ12 k) := by decide +kernel
abbrev cJ12_init : ByteArray := prog_47_method_1_code
def yJ12_init : MethodName := ⟨RJ12, "<init>", "()V"⟩
def dkwJ12_init_1 : List UInt8 := [182, 0, 27, 87, 177]
abbrev dktJ12_init_1 : List UInt8 := dkwJ12_init_1 ++ []
def dkwJ12_init_0 : List UInt8 := [42, 183, 0, 1, 42, 42, 181, 0, 7, 42, 178, 0, 13, 181, 0, 17, 42, 178, 0, 20, 181, 0, 24, 42]
abbrev dktJ12_init_0 : List UInt8 := dkwJ12_init_0 ++ dktJ12_init_1
theorem dksJ12_init_0 : cJ12_init.data.toList.drop 0 = dktJ12_init_0 := by decide +kernel
theorem dksJ12_init_1 : cJ12_init.data.toList.drop 24 = dktJ12_init_1 := dk_seg dksJ12_init_0 24 rfl rfl
theorem dJ12_init_0 : decode cJ12_init 0 = .ok (.aload_n 0, 1) := dk_42 (dk_at dksJ12_init_0 0 rfl rfl)
theorem dJ12_init_1 : decode cJ12_init 1 = .ok (.invokespecial 1, 3) := dk_183 0 1 (dk_at dksJ12_init_0 1 rfl rfl)
theorem dJ12_init_4 : decode cJ12_init 4 = .ok (.aload_n 0, 1) := dk_42 (dk_at dksJ12_init_0 4 rfl rfl)
theorem dJ12_init_5 : decode cJ12_init 5 = .ok (.aload_n 0, 1) := dk_42 (dk_at dksJ12_init_0 5 rfl rfl)
theorem dJ12_init_6 : decode cJ12_init 6 = .ok (.putfield 7, 3) := dk_181 0 7 (dk_at dksJ12_init_0 6 rfl rfl)
theorem dJ12_init_9 : decode cJ12_init 9 = .ok (.aload_n 0, 1) := dk_42 (dk_at dksJ12_init_0 9 rfl rfl)
theorem dJ12_init_10 : decode cJ12_init 10 = .ok (.getstatic 13, 3) := dk_178 0 13 (dk_at dksJ12_init_0 10 rfl rfl)
theorem dJ12_init_13 : decode cJ12_init 13 = .ok (.putfield 17, 3) := dk_181 0 17 (dk_at dksJ12_init_0 13 rfl rfl)
theorem dJ12_init_16 : decode cJ12_init 16 = .ok (.aload_n 0, 1) := dk_42 (dk_at dksJ12_init_0 16 rfl rfl)
theorem dJ12_init_17 : decode cJ12_init 17 = .ok (.getstatic 20, 3) := dk_178 0 20 (dk_at dksJ12_init_0 17 rfl rfl)
theorem dJ12_init_20 : decode cJ12_init 20 = .ok (.putfield 24, 3) := dk_181 0 24 (dk_at dksJ12_init_0 20 rfl rfl)
theorem dJ12_init_23 : decode cJ12_init 23 = .ok (.aload_n 0, 1) := dk_42 (dk_at dksJ12_init_0 23 rfl rfl)
theorem dJ12_init_24 : decode cJ12_init 24 = .ok (.invokevirtual 27, 3) := dk_182 0 27 (dk_at dksJ12_init_1 0 rfl rfl)
theorem dJ12_init_27 : decode cJ12_init 27 = .ok (.pop, 1) := dk_87 (dk_at dksJ12_init_1 3 rfl rfl)
theorem dJ12_init_28 : decode cJ12_init 28 = .ok (.return_, 1) := dk_177 (dk_at dksJ12_init_1 4 rfl rfl)
abbrev cJ12_init_2 : ByteArray := prog_47_method_5_code
def yJ12_init_2 : MethodName := ⟨RJ12, "<init>", "(Ljava/lang/String;Ljava/lang/Throwable;ZZ)V"⟩
def dkwJ12_init_2_2 : List UInt8 := [44, 181, 0, 7, 29, 154, 0, 8, 42, 1, 181, 0, 24, 177]
abbrev dktJ12_init_2_2 : List UInt8 := dkwJ12_init_2_2 ++ []
def dkwJ12_init_2_1 : List UInt8 := [21, 4, 153, 0, 11, 42, 182, 0, 27, 87, 167, 0, 8, 42, 1, 181, 0, 17, 42, 43, 181, 0, 31, 42]
abbrev dktJ12_init_2_1 : List UInt8 := dkwJ12_init_2_1 ++ dktJ12_init_2_2
def dkwJ12_init_2_0 : List UInt8 := [42, 183, 0, 1, 42, 42, 181, 0, 7, 42, 178, 0, 13, 181, 0, 17, 42, 178, 0, 20, 181, 0, 24]
abbrev dktJ12_init_2_0 : List UInt8 := dkwJ12_init_2_0 ++ dktJ12_init_2_1
theorem dksJ12_init_2_0 : cJ12_init_2.data.toList.drop 0 = dktJ12_init_2_0 := by decide +kernel
theorem dksJ12_init_2_1 : cJ12_init_2.data.toList.drop 23 = dktJ12_init_2_1 := dk_seg dksJ12_init_2_0 23 rfl rfl
theorem dksJ12_init_2_2 : cJ12_init_2.data.toList.drop 47 = dktJ12_init_2_2 := dk_seg dksJ12_init_2_1 24 rfl rfl
theorem dJ12_init_2_0 : decode cJ12_init_2 0 = .ok (.aload_n 0, 1) := dk_42 (dk_at dksJ12_init_2_0 0 rfl rfl)
theorem dJ12_init_2_1 : decode cJ12_init_2 1 = .ok (.invokespecial 1, 3) := dk_183 0 1 (dk_at dksJ12_init_2_0 1 rfl rfl)
theorem dJ12_init_2_4 : decode cJ12_init_2 4 = .ok (.aload_n 0, 1) := dk_42 (dk_at dksJ12_init_2_0 4 rfl rfl)
theorem dJ12_init_2_5 : decode cJ12_init_2 5 = .ok (.aload_n 0, 1) := dk_42 (dk_at dksJ12_init_2_0 5 rfl rfl)
theorem dJ12_init_2_6 : decode cJ12_init_2 6 = .ok (.putfield 7, 3) := dk_181 0 7 (dk_at dksJ12_init_2_0 6 rfl rfl)
theorem dJ12_init_2_9 : decode cJ12_init_2 9 = .ok (.aload_n 0, 1) := dk_42 (dk_at dksJ12_init_2_0 9 rfl rfl)
theorem dJ12_init_2_10 : decode cJ12_init_2 10 = .ok (.getstatic 13, 3) := dk_178 0 13 (dk_at dksJ12_init_2_0 10 rfl rfl)
theorem dJ12_init_2_13 : decode cJ12_init_2 13 = .ok (.putfield 17, 3) := dk_181 0 17 (dk_at dksJ12_init_2_0 13 rfl rfl)
theorem dJ12_init_2_16 : decode cJ12_init_2 16 = .ok (.aload_n 0, 1) := dk_42 (dk_at dksJ12_init_2_0 16 rfl rfl)
theorem dJ12_init_2_17 : decode cJ12_init_2 17 = .ok (.getstatic 20, 3) := dk_178 0 20 (dk_at dksJ12_init_2_0 17 rfl rfl)
theorem dJ12_init_2_20 : decode cJ12_init_2 20 = .ok (.putfield 24, 3) := dk_181 0 24 (dk_at dksJ12_init_2_0 20 rfl rfl)
theorem dJ12_init_2_23 : decode cJ12_init_2 23 = .ok (.iload 4, 2) := dk_21 4 (dk_at dksJ12_init_2_1 0 rfl rfl)
theorem dJ12_init_2_25 : decode cJ12_init_2 25 = .ok (.ifCond .eq 11, 3) := dk_153 0 11 (dk_at dksJ12_init_2_1 2 rfl rfl)
theorem dJ12_init_2_28 : decode cJ12_init_2 28 = .ok (.aload_n 0, 1) := dk_42 (dk_at dksJ12_init_2_1 5 rfl rfl)
theorem dJ12_init_2_29 : decode cJ12_init_2 29 = .ok (.invokevirtual 27, 3) := dk_182 0 27 (dk_at dksJ12_init_2_1 6 rfl rfl)
theorem dJ12_init_2_32 : decode cJ12_init_2 32 = .ok (.pop, 1) := dk_87 (dk_at dksJ12_init_2_1 9 rfl rfl)
theorem dJ12_init_2_33 : decode cJ12_init_2 33 = .ok (.goto 8, 3) := dk_167 0 8 (dk_at dksJ12_init_2_1 10 rfl rfl)
theorem dJ12_init_2_36 : decode cJ12_init_2 36 = .ok (.aload_n 0, 1) := dk_42 (dk_at dksJ12_init_2_1 13 rfl rfl)
theorem dJ12_init_2_37 : decode cJ12_init_2 37 = .ok (.aconst_null, 1) := dk_1 (dk_at dksJ12_init_2_1 14 rfl rfl)
theorem dJ12_init_2_38 : decode cJ12_init_2 38 = .ok (.putfield 17, 3) := dk_181 0 17 (dk_at dksJ12_init_2_1 15 rfl rfl)
theorem dJ12_init_2_41 : decode cJ12_init_2 41 = .ok (.aload_n 0, 1) := dk_42 (dk_at dksJ12_init_2_1 18 rfl rfl)
theorem dJ12_init_2_42 : decode cJ12_init_2 42 = .ok (.aload_n 1, 1) := dk_43 (dk_at dksJ12_init_2_1 19 rfl rfl)
theorem dJ12_init_2_43 : decode cJ12_init_2 43 = .ok (.putfield 31, 3) := dk_181 0 31 (dk_at dksJ12_init_2_1 20 rfl rfl)
theorem dJ12_init_2_46 : decode cJ12_init_2 46 = .ok (.aload_n 0, 1) := dk_42 (dk_at dksJ12_init_2_1 23 rfl rfl)
theorem dJ12_init_2_47 : decode cJ12_init_2 47 = .ok (.aload_n 2, 1) := dk_44 (dk_at dksJ12_init_2_2 0 rfl rfl)
theorem dJ12_init_2_48 : decode cJ12_init_2 48 = .ok (.putfield 7, 3) := dk_181 0 7 (dk_at dksJ12_init_2_2 1 rfl rfl)
theorem dJ12_init_2_51 : decode cJ12_init_2 51 = .ok (.iload_n 3, 1) := dk_29 (dk_at dksJ12_init_2_2 4 rfl rfl)
theorem dJ12_init_2_52 : decode cJ12_init_2 52 = .ok (.ifCond .ne 8, 3) := dk_154 0 8 (dk_at dksJ12_init_2_2 5 rfl rfl)
theorem dJ12_init_2_55 : decode cJ12_init_2 55 = .ok (.aload_n 0, 1) := dk_42 (dk_at dksJ12_init_2_2 8 rfl rfl)
theorem dJ12_init_2_56 : decode cJ12_init_2 56 = .ok (.aconst_null, 1) := dk_1 (dk_at dksJ12_init_2_2 9 rfl rfl)
theorem dJ12_init_2_57 : decode cJ12_init_2 57 = .ok (.putfield 24, 3) := dk_181 0 24 (dk_at dksJ12_init_2_2 10 rfl rfl)
theorem dJ12_init_2_60 : decode cJ12_init_2 60 = .ok (.return_, 1) := dk_177 (dk_at dksJ12_init_2_2 13 rfl rfl)
theorem q122 : (Jvm.Cond.initialized "java/lang/Throwable") ∈ lw_all := lw_g (lw_at lw_m1 16 rfl) rfl
theorem q479 : (Jvm.Cond.declares ({ cls := "java/lang/Throwable", name := "<init>", desc := "()V" } : Jvm.MethodName)) ∈ lw_tbl := lw_at lw_m2 133 rfl
theorem q480 : (Jvm.Cond.declares ({ cls := "java/lang/Throwable", name := "<init>", desc := "(Ljava/lang/String;)V" } : Jvm.MethodName)) ∈ lw_tbl := lw_at lw_m2 134 rfl
theorem q484 : (Jvm.Cond.lays "java/lang/Throwable" "java/lang/Throwable" "cause" "Ljava/lang/Throwable;") ∈ lw_all := lw_g (lw_at lw_m2 138 rfl) rfl
theorem q486 : (Jvm.Cond.lays "java/lang/Throwable" "java/lang/Throwable" "stackTrace" "[Ljava/lang/StackTraceElement;") ∈ lw_all := lw_g (lw_at lw_m2 140 rfl) rfl
theorem q488 : (Jvm.Cond.lays "java/lang/Throwable" "java/lang/Throwable" "suppressedExceptions" "Ljava/util/List;") ∈ lw_all := lw_g (lw_at lw_m2 142 rfl) rfl
theorem q490 : (Jvm.Cond.lays "java/lang/Throwable" "java/lang/Throwable" "detailMessage" "Ljava/lang/String;") ∈ lw_all := lw_g (lw_at lw_m2 144 rfl) rfl
theorem q492 : (Jvm.Cond.lays "java/lang/Throwable" "java/lang/Throwable" "backtrace" "Ljava/lang/Object;") ∈ lw_all := lw_g (lw_at lw_m2 146 rfl) rfl
theorem q493 : (Jvm.Cond.fieldLink "java/lang/Throwable" (198 : Nat) "java/lang/Throwable" "backtrace" "Ljava/lang/Object;") ∈ lw_all := lw_g (lw_at lw_m2 147 rfl) rfl
theorem q494 : (Jvm.Cond.superclass "java/lang/Throwable" "java/lang/Object") ∈ lw_all := lw_g (lw_at lw_m2 148 rfl) rfl
theorem q495 : (Jvm.Cond.instanceMethod ({ cls := "java/lang/Throwable", name := "<init>", desc := "()V" } : Jvm.MethodName)) ∈ lw_all := lw_g (lw_at lw_m2 149 rfl) rfl
theorem q496 : (Jvm.Cond.code ({ cls := "java/lang/Throwable", name := "<init>", desc := "()V" } : Jvm.MethodName) prog_47_method_1_code (1 : Nat) (Option.none : Option Jvm.ClassFile.FieldType)) ∈ lw_all := lw_g (lw_at lw_m2 150 rfl) rfl
theorem q497 : (Jvm.Cond.methodLink "java/lang/Throwable" (1 : Nat) ({ cls := "java/lang/Object", name := "<init>", desc := "()V" } : Jvm.MethodName)) ∈ lw_all := lw_g (lw_at lw_m2 151 rfl) rfl
theorem q498 : (Jvm.Cond.fieldLink "java/lang/Throwable" (13 : Nat) "java/lang/Throwable" "UNASSIGNED_STACK" "[Ljava/lang/StackTraceElement;") ∈ lw_all := lw_g (lw_at lw_m2 152 rfl) rfl
theorem q499 : (Jvm.Cond.laysStatic "java/lang/Throwable" "UNASSIGNED_STACK" "[Ljava/lang/StackTraceElement;") ∈ lw_tbl := lw_at lw_m2 153 rfl
theorem q500 : (Jvm.Cond.fieldLink "java/lang/Throwable" (20 : Nat) "java/lang/Throwable" "SUPPRESSED_SENTINEL" "Ljava/util/List;") ∈ lw_all := lw_g (lw_at lw_m2 154 rfl) rfl
theorem q501 : (Jvm.Cond.laysStatic "java/lang/Throwable" "SUPPRESSED_SENTINEL" "Ljava/util/List;") ∈ lw_tbl := lw_at lw_m2 155 rfl
theorem q502 : (Jvm.Cond.methodLink "java/lang/Throwable" (27 : Nat) ({ cls := "java/lang/Throwable", name := "fillInStackTrace", desc := "()Ljava/lang/Throwable;" } : Jvm.MethodName)) ∈ lw_all := lw_g (lw_at lw_m2 156 rfl) rfl
theorem q503 : (Jvm.Cond.instanceMethod ({ cls := "java/lang/Throwable", name := "fillInStackTrace", desc := "()Ljava/lang/Throwable;" } : Jvm.MethodName)) ∈ lw_all := lw_g (lw_at lw_m2 157 rfl) rfl
theorem q504 : (Jvm.Cond.sameMethod "java/lang/Throwable" "java/lang/Throwable" "fillInStackTrace" "()Ljava/lang/Throwable;") ∈ lw_all := lw_g (lw_at lw_m2 158 rfl) rfl
theorem q506 : (Jvm.Cond.codeSync ({ cls := "java/lang/Throwable", name := "fillInStackTrace", desc := "()Ljava/lang/Throwable;" } : Jvm.MethodName) prog_47_method_18_code (1 : Nat) (Option.some (Jvm.ClassFile.FieldType.object "java/lang/Throwable"))) ∈ lw_all := lw_g (lw_at lw_m2 160 rfl) rfl
theorem q507 : (Jvm.Cond.methodLink "java/lang/Throwable" (202 : Nat) ({ cls := "java/lang/Throwable", name := "fillInStackTrace", desc := "(I)Ljava/lang/Throwable;" } : Jvm.MethodName)) ∈ lw_all := lw_g (lw_at lw_m2 161 rfl) rfl
theorem q508 : (Jvm.Cond.privateMethod ({ cls := "java/lang/Throwable", name := "fillInStackTrace", desc := "(I)Ljava/lang/Throwable;" } : Jvm.MethodName)) ∈ lw_tbl := lw_at lw_m2 162 rfl
theorem q509 : (Jvm.Cond.instanceMethod ({ cls := "java/lang/Throwable", name := "fillInStackTrace", desc := "(I)Ljava/lang/Throwable;" } : Jvm.MethodName)) ∈ lw_all := lw_g (lw_at lw_m2 163 rfl) rfl
theorem q510 : (Jvm.Cond.instantiable "java/lang/Throwable" (6 : Nat)) ∈ lw_all := lw_g (lw_at lw_m2 164 rfl) rfl
theorem q511 : (Jvm.Cond.native ({ cls := "java/lang/Throwable", name := "fillInStackTrace", desc := "(I)Ljava/lang/Throwable;" } : Jvm.MethodName)) ∈ lw_all := lw_g (lw_at lw_m2 165 rfl) rfl
theorem q522 : (Jvm.Cond.fieldLink "java/lang/Throwable" (198 : Nat) "java/lang/Throwable" "backtrace" "Ljava/lang/Object;") ∈ lw_all := lw_g (lw_at lw_m2 176 rfl) rfl
theorem q523 : (Jvm.Cond.fieldLink "java/lang/Throwable" (31 : Nat) "java/lang/Throwable" "detailMessage" "Ljava/lang/String;") ∈ lw_all := lw_g (lw_at lw_m2 177 rfl) rfl
theorem q524 : (Jvm.Cond.fieldLink "java/lang/Throwable" (7 : Nat) "java/lang/Throwable" "cause" "Ljava/lang/Throwable;") ∈ lw_all := lw_g (lw_at lw_m2 178 rfl) rfl
theorem q525 : (Jvm.Cond.fieldLink "java/lang/Throwable" (17 : Nat) "java/lang/Throwable" "stackTrace" "[Ljava/lang/StackTraceElement;") ∈ lw_all := lw_g (lw_at lw_m2 179 rfl) rfl
theorem q526 : (Jvm.Cond.fieldLink "java/lang/Throwable" (24 : Nat) "java/lang/Throwable" "suppressedExceptions" "Ljava/util/List;") ∈ lw_all := lw_g (lw_at lw_m2 180 rfl) rfl
theorem q527 : (Jvm.Cond.soleField "java/lang/Throwable" "backtrace") ∈ lw_all := lw_g (lw_at lw_m2 181 rfl) rfl
theorem q528 : (Jvm.Cond.soleField "java/lang/Throwable" "detailMessage") ∈ lw_all := lw_g (lw_at lw_m2 182 rfl) rfl
theorem q529 : (Jvm.Cond.soleField "java/lang/Throwable" "cause") ∈ lw_all := lw_g (lw_at lw_m2 183 rfl) rfl
theorem q530 : (Jvm.Cond.soleField "java/lang/Throwable" "stackTrace") ∈ lw_all := lw_g (lw_at lw_m2 184 rfl) rfl
theorem q532 : (Jvm.Cond.soleField "java/lang/Throwable" "depth") ∈ lw_all := lw_g (lw_at lw_m2 186 rfl) rfl
theorem q533 : (Jvm.Cond.soleField "java/lang/Throwable" "suppressedExceptions") ∈ lw_all := lw_g (lw_at lw_m2 187 rfl) rfl
theorem q1755 : (Jvm.Cond.instanceMethod ({ cls := "java/lang/Throwable", name := "<init>", desc := "(Ljava/lang/String;Ljava/lang/Throwable;ZZ)V" } : Jvm.MethodName)) ∈ lw_all := lw_g (lw_at lw_m7 209 rfl) rfl
theorem q1756 : (Jvm.Cond.code ({ cls := "java/lang/Throwable", name := "<init>", desc := "(Ljava/lang/String;Ljava/lang/Throwable;ZZ)V" } : Jvm.MethodName) prog_47_method_5_code (5 : Nat) (Option.none : Option Jvm.ClassFile.FieldType)) ∈ lw_all := lw_g (lw_at lw_m7 210 rfl) rfl
theorem q3541 : (Jvm.Cond.sameMethod "java/lang/Throwable" "java/lang/Throwable" "fillInStackTrace" "(I)Ljava/lang/Throwable;") ∈ lw_all := lw_g (lw_at lw_m15 75 rfl) rfl
theorem q3620 : (Jvm.Cond.castable "java/lang/Throwable" "java/lang/Object") ∈ lw_tbl := lw_at lw_m15 154 rfl
theorem in_J12 : ∀ w ∈ wsJ120, w ∈ lw_all := lw_in wsJ120 [484, 486, 488, 490, 492] (by decide +kernel) (by decide +kernel)
/-! java/lang/Exception -/
set_option maxRecDepth 100000
def RJ13 : String := "java/lang/Exception"
abbrev cJ13_init : ByteArray := prog_32_method_1_code
def yJ13_init : MethodName := ⟨RJ13, "<init>", "()V"⟩
theorem dJ13_init_0 : decode cJ13_init 0 = .ok (.aload_n 0, 1) := by decide +kernel
theorem dJ13_init_1 : decode cJ13_init 1 = .ok (.invokespecial 1, 3) := by decide +kernel
theorem dJ13_init_4 : decode cJ13_init 4 = .ok (.return_, 1) := by decide +kernel
abbrev cJ13_init_2 : ByteArray := prog_32_method_5_code
def yJ13_init_2 : MethodName := ⟨RJ13, "<init>", "(Ljava/lang/String;Ljava/lang/Throwable;ZZ)V"⟩
def dkwJ13_init_2_0 : List UInt8 := [42, 43, 44, 29, 21, 4, 183, 0, 16, 177]
abbrev dktJ13_init_2_0 : List UInt8 := dkwJ13_init_2_0 ++ []
theorem dksJ13_init_2_0 : cJ13_init_2.data.toList.drop 0 = dktJ13_init_2_0 := by decide +kernel
theorem dJ13_init_2_0 : decode cJ13_init_2 0 = .ok (.aload_n 0, 1) := dk_42 (dk_at dksJ13_init_2_0 0 rfl rfl)
theorem dJ13_init_2_1 : decode cJ13_init_2 1 = .ok (.aload_n 1, 1) := dk_43 (dk_at dksJ13_init_2_0 1 rfl rfl)
theorem dJ13_init_2_2 : decode cJ13_init_2 2 = .ok (.aload_n 2, 1) := dk_44 (dk_at dksJ13_init_2_0 2 rfl rfl)
theorem dJ13_init_2_3 : decode cJ13_init_2 3 = .ok (.iload_n 3, 1) := dk_29 (dk_at dksJ13_init_2_0 3 rfl rfl)
theorem dJ13_init_2_4 : decode cJ13_init_2 4 = .ok (.iload 4, 2) := dk_21 4 (dk_at dksJ13_init_2_0 4 rfl rfl)
theorem dJ13_init_2_6 : decode cJ13_init_2 6 = .ok (.invokespecial 16, 3) := dk_183 0 16 (dk_at dksJ13_init_2_0 6 rfl rfl)
theorem dJ13_init_2_9 : decode cJ13_init_2 9 = .ok (.return_, 1) := dk_177 (dk_at dksJ13_init_2_0 9 rfl rfl)
theorem q123 : (Jvm.Cond.initialized "java/lang/Exception") ∈ lw_all := lw_g (lw_at lw_m1 17 rfl) rfl
theorem q477 : (Jvm.Cond.declares ({ cls := "java/lang/Exception", name := "<init>", desc := "()V" } : Jvm.MethodName)) ∈ lw_tbl := lw_at lw_m2 131 rfl
theorem q478 : (Jvm.Cond.declares ({ cls := "java/lang/Exception", name := "<init>", desc := "(Ljava/lang/String;)V" } : Jvm.MethodName)) ∈ lw_tbl := lw_at lw_m2 132 rfl
theorem q519 : (Jvm.Cond.instanceMethod ({ cls := "java/lang/Exception", name := "<init>", desc := "()V" } : Jvm.MethodName)) ∈ lw_all := lw_g (lw_at lw_m2 173 rfl) rfl
theorem q520 : (Jvm.Cond.code ({ cls := "java/lang/Exception", name := "<init>", desc := "()V" } : Jvm.MethodName) prog_32_method_1_code (1 : Nat) (Option.none : Option Jvm.ClassFile.FieldType)) ∈ lw_all := lw_g (lw_at lw_m2 174 rfl) rfl
theorem q521 : (Jvm.Cond.methodLink "java/lang/Exception" (1 : Nat) ({ cls := "java/lang/Throwable", name := "<init>", desc := "()V" } : Jvm.MethodName)) ∈ lw_all := lw_g (lw_at lw_m2 175 rfl) rfl
theorem q1752 : (Jvm.Cond.instanceMethod ({ cls := "java/lang/Exception", name := "<init>", desc := "(Ljava/lang/String;Ljava/lang/Throwable;ZZ)V" } : Jvm.MethodName)) ∈ lw_all := lw_g (lw_at lw_m7 206 rfl) rfl
theorem q1753 : (Jvm.Cond.code ({ cls := "java/lang/Exception", name := "<init>", desc := "(Ljava/lang/String;Ljava/lang/Throwable;ZZ)V" } : Jvm.MethodName) prog_32_method_5_code (5 : Nat) (Option.none : Option Jvm.ClassFile.FieldType)) ∈ lw_all := lw_g (lw_at lw_m7 207 rfl) rfl
theorem q1754 : (Jvm.Cond.methodLink "java/lang/Exception" (16 : Nat) ({ cls := "java/lang/Throwable", name := "<init>", desc := "(Ljava/lang/String;Ljava/lang/Throwable;ZZ)V" } : Jvm.MethodName)) ∈ lw_all := lw_g (lw_at lw_m7 208 rfl) rfl
/-! java/lang/RuntimeException -/
set_option maxRecDepth 100000
def RJ14 : String := "java/lang/RuntimeException"
abbrev cJ14_init : ByteArray := prog_40_method_1_code
def yJ14_init : MethodName := ⟨RJ14, "<init>", "()V"⟩
theorem dJ14_init_0 : decode cJ14_init 0 = .ok (.aload_n 0, 1) := by decide +kernel
theorem dJ14_init_1 : decode cJ14_init 1 = .ok (.invokespecial 1, 3) := by decide +kernel
theorem dJ14_init_4 : decode cJ14_init 4 = .ok (.return_, 1) := by decide +kernel
theorem q124 : (Jvm.Cond.initialized "java/lang/RuntimeException") ∈ lw_all := lw_g (lw_at lw_m1 18 rfl) rfl
theorem q475 : (Jvm.Cond.declares ({ cls := "java/lang/RuntimeException", name := "<init>", desc := "()V" } : Jvm.MethodName)) ∈ lw_tbl := lw_at lw_m2 129 rfl
theorem q476 : (Jvm.Cond.declares ({ cls := "java/lang/RuntimeException", name := "<init>", desc := "(Ljava/lang/String;)V" } : Jvm.MethodName)) ∈ lw_tbl := lw_at lw_m2 130 rfl
theorem q516 : (Jvm.Cond.instanceMethod ({ cls := "java/lang/RuntimeException", name := "<init>", desc := "()V" } : Jvm.MethodName)) ∈ lw_all := lw_g (lw_at lw_m2 170 rfl) rfl
theorem q517 : (Jvm.Cond.code ({ cls := "java/lang/RuntimeException", name := "<init>", desc := "()V" } : Jvm.MethodName) prog_40_method_1_code (1 : Nat) (Option.none : Option Jvm.ClassFile.FieldType)) ∈ lw_all := lw_g (lw_at lw_m2 171 rfl) rfl
theorem q518 : (Jvm.Cond.methodLink "java/lang/RuntimeException" (1 : Nat) ({ cls := "java/lang/Exception", name := "<init>", desc := "()V" } : Jvm.MethodName)) ∈ lw_all := lw_g (lw_at lw_m2 172 rfl) rfl
/-! java/util/NoSuchElementException -/
set_option maxRecDepth 100000
def RJ15 : String := "java/util/NoSuchElementException"
def TJ15 : u_T := fun k => match k with
  | 0 => ("java/lang/Throwable", "cause", "Ljava/lang/Throwable;", false)
  | 1 => ("java/lang/Throwable", "stackTrace", "[Ljava/lang/StackTraceElement;", false)
  | 2 => ("java/lang/Throwable", "suppressedExceptions", "Ljava/util/List;", false)
  | 3 => ("java/lang/Throwable", "detailMessage", "Ljava/lang/String;", false)
  | 4 => ("java/lang/Throwable", "backtrace", "Ljava/lang/Object;", false)
  | _ => ("java/lang/Throwable", "depth", "I", false)
def tyJ15 : Nat → FieldType := fun k => match k with
  | 0 => .object "java/lang/Throwable"
  | 1 => .array (.object "java/lang/StackTraceElement")
  | 2 => .object "java/util/List"
  | 3 => .object "java/lang/String"
  | 4 => .object "java/lang/Object"
  | _ => .int
abbrev wsJ150 : List Cond := u_ws RJ15 TJ15 6
theorem nmJ15 : ∀ a, a < 6 → ∀ b, b < 6 → a ≠ b → (TJ15 a).2.1 ≠ (TJ15 b).2.1 := by decide +kernel
theorem tyJ15_ok : ∀ k, k < 6 → parseFieldDescriptor (TJ15 k).2.2.1 = some (tyJ15 k) := by decide +kernel
abbrev cJ15_init : ByteArray := prog_74_method_1_code
def yJ15_init : MethodName := ⟨RJ15, "<init>", "()V"⟩
theorem dJ15_init_0 : decode cJ15_init 0 = .ok (.aload_n 0, 1) := by decide +kernel
theorem dJ15_init_1 : decode cJ15_init 1 = .ok (.invokespecial 1, 3) := by decide +kernel
theorem dJ15_init_4 : decode cJ15_init 4 = .ok (.return_, 1) := by decide +kernel
theorem q125 : (Jvm.Cond.initialized "java/util/NoSuchElementException") ∈ lw_all := lw_g (lw_at lw_m1 19 rfl) rfl
theorem q473 : (Jvm.Cond.instantiable "java/util/NoSuchElementException" (6 : Nat)) ∈ lw_all := lw_g (lw_at lw_m2 127 rfl) rfl
theorem q474 : (Jvm.Cond.castable "java/util/NoSuchElementException" "java/util/NoSuchElementException") ∈ lw_tbl := lw_at lw_m2 128 rfl
theorem q481 : (Jvm.Cond.selects "java/util/NoSuchElementException" ({ cls := "java/lang/Throwable", name := "fillInStackTrace", desc := "(I)Ljava/lang/Throwable;" } : Jvm.MethodName) ({ cls := "java/lang/Throwable", name := "fillInStackTrace", desc := "(I)Ljava/lang/Throwable;" } : Jvm.MethodName)) ∈ lw_all := lw_g (lw_at lw_m2 135 rfl) rfl
theorem q482 : (Jvm.Cond.selects "java/util/NoSuchElementException" ({ cls := "java/lang/Throwable", name := "fillInStackTrace", desc := "()Ljava/lang/Throwable;" } : Jvm.MethodName) ({ cls := "java/lang/Throwable", name := "fillInStackTrace", desc := "()Ljava/lang/Throwable;" } : Jvm.MethodName)) ∈ lw_all := lw_g (lw_at lw_m2 136 rfl) rfl
theorem q483 : (Jvm.Cond.lays "java/util/NoSuchElementException" "java/lang/Throwable" "cause" "Ljava/lang/Throwable;") ∈ lw_all := lw_g (lw_at lw_m2 137 rfl) rfl
theorem q485 : (Jvm.Cond.lays "java/util/NoSuchElementException" "java/lang/Throwable" "stackTrace" "[Ljava/lang/StackTraceElement;") ∈ lw_all := lw_g (lw_at lw_m2 139 rfl) rfl
theorem q487 : (Jvm.Cond.lays "java/util/NoSuchElementException" "java/lang/Throwable" "suppressedExceptions" "Ljava/util/List;") ∈ lw_all := lw_g (lw_at lw_m2 141 rfl) rfl
theorem q489 : (Jvm.Cond.lays "java/util/NoSuchElementException" "java/lang/Throwable" "detailMessage" "Ljava/lang/String;") ∈ lw_all := lw_g (lw_at lw_m2 143 rfl) rfl
theorem q491 : (Jvm.Cond.lays "java/util/NoSuchElementException" "java/lang/Throwable" "backtrace" "Ljava/lang/Object;") ∈ lw_all := lw_g (lw_at lw_m2 145 rfl) rfl
theorem q513 : (Jvm.Cond.instanceMethod ({ cls := "java/util/NoSuchElementException", name := "<init>", desc := "()V" } : Jvm.MethodName)) ∈ lw_all := lw_g (lw_at lw_m2 167 rfl) rfl
theorem q514 : (Jvm.Cond.code ({ cls := "java/util/NoSuchElementException", name := "<init>", desc := "()V" } : Jvm.MethodName) prog_74_method_1_code (1 : Nat) (Option.none : Option Jvm.ClassFile.FieldType)) ∈ lw_all := lw_g (lw_at lw_m2 168 rfl) rfl
theorem q515 : (Jvm.Cond.methodLink "java/util/NoSuchElementException" (1 : Nat) ({ cls := "java/lang/RuntimeException", name := "<init>", desc := "()V" } : Jvm.MethodName)) ∈ lw_all := lw_g (lw_at lw_m2 169 rfl) rfl
theorem q531 : (Jvm.Cond.lays "java/util/NoSuchElementException" "java/lang/Throwable" "depth" "I") ∈ lw_all := lw_g (lw_at lw_m2 185 rfl) rfl
theorem q534 : (Jvm.Cond.superclass "java/util/NoSuchElementException" "java/lang/RuntimeException") ∈ lw_all := lw_g (lw_at lw_m2 188 rfl) rfl
theorem q638 : (Jvm.Cond.selects "java/util/NoSuchElementException" ({ cls := "java/lang/Object", name := "getClass", desc := "()Ljava/lang/Class;" } : Jvm.MethodName) ({ cls := "java/lang/Object", name := "getClass", desc := "()Ljava/lang/Class;" } : Jvm.MethodName)) ∈ lw_all := lw_g (lw_at lw_m3 52 rfl) rfl
theorem q3591 : (Jvm.Cond.castable "java/util/NoSuchElementException" "java/lang/Object") ∈ lw_tbl := lw_at lw_m15 125 rfl
theorem in_J15 : ∀ w ∈ wsJ150, w ∈ lw_all := lw_in wsJ150 [483, 485, 487, 489, 491, 531] (by decide +kernel) (by decide +kernel)
/-! jdk/internal/util/ArraysSupport -/
set_option maxRecDepth 100000
def RJ16 : String := "jdk/internal/util/ArraysSupport"
abbrev cJ16_newLength : ByteArray := prog_84_method_27_code
def yJ16_newLength : MethodName := ⟨RJ16, "newLength", "(III)I"⟩
def dkwJ16_newLength_1 : List UInt8 := [184, 0, 201, 172]
abbrev dktJ16_newLength_1 : List UInt8 := dkwJ16_newLength_1 ++ []
def dkwJ16_newLength_0 : List UInt8 := [26, 27, 28, 184, 0, 194, 96, 62, 3, 29, 162, 0, 11, 29, 18, 200, 163, 0, 5, 29, 172, 26, 27]
abbrev dktJ16_newLength_0 : List UInt8 := dkwJ16_newLength_0 ++ dktJ16_newLength_1
theorem dksJ16_newLength_0 : cJ16_newLength.data.toList.drop 0 = dktJ16_newLength_0 := by decide +kernel
theorem dksJ16_newLength_1 : cJ16_newLength.data.toList.drop 23 = dktJ16_newLength_1 := dk_seg dksJ16_newLength_0 23 rfl rfl
theorem dJ16_newLength_0 : decode cJ16_newLength 0 = .ok (.iload_n 0, 1) := dk_26 (dk_at dksJ16_newLength_0 0 rfl rfl)
theorem dJ16_newLength_1 : decode cJ16_newLength 1 = .ok (.iload_n 1, 1) := dk_27 (dk_at dksJ16_newLength_0 1 rfl rfl)
theorem dJ16_newLength_2 : decode cJ16_newLength 2 = .ok (.iload_n 2, 1) := dk_28 (dk_at dksJ16_newLength_0 2 rfl rfl)
theorem dJ16_newLength_3 : decode cJ16_newLength 3 = .ok (.invokestatic 194, 3) := dk_184 0 194 (dk_at dksJ16_newLength_0 3 rfl rfl)
theorem dJ16_newLength_6 : decode cJ16_newLength 6 = .ok (.iadd, 1) := dk_96 (dk_at dksJ16_newLength_0 6 rfl rfl)
theorem dJ16_newLength_7 : decode cJ16_newLength 7 = .ok (.istore_n 3, 1) := dk_62 (dk_at dksJ16_newLength_0 7 rfl rfl)
theorem dJ16_newLength_8 : decode cJ16_newLength 8 = .ok (.iconst 0, 1) := dk_3 (dk_at dksJ16_newLength_0 8 rfl rfl)
theorem dJ16_newLength_9 : decode cJ16_newLength 9 = .ok (.iload_n 3, 1) := dk_29 (dk_at dksJ16_newLength_0 9 rfl rfl)
theorem dJ16_newLength_10 : decode cJ16_newLength 10 = .ok (.if_icmp .ge 11, 3) := dk_162 0 11 (dk_at dksJ16_newLength_0 10 rfl rfl)
theorem dJ16_newLength_13 : decode cJ16_newLength 13 = .ok (.iload_n 3, 1) := dk_29 (dk_at dksJ16_newLength_0 13 rfl rfl)
theorem dJ16_newLength_14 : decode cJ16_newLength 14 = .ok (.ldc 200, 2) := dk_18 200 (dk_at dksJ16_newLength_0 14 rfl rfl)
theorem dJ16_newLength_16 : decode cJ16_newLength 16 = .ok (.if_icmp .gt 5, 3) := dk_163 0 5 (dk_at dksJ16_newLength_0 16 rfl rfl)
theorem dJ16_newLength_19 : decode cJ16_newLength 19 = .ok (.iload_n 3, 1) := dk_29 (dk_at dksJ16_newLength_0 19 rfl rfl)
theorem dJ16_newLength_20 : decode cJ16_newLength 20 = .ok (.ireturn, 1) := dk_172 (dk_at dksJ16_newLength_0 20 rfl rfl)
theorem dJ16_newLength_21 : decode cJ16_newLength 21 = .ok (.iload_n 0, 1) := dk_26 (dk_at dksJ16_newLength_0 21 rfl rfl)
theorem dJ16_newLength_22 : decode cJ16_newLength 22 = .ok (.iload_n 1, 1) := dk_27 (dk_at dksJ16_newLength_0 22 rfl rfl)
theorem dJ16_newLength_23 : decode cJ16_newLength 23 = .ok (.invokestatic 201, 3) := dk_184 0 201 (dk_at dksJ16_newLength_1 0 rfl rfl)
theorem dJ16_newLength_26 : decode cJ16_newLength 26 = .ok (.ireturn, 1) := dk_172 (dk_at dksJ16_newLength_1 3 rfl rfl)
abbrev cJ16_hugeLength : ByteArray := prog_84_method_28_code
def yJ16_hugeLength : MethodName := ⟨RJ16, "hugeLength", "(II)I"⟩
def dkwJ16_hugeLength_2 : List UInt8 := [191, 28, 18, 200, 163, 0, 6, 18, 200, 172, 28, 172]
abbrev dktJ16_hugeLength_2 : List UInt8 := dkwJ16_hugeLength_2 ++ []
def dkwJ16_hugeLength_1 : List UInt8 := [26, 182, 0, 98, 18, 208, 182, 0, 94, 27, 182, 0, 98, 18, 210, 182, 0, 94, 182, 0, 101, 183, 0, 212]
abbrev dktJ16_hugeLength_1 : List UInt8 := dkwJ16_hugeLength_1 ++ dktJ16_hugeLength_2
def dkwJ16_hugeLength_0 : List UInt8 := [26, 27, 96, 61, 28, 156, 0, 44, 187, 0, 204, 89, 187, 0, 89, 89, 183, 0, 91, 18, 206, 182, 0, 94]
abbrev dktJ16_hugeLength_0 : List UInt8 := dkwJ16_hugeLength_0 ++ dktJ16_hugeLength_1
theorem dksJ16_hugeLength_0 : cJ16_hugeLength.data.toList.drop 0 = dktJ16_hugeLength_0 := by decide +kernel
theorem dksJ16_hugeLength_1 : cJ16_hugeLength.data.toList.drop 24 = dktJ16_hugeLength_1 := dk_seg dksJ16_hugeLength_0 24 rfl rfl
theorem dksJ16_hugeLength_2 : cJ16_hugeLength.data.toList.drop 48 = dktJ16_hugeLength_2 := dk_seg dksJ16_hugeLength_1 24 rfl rfl
theorem dJ16_hugeLength_0 : decode cJ16_hugeLength 0 = .ok (.iload_n 0, 1) := dk_26 (dk_at dksJ16_hugeLength_0 0 rfl rfl)
theorem dJ16_hugeLength_1 : decode cJ16_hugeLength 1 = .ok (.iload_n 1, 1) := dk_27 (dk_at dksJ16_hugeLength_0 1 rfl rfl)
theorem dJ16_hugeLength_2 : decode cJ16_hugeLength 2 = .ok (.iadd, 1) := dk_96 (dk_at dksJ16_hugeLength_0 2 rfl rfl)
theorem dJ16_hugeLength_3 : decode cJ16_hugeLength 3 = .ok (.istore_n 2, 1) := dk_61 (dk_at dksJ16_hugeLength_0 3 rfl rfl)
theorem dJ16_hugeLength_4 : decode cJ16_hugeLength 4 = .ok (.iload_n 2, 1) := dk_28 (dk_at dksJ16_hugeLength_0 4 rfl rfl)
theorem dJ16_hugeLength_5 : decode cJ16_hugeLength 5 = .ok (.ifCond .ge 44, 3) := dk_156 0 44 (dk_at dksJ16_hugeLength_0 5 rfl rfl)
theorem dJ16_hugeLength_8 : decode cJ16_hugeLength 8 = .ok (.new 204, 3) := dk_187 0 204 (dk_at dksJ16_hugeLength_0 8 rfl rfl)
theorem dJ16_hugeLength_11 : decode cJ16_hugeLength 11 = .ok (.dup, 1) := dk_89 (dk_at dksJ16_hugeLength_0 11 rfl rfl)
theorem dJ16_hugeLength_12 : decode cJ16_hugeLength 12 = .ok (.new 89, 3) := dk_187 0 89 (dk_at dksJ16_hugeLength_0 12 rfl rfl)
theorem dJ16_hugeLength_15 : decode cJ16_hugeLength 15 = .ok (.dup, 1) := dk_89 (dk_at dksJ16_hugeLength_0 15 rfl rfl)
theorem dJ16_hugeLength_16 : decode cJ16_hugeLength 16 = .ok (.invokespecial 91, 3) := dk_183 0 91 (dk_at dksJ16_hugeLength_0 16 rfl rfl)
theorem dJ16_hugeLength_19 : decode cJ16_hugeLength 19 = .ok (.ldc 206, 2) := dk_18 206 (dk_at dksJ16_hugeLength_0 19 rfl rfl)
theorem dJ16_hugeLength_21 : decode cJ16_hugeLength 21 = .ok (.invokevirtual 94, 3) := dk_182 0 94 (dk_at dksJ16_hugeLength_0 21 rfl rfl)
theorem dJ16_hugeLength_24 : decode cJ16_hugeLength 24 = .ok (.iload_n 0, 1) := dk_26 (dk_at dksJ16_hugeLength_1 0 rfl rfl)
theorem dJ16_hugeLength_25 : decode cJ16_hugeLength 25 = .ok (.invokevirtual 98, 3) := dk_182 0 98 (dk_at dksJ16_hugeLength_1 1 rfl rfl)
theorem dJ16_hugeLength_28 : decode cJ16_hugeLength 28 = .ok (.ldc 208, 2) := dk_18 208 (dk_at dksJ16_hugeLength_1 4 rfl rfl)
theorem dJ16_hugeLength_30 : decode cJ16_hugeLength 30 = .ok (.invokevirtual 94, 3) := dk_182 0 94 (dk_at dksJ16_hugeLength_1 6 rfl rfl)
theorem dJ16_hugeLength_33 : decode cJ16_hugeLength 33 = .ok (.iload_n 1, 1) := dk_27 (dk_at dksJ16_hugeLength_1 9 rfl rfl)
theorem dJ16_hugeLength_34 : decode cJ16_hugeLength 34 = .ok (.invokevirtual 98, 3) := dk_182 0 98 (dk_at dksJ16_hugeLength_1 10 rfl rfl)
theorem dJ16_hugeLength_37 : decode cJ16_hugeLength 37 = .ok (.ldc 210, 2) := dk_18 210 (dk_at dksJ16_hugeLength_1 13 rfl rfl)
theorem dJ16_hugeLength_39 : decode cJ16_hugeLength 39 = .ok (.invokevirtual 94, 3) := dk_182 0 94 (dk_at dksJ16_hugeLength_1 15 rfl rfl)
theorem dJ16_hugeLength_42 : decode cJ16_hugeLength 42 = .ok (.invokevirtual 101, 3) := dk_182 0 101 (dk_at dksJ16_hugeLength_1 18 rfl rfl)
theorem dJ16_hugeLength_45 : decode cJ16_hugeLength 45 = .ok (.invokespecial 212, 3) := dk_183 0 212 (dk_at dksJ16_hugeLength_1 21 rfl rfl)
theorem dJ16_hugeLength_48 : decode cJ16_hugeLength 48 = .ok (.athrow, 1) := dk_191 (dk_at dksJ16_hugeLength_2 0 rfl rfl)
theorem dJ16_hugeLength_49 : decode cJ16_hugeLength 49 = .ok (.iload_n 2, 1) := dk_28 (dk_at dksJ16_hugeLength_2 1 rfl rfl)
theorem dJ16_hugeLength_50 : decode cJ16_hugeLength 50 = .ok (.ldc 200, 2) := dk_18 200 (dk_at dksJ16_hugeLength_2 2 rfl rfl)
theorem dJ16_hugeLength_52 : decode cJ16_hugeLength 52 = .ok (.if_icmp .gt 6, 3) := dk_163 0 6 (dk_at dksJ16_hugeLength_2 4 rfl rfl)
theorem dJ16_hugeLength_55 : decode cJ16_hugeLength 55 = .ok (.ldc 200, 2) := dk_18 200 (dk_at dksJ16_hugeLength_2 7 rfl rfl)
theorem dJ16_hugeLength_57 : decode cJ16_hugeLength 57 = .ok (.ireturn, 1) := dk_172 (dk_at dksJ16_hugeLength_2 9 rfl rfl)
theorem dJ16_hugeLength_58 : decode cJ16_hugeLength 58 = .ok (.iload_n 2, 1) := dk_28 (dk_at dksJ16_hugeLength_2 10 rfl rfl)
theorem dJ16_hugeLength_59 : decode cJ16_hugeLength 59 = .ok (.ireturn, 1) := dk_172 (dk_at dksJ16_hugeLength_2 11 rfl rfl)
abbrev cJ16_vectorizedHashCode : ByteArray := prog_84_method_4_code
def yJ16_vectorizedHashCode : MethodName := ⟨RJ16, "vectorizedHashCode", "(Ljava/lang/Object;IIII)I"⟩
def dkwJ16_vectorizedHashCode_6 : List UInt8 := [183, 0, 91, 18, 92, 182, 0, 94, 21, 4, 182, 0, 98, 182, 0, 101, 183, 0, 105, 191, 172]
abbrev dktJ16_vectorizedHashCode_6 : List UInt8 := dkwJ16_vectorizedHashCode_6 ++ []
def dkwJ16_vectorizedHashCode_5 : List UInt8 := [167, 0, 44, 29, 42, 192, 0, 82, 27, 28, 184, 0, 84, 167, 0, 31, 187, 0, 87, 89, 187, 0, 89, 89]
abbrev dktJ16_vectorizedHashCode_5 : List UInt8 := dkwJ16_vectorizedHashCode_5 ++ dktJ16_vectorizedHashCode_6
def dkwJ16_vectorizedHashCode_4 : List UInt8 := [29, 42, 192, 0, 60, 27, 28, 184, 0, 75, 167, 0, 57, 29, 42, 192, 0, 77, 27, 28, 184, 0, 79]
abbrev dktJ16_vectorizedHashCode_4 : List UInt8 := dkwJ16_vectorizedHashCode_4 ++ dktJ16_vectorizedHashCode_5
def dkwJ16_vectorizedHashCode_3 : List UInt8 := [192, 0, 60, 27, 28, 184, 0, 66, 167, 0, 83, 29, 42, 192, 0, 69, 27, 28, 184, 0, 71, 167, 0, 70]
abbrev dktJ16_vectorizedHashCode_3 : List UInt8 := dkwJ16_vectorizedHashCode_3 ++ dktJ16_vectorizedHashCode_4
def dkwJ16_vectorizedHashCode_2 : List UInt8 := [29, 42, 192, 0, 60, 27, 28, 184, 0, 62, 167, 0, 103, 42, 193, 0, 60, 153, 0, 16, 29, 42]
abbrev dktJ16_vectorizedHashCode_2 : List UInt8 := dkwJ16_vectorizedHashCode_2 ++ dktJ16_vectorizedHashCode_3
def dkwJ16_vectorizedHashCode_1 : List UInt8 := [170, 0, 0, 0, 0, 127, 0, 0, 0, 4, 0, 0, 0, 10, 0, 0, 0, 42, 0, 0, 0, 55, 0, 0, 0, 127, 0, 0, 0, 127, 0, 0, 0, 88, 0, 0, 0, 101, 0, 0, 0, 114]
abbrev dktJ16_vectorizedHashCode_1 : List UInt8 := dkwJ16_vectorizedHashCode_1 ++ dktJ16_vectorizedHashCode_2
def dkwJ16_vectorizedHashCode_0 : List UInt8 := [21, 4]
abbrev dktJ16_vectorizedHashCode_0 : List UInt8 := dkwJ16_vectorizedHashCode_0 ++ dktJ16_vectorizedHashCode_1
theorem dksJ16_vectorizedHashCode_0 : cJ16_vectorizedHashCode.data.toList.drop 0 = dktJ16_vectorizedHashCode_0 := by decide +kernel
theorem dksJ16_vectorizedHashCode_1 : cJ16_vectorizedHashCode.data.toList.drop 2 = dktJ16_vectorizedHashCode_1 := dk_seg dksJ16_vectorizedHashCode_0 2 rfl rfl
theorem dksJ16_vectorizedHashCode_2 : cJ16_vectorizedHashCode.data.toList.drop 44 = dktJ16_vectorizedHashCode_2 := dk_seg dksJ16_vectorizedHashCode_1 42 rfl rfl
theorem dksJ16_vectorizedHashCode_3 : cJ16_vectorizedHashCode.data.toList.drop 66 = dktJ16_vectorizedHashCode_3 := dk_seg dksJ16_vectorizedHashCode_2 22 rfl rfl
theorem dksJ16_vectorizedHashCode_4 : cJ16_vectorizedHashCode.data.toList.drop 90 = dktJ16_vectorizedHashCode_4 := dk_seg dksJ16_vectorizedHashCode_3 24 rfl rfl
theorem dksJ16_vectorizedHashCode_5 : cJ16_vectorizedHashCode.data.toList.drop 113 = dktJ16_vectorizedHashCode_5 := dk_seg dksJ16_vectorizedHashCode_4 23 rfl rfl
theorem dksJ16_vectorizedHashCode_6 : cJ16_vectorizedHashCode.data.toList.drop 137 = dktJ16_vectorizedHashCode_6 := dk_seg dksJ16_vectorizedHashCode_5 24 rfl rfl
theorem dJ16_vectorizedHashCode_0 : decode cJ16_vectorizedHashCode 0 = .ok (.iload 4, 2) := dk_21 4 (dk_at dksJ16_vectorizedHashCode_0 0 rfl rfl)
theorem dJ16_vectorizedHashCode_2 : decode cJ16_vectorizedHashCode 2 = .ok (.tableswitch 127 4 10 #[42, 55, 127, 127, 88, 101, 114], 42) := by decide +kernel
theorem dJ16_vectorizedHashCode_44 : decode cJ16_vectorizedHashCode 44 = .ok (.iload_n 3, 1) := dk_29 (dk_at dksJ16_vectorizedHashCode_2 0 rfl rfl)
theorem dJ16_vectorizedHashCode_45 : decode cJ16_vectorizedHashCode 45 = .ok (.aload_n 0, 1) := dk_42 (dk_at dksJ16_vectorizedHashCode_2 1 rfl rfl)
theorem dJ16_vectorizedHashCode_46 : decode cJ16_vectorizedHashCode 46 = .ok (.checkcast 60, 3) := dk_192 0 60 (dk_at dksJ16_vectorizedHashCode_2 2 rfl rfl)
theorem dJ16_vectorizedHashCode_49 : decode cJ16_vectorizedHashCode 49 = .ok (.iload_n 1, 1) := dk_27 (dk_at dksJ16_vectorizedHashCode_2 5 rfl rfl)
theorem dJ16_vectorizedHashCode_50 : decode cJ16_vectorizedHashCode 50 = .ok (.iload_n 2, 1) := dk_28 (dk_at dksJ16_vectorizedHashCode_2 6 rfl rfl)
theorem dJ16_vectorizedHashCode_51 : decode cJ16_vectorizedHashCode 51 = .ok (.invokestatic 62, 3) := dk_184 0 62 (dk_at dksJ16_vectorizedHashCode_2 7 rfl rfl)
theorem dJ16_vectorizedHashCode_54 : decode cJ16_vectorizedHashCode 54 = .ok (.goto 103, 3) := dk_167 0 103 (dk_at dksJ16_vectorizedHashCode_2 10 rfl rfl)
theorem dJ16_vectorizedHashCode_57 : decode cJ16_vectorizedHashCode 57 = .ok (.aload_n 0, 1) := dk_42 (dk_at dksJ16_vectorizedHashCode_2 13 rfl rfl)
theorem dJ16_vectorizedHashCode_58 : decode cJ16_vectorizedHashCode 58 = .ok (.instanceof 60, 3) := dk_193 0 60 (dk_at dksJ16_vectorizedHashCode_2 14 rfl rfl)
theorem dJ16_vectorizedHashCode_61 : decode cJ16_vectorizedHashCode 61 = .ok (.ifCond .eq 16, 3) := dk_153 0 16 (dk_at dksJ16_vectorizedHashCode_2 17 rfl rfl)
theorem dJ16_vectorizedHashCode_64 : decode cJ16_vectorizedHashCode 64 = .ok (.iload_n 3, 1) := dk_29 (dk_at dksJ16_vectorizedHashCode_2 20 rfl rfl)
theorem dJ16_vectorizedHashCode_65 : decode cJ16_vectorizedHashCode 65 = .ok (.aload_n 0, 1) := dk_42 (dk_at dksJ16_vectorizedHashCode_2 21 rfl rfl)
theorem dJ16_vectorizedHashCode_66 : decode cJ16_vectorizedHashCode 66 = .ok (.checkcast 60, 3) := dk_192 0 60 (dk_at dksJ16_vectorizedHashCode_3 0 rfl rfl)
theorem dJ16_vectorizedHashCode_69 : decode cJ16_vectorizedHashCode 69 = .ok (.iload_n 1, 1) := dk_27 (dk_at dksJ16_vectorizedHashCode_3 3 rfl rfl)
theorem dJ16_vectorizedHashCode_70 : decode cJ16_vectorizedHashCode 70 = .ok (.iload_n 2, 1) := dk_28 (dk_at dksJ16_vectorizedHashCode_3 4 rfl rfl)
theorem dJ16_vectorizedHashCode_71 : decode cJ16_vectorizedHashCode 71 = .ok (.invokestatic 66, 3) := dk_184 0 66 (dk_at dksJ16_vectorizedHashCode_3 5 rfl rfl)
theorem dJ16_vectorizedHashCode_74 : decode cJ16_vectorizedHashCode 74 = .ok (.goto 83, 3) := dk_167 0 83 (dk_at dksJ16_vectorizedHashCode_3 8 rfl rfl)
theorem dJ16_vectorizedHashCode_77 : decode cJ16_vectorizedHashCode 77 = .ok (.iload_n 3, 1) := dk_29 (dk_at dksJ16_vectorizedHashCode_3 11 rfl rfl)
theorem dJ16_vectorizedHashCode_78 : decode cJ16_vectorizedHashCode 78 = .ok (.aload_n 0, 1) := dk_42 (dk_at dksJ16_vectorizedHashCode_3 12 rfl rfl)
theorem dJ16_vectorizedHashCode_79 : decode cJ16_vectorizedHashCode 79 = .ok (.checkcast 69, 3) := dk_192 0 69 (dk_at dksJ16_vectorizedHashCode_3 13 rfl rfl)
theorem dJ16_vectorizedHashCode_82 : decode cJ16_vectorizedHashCode 82 = .ok (.iload_n 1, 1) := dk_27 (dk_at dksJ16_vectorizedHashCode_3 16 rfl rfl)
theorem dJ16_vectorizedHashCode_83 : decode cJ16_vectorizedHashCode 83 = .ok (.iload_n 2, 1) := dk_28 (dk_at dksJ16_vectorizedHashCode_3 17 rfl rfl)
theorem dJ16_vectorizedHashCode_84 : decode cJ16_vectorizedHashCode 84 = .ok (.invokestatic 71, 3) := dk_184 0 71 (dk_at dksJ16_vectorizedHashCode_3 18 rfl rfl)
theorem dJ16_vectorizedHashCode_87 : decode cJ16_vectorizedHashCode 87 = .ok (.goto 70, 3) := dk_167 0 70 (dk_at dksJ16_vectorizedHashCode_3 21 rfl rfl)
theorem dJ16_vectorizedHashCode_90 : decode cJ16_vectorizedHashCode 90 = .ok (.iload_n 3, 1) := dk_29 (dk_at dksJ16_vectorizedHashCode_4 0 rfl rfl)
theorem dJ16_vectorizedHashCode_91 : decode cJ16_vectorizedHashCode 91 = .ok (.aload_n 0, 1) := dk_42 (dk_at dksJ16_vectorizedHashCode_4 1 rfl rfl)
theorem dJ16_vectorizedHashCode_92 : decode cJ16_vectorizedHashCode 92 = .ok (.checkcast 60, 3) := dk_192 0 60 (dk_at dksJ16_vectorizedHashCode_4 2 rfl rfl)
theorem dJ16_vectorizedHashCode_95 : decode cJ16_vectorizedHashCode 95 = .ok (.iload_n 1, 1) := dk_27 (dk_at dksJ16_vectorizedHashCode_4 5 rfl rfl)
theorem dJ16_vectorizedHashCode_96 : decode cJ16_vectorizedHashCode 96 = .ok (.iload_n 2, 1) := dk_28 (dk_at dksJ16_vectorizedHashCode_4 6 rfl rfl)
theorem dJ16_vectorizedHashCode_97 : decode cJ16_vectorizedHashCode 97 = .ok (.invokestatic 75, 3) := dk_184 0 75 (dk_at dksJ16_vectorizedHashCode_4 7 rfl rfl)
theorem dJ16_vectorizedHashCode_100 : decode cJ16_vectorizedHashCode 100 = .ok (.goto 57, 3) := dk_167 0 57 (dk_at dksJ16_vectorizedHashCode_4 10 rfl rfl)
theorem dJ16_vectorizedHashCode_103 : decode cJ16_vectorizedHashCode 103 = .ok (.iload_n 3, 1) := dk_29 (dk_at dksJ16_vectorizedHashCode_4 13 rfl rfl)
theorem dJ16_vectorizedHashCode_104 : decode cJ16_vectorizedHashCode 104 = .ok (.aload_n 0, 1) := dk_42 (dk_at dksJ16_vectorizedHashCode_4 14 rfl rfl)
theorem dJ16_vectorizedHashCode_105 : decode cJ16_vectorizedHashCode 105 = .ok (.checkcast 77, 3) := dk_192 0 77 (dk_at dksJ16_vectorizedHashCode_4 15 rfl rfl)
theorem dJ16_vectorizedHashCode_108 : decode cJ16_vectorizedHashCode 108 = .ok (.iload_n 1, 1) := dk_27 (dk_at dksJ16_vectorizedHashCode_4 18 rfl rfl)
theorem dJ16_vectorizedHashCode_109 : decode cJ16_vectorizedHashCode 109 = .ok (.iload_n 2, 1) := dk_28 (dk_at dksJ16_vectorizedHashCode_4 19 rfl rfl)
theorem dJ16_vectorizedHashCode_110 : decode cJ16_vectorizedHashCode 110 = .ok (.invokestatic 79, 3) := dk_184 0 79 (dk_at dksJ16_vectorizedHashCode_4 20 rfl rfl)
theorem dJ16_vectorizedHashCode_113 : decode cJ16_vectorizedHashCode 113 = .ok (.goto 44, 3) := dk_167 0 44 (dk_at dksJ16_vectorizedHashCode_5 0 rfl rfl)
theorem dJ16_vectorizedHashCode_116 : decode cJ16_vectorizedHashCode 116 = .ok (.iload_n 3, 1) := dk_29 (dk_at dksJ16_vectorizedHashCode_5 3 rfl rfl)
theorem dJ16_vectorizedHashCode_117 : decode cJ16_vectorizedHashCode 117 = .ok (.aload_n 0, 1) := dk_42 (dk_at dksJ16_vectorizedHashCode_5 4 rfl rfl)
theorem dJ16_vectorizedHashCode_118 : decode cJ16_vectorizedHashCode 118 = .ok (.checkcast 82, 3) := dk_192 0 82 (dk_at dksJ16_vectorizedHashCode_5 5 rfl rfl)
theorem dJ16_vectorizedHashCode_121 : decode cJ16_vectorizedHashCode 121 = .ok (.iload_n 1, 1) := dk_27 (dk_at dksJ16_vectorizedHashCode_5 8 rfl rfl)
theorem dJ16_vectorizedHashCode_122 : decode cJ16_vectorizedHashCode 122 = .ok (.iload_n 2, 1) := dk_28 (dk_at dksJ16_vectorizedHashCode_5 9 rfl rfl)
theorem dJ16_vectorizedHashCode_123 : decode cJ16_vectorizedHashCode 123 = .ok (.invokestatic 84, 3) := dk_184 0 84 (dk_at dksJ16_vectorizedHashCode_5 10 rfl rfl)
theorem dJ16_vectorizedHashCode_126 : decode cJ16_vectorizedHashCode 126 = .ok (.goto 31, 3) := dk_167 0 31 (dk_at dksJ16_vectorizedHashCode_5 13 rfl rfl)
theorem dJ16_vectorizedHashCode_129 : decode cJ16_vectorizedHashCode 129 = .ok (.new 87, 3) := dk_187 0 87 (dk_at dksJ16_vectorizedHashCode_5 16 rfl rfl)
theorem dJ16_vectorizedHashCode_132 : decode cJ16_vectorizedHashCode 132 = .ok (.dup, 1) := dk_89 (dk_at dksJ16_vectorizedHashCode_5 19 rfl rfl)
theorem dJ16_vectorizedHashCode_133 : decode cJ16_vectorizedHashCode 133 = .ok (.new 89, 3) := dk_187 0 89 (dk_at dksJ16_vectorizedHashCode_5 20 rfl rfl)
theorem dJ16_vectorizedHashCode_136 : decode cJ16_vectorizedHashCode 136 = .ok (.dup, 1) := dk_89 (dk_at dksJ16_vectorizedHashCode_5 23 rfl rfl)
theorem dJ16_vectorizedHashCode_137 : decode cJ16_vectorizedHashCode 137 = .ok (.invokespecial 91, 3) := dk_183 0 91 (dk_at dksJ16_vectorizedHashCode_6 0 rfl rfl)
theorem dJ16_vectorizedHashCode_140 : decode cJ16_vectorizedHashCode 140 = .ok (.ldc 92, 2) := dk_18 92 (dk_at dksJ16_vectorizedHashCode_6 3 rfl rfl)
theorem dJ16_vectorizedHashCode_142 : decode cJ16_vectorizedHashCode 142 = .ok (.invokevirtual 94, 3) := dk_182 0 94 (dk_at dksJ16_vectorizedHashCode_6 5 rfl rfl)
theorem dJ16_vectorizedHashCode_145 : decode cJ16_vectorizedHashCode 145 = .ok (.iload 4, 2) := dk_21 4 (dk_at dksJ16_vectorizedHashCode_6 8 rfl rfl)
theorem dJ16_vectorizedHashCode_147 : decode cJ16_vectorizedHashCode 147 = .ok (.invokevirtual 98, 3) := dk_182 0 98 (dk_at dksJ16_vectorizedHashCode_6 10 rfl rfl)
theorem dJ16_vectorizedHashCode_150 : decode cJ16_vectorizedHashCode 150 = .ok (.invokevirtual 101, 3) := dk_182 0 101 (dk_at dksJ16_vectorizedHashCode_6 13 rfl rfl)
theorem dJ16_vectorizedHashCode_153 : decode cJ16_vectorizedHashCode 153 = .ok (.invokespecial 105, 3) := dk_183 0 105 (dk_at dksJ16_vectorizedHashCode_6 16 rfl rfl)
theorem dJ16_vectorizedHashCode_156 : decode cJ16_vectorizedHashCode 156 = .ok (.athrow, 1) := dk_191 (dk_at dksJ16_vectorizedHashCode_6 19 rfl rfl)
theorem dJ16_vectorizedHashCode_157 : decode cJ16_vectorizedHashCode 157 = .ok (.ireturn, 1) := dk_172 (dk_at dksJ16_vectorizedHashCode_6 20 rfl rfl)
abbrev cJ16_signedHashCode : ByteArray := prog_84_method_5_code
def yJ16_signedHashCode : MethodName := ⟨RJ16, "signedHashCode", "(I[BII)I"⟩
def dkwJ16_signedHashCode_1 : List UInt8 := [17, 0, 255, 126, 96, 59, 132, 5, 1, 167, 255, 232, 26, 172]
abbrev dktJ16_signedHashCode_1 : List UInt8 := dkwJ16_signedHashCode_1 ++ []
def dkwJ16_signedHashCode_0 : List UInt8 := [28, 29, 96, 54, 4, 28, 54, 5, 21, 5, 21, 4, 162, 0, 23, 16, 31, 26, 104, 43, 21, 5, 51]
abbrev dktJ16_signedHashCode_0 : List UInt8 := dkwJ16_signedHashCode_0 ++ dktJ16_signedHashCode_1
theorem dksJ16_signedHashCode_0 : cJ16_signedHashCode.data.toList.drop 0 = dktJ16_signedHashCode_0 := by decide +kernel
theorem dksJ16_signedHashCode_1 : cJ16_signedHashCode.data.toList.drop 23 = dktJ16_signedHashCode_1 := dk_seg dksJ16_signedHashCode_0 23 rfl rfl
theorem dJ16_signedHashCode_0 : decode cJ16_signedHashCode 0 = .ok (.iload_n 2, 1) := dk_28 (dk_at dksJ16_signedHashCode_0 0 rfl rfl)
theorem dJ16_signedHashCode_1 : decode cJ16_signedHashCode 1 = .ok (.iload_n 3, 1) := dk_29 (dk_at dksJ16_signedHashCode_0 1 rfl rfl)
theorem dJ16_signedHashCode_2 : decode cJ16_signedHashCode 2 = .ok (.iadd, 1) := dk_96 (dk_at dksJ16_signedHashCode_0 2 rfl rfl)
theorem dJ16_signedHashCode_3 : decode cJ16_signedHashCode 3 = .ok (.istore 4, 2) := dk_54 4 (dk_at dksJ16_signedHashCode_0 3 rfl rfl)
theorem dJ16_signedHashCode_5 : decode cJ16_signedHashCode 5 = .ok (.iload_n 2, 1) := dk_28 (dk_at dksJ16_signedHashCode_0 5 rfl rfl)
theorem dJ16_signedHashCode_6 : decode cJ16_signedHashCode 6 = .ok (.istore 5, 2) := dk_54 5 (dk_at dksJ16_signedHashCode_0 6 rfl rfl)
theorem dJ16_signedHashCode_8 : decode cJ16_signedHashCode 8 = .ok (.iload 5, 2) := dk_21 5 (dk_at dksJ16_signedHashCode_0 8 rfl rfl)
theorem dJ16_signedHashCode_10 : decode cJ16_signedHashCode 10 = .ok (.iload 4, 2) := dk_21 4 (dk_at dksJ16_signedHashCode_0 10 rfl rfl)
theorem dJ16_signedHashCode_12 : decode cJ16_signedHashCode 12 = .ok (.if_icmp .ge 23, 3) := dk_162 0 23 (dk_at dksJ16_signedHashCode_0 12 rfl rfl)
theorem dJ16_signedHashCode_15 : decode cJ16_signedHashCode 15 = .ok (.bipush 31, 2) := dk_16 31 (dk_at dksJ16_signedHashCode_0 15 rfl rfl)
theorem dJ16_signedHashCode_17 : decode cJ16_signedHashCode 17 = .ok (.iload_n 0, 1) := dk_26 (dk_at dksJ16_signedHashCode_0 17 rfl rfl)
theorem dJ16_signedHashCode_18 : decode cJ16_signedHashCode 18 = .ok (.imul, 1) := dk_104 (dk_at dksJ16_signedHashCode_0 18 rfl rfl)
theorem dJ16_signedHashCode_19 : decode cJ16_signedHashCode 19 = .ok (.aload_n 1, 1) := dk_43 (dk_at dksJ16_signedHashCode_0 19 rfl rfl)
theorem dJ16_signedHashCode_20 : decode cJ16_signedHashCode 20 = .ok (.iload 5, 2) := dk_21 5 (dk_at dksJ16_signedHashCode_0 20 rfl rfl)
theorem dJ16_signedHashCode_22 : decode cJ16_signedHashCode 22 = .ok (.baload, 1) := dk_51 (dk_at dksJ16_signedHashCode_0 22 rfl rfl)
theorem dJ16_signedHashCode_23 : decode cJ16_signedHashCode 23 = .ok (.sipush 255, 3) := dk_17 0 255 (dk_at dksJ16_signedHashCode_1 0 rfl rfl)
theorem dJ16_signedHashCode_26 : decode cJ16_signedHashCode 26 = .ok (.iand, 1) := dk_126 (dk_at dksJ16_signedHashCode_1 3 rfl rfl)
theorem dJ16_signedHashCode_27 : decode cJ16_signedHashCode 27 = .ok (.iadd, 1) := dk_96 (dk_at dksJ16_signedHashCode_1 4 rfl rfl)
theorem dJ16_signedHashCode_28 : decode cJ16_signedHashCode 28 = .ok (.istore_n 0, 1) := dk_59 (dk_at dksJ16_signedHashCode_1 5 rfl rfl)
theorem dJ16_signedHashCode_29 : decode cJ16_signedHashCode 29 = .ok (.iinc 5 1, 3) := dk_132 5 1 (dk_at dksJ16_signedHashCode_1 6 rfl rfl)
theorem dJ16_signedHashCode_32 : decode cJ16_signedHashCode 32 = .ok (.goto (-24), 3) := dk_167 255 232 (dk_at dksJ16_signedHashCode_1 9 rfl rfl)
theorem dJ16_signedHashCode_35 : decode cJ16_signedHashCode 35 = .ok (.iload_n 0, 1) := dk_26 (dk_at dksJ16_signedHashCode_1 12 rfl rfl)
theorem dJ16_signedHashCode_36 : decode cJ16_signedHashCode 36 = .ok (.ireturn, 1) := dk_172 (dk_at dksJ16_signedHashCode_1 13 rfl rfl)
abbrev cJ16_utf16hashCode : ByteArray := prog_84_method_10_code
def yJ16_utf16hashCode : MethodName := ⟨RJ16, "utf16hashCode", "(I[BII)I"⟩
def dkwJ16_utf16hashCode_1 : List UInt8 := [21, 5, 185, 0, 110, 3, 0, 96, 59, 132, 5, 1, 167, 255, 229, 26, 172]
abbrev dktJ16_utf16hashCode_1 : List UInt8 := dkwJ16_utf16hashCode_1 ++ []
def dkwJ16_utf16hashCode_0 : List UInt8 := [28, 29, 96, 54, 4, 28, 54, 5, 21, 5, 21, 4, 162, 0, 26, 16, 31, 26, 104, 178, 0, 106, 43]
abbrev dktJ16_utf16hashCode_0 : List UInt8 := dkwJ16_utf16hashCode_0 ++ dktJ16_utf16hashCode_1
theorem dksJ16_utf16hashCode_0 : cJ16_utf16hashCode.data.toList.drop 0 = dktJ16_utf16hashCode_0 := by decide +kernel
theorem dksJ16_utf16hashCode_1 : cJ16_utf16hashCode.data.toList.drop 23 = dktJ16_utf16hashCode_1 := dk_seg dksJ16_utf16hashCode_0 23 rfl rfl
theorem dJ16_utf16hashCode_0 : decode cJ16_utf16hashCode 0 = .ok (.iload_n 2, 1) := dk_28 (dk_at dksJ16_utf16hashCode_0 0 rfl rfl)
theorem dJ16_utf16hashCode_1 : decode cJ16_utf16hashCode 1 = .ok (.iload_n 3, 1) := dk_29 (dk_at dksJ16_utf16hashCode_0 1 rfl rfl)
theorem dJ16_utf16hashCode_2 : decode cJ16_utf16hashCode 2 = .ok (.iadd, 1) := dk_96 (dk_at dksJ16_utf16hashCode_0 2 rfl rfl)
theorem dJ16_utf16hashCode_3 : decode cJ16_utf16hashCode 3 = .ok (.istore 4, 2) := dk_54 4 (dk_at dksJ16_utf16hashCode_0 3 rfl rfl)
theorem dJ16_utf16hashCode_5 : decode cJ16_utf16hashCode 5 = .ok (.iload_n 2, 1) := dk_28 (dk_at dksJ16_utf16hashCode_0 5 rfl rfl)
theorem dJ16_utf16hashCode_6 : decode cJ16_utf16hashCode 6 = .ok (.istore 5, 2) := dk_54 5 (dk_at dksJ16_utf16hashCode_0 6 rfl rfl)
theorem dJ16_utf16hashCode_8 : decode cJ16_utf16hashCode 8 = .ok (.iload 5, 2) := dk_21 5 (dk_at dksJ16_utf16hashCode_0 8 rfl rfl)
theorem dJ16_utf16hashCode_10 : decode cJ16_utf16hashCode 10 = .ok (.iload 4, 2) := dk_21 4 (dk_at dksJ16_utf16hashCode_0 10 rfl rfl)
theorem dJ16_utf16hashCode_12 : decode cJ16_utf16hashCode 12 = .ok (.if_icmp .ge 26, 3) := dk_162 0 26 (dk_at dksJ16_utf16hashCode_0 12 rfl rfl)
theorem dJ16_utf16hashCode_15 : decode cJ16_utf16hashCode 15 = .ok (.bipush 31, 2) := dk_16 31 (dk_at dksJ16_utf16hashCode_0 15 rfl rfl)
theorem dJ16_utf16hashCode_17 : decode cJ16_utf16hashCode 17 = .ok (.iload_n 0, 1) := dk_26 (dk_at dksJ16_utf16hashCode_0 17 rfl rfl)
theorem dJ16_utf16hashCode_18 : decode cJ16_utf16hashCode 18 = .ok (.imul, 1) := dk_104 (dk_at dksJ16_utf16hashCode_0 18 rfl rfl)
theorem dJ16_utf16hashCode_19 : decode cJ16_utf16hashCode 19 = .ok (.getstatic 106, 3) := dk_178 0 106 (dk_at dksJ16_utf16hashCode_0 19 rfl rfl)
theorem dJ16_utf16hashCode_22 : decode cJ16_utf16hashCode 22 = .ok (.aload_n 1, 1) := dk_43 (dk_at dksJ16_utf16hashCode_0 22 rfl rfl)
theorem dJ16_utf16hashCode_23 : decode cJ16_utf16hashCode 23 = .ok (.iload 5, 2) := dk_21 5 (dk_at dksJ16_utf16hashCode_1 0 rfl rfl)
theorem dJ16_utf16hashCode_25 : decode cJ16_utf16hashCode 25 = .ok (.invokeinterface 110 3, 5) := by decide +kernel
theorem dJ16_utf16hashCode_30 : decode cJ16_utf16hashCode 30 = .ok (.iadd, 1) := dk_96 (dk_at dksJ16_utf16hashCode_1 7 rfl rfl)
theorem dJ16_utf16hashCode_31 : decode cJ16_utf16hashCode 31 = .ok (.istore_n 0, 1) := dk_59 (dk_at dksJ16_utf16hashCode_1 8 rfl rfl)
theorem dJ16_utf16hashCode_32 : decode cJ16_utf16hashCode 32 = .ok (.iinc 5 1, 3) := dk_132 5 1 (dk_at dksJ16_utf16hashCode_1 9 rfl rfl)
theorem dJ16_utf16hashCode_35 : decode cJ16_utf16hashCode 35 = .ok (.goto (-27), 3) := dk_167 255 229 (dk_at dksJ16_utf16hashCode_1 12 rfl rfl)
theorem dJ16_utf16hashCode_38 : decode cJ16_utf16hashCode 38 = .ok (.iload_n 0, 1) := dk_26 (dk_at dksJ16_utf16hashCode_1 15 rfl rfl)
theorem dJ16_utf16hashCode_39 : decode cJ16_utf16hashCode 39 = .ok (.ireturn, 1) := dk_172 (dk_at dksJ16_utf16hashCode_1 16 rfl rfl)
abbrev cJ16_hashCode : ByteArray := prog_84_method_7_code
def yJ16_hashCode : MethodName := ⟨RJ16, "hashCode", "(I[CII)I"⟩
def dkwJ16_hashCode_1 : List UInt8 := [59, 132, 5, 1, 167, 255, 236, 26, 172]
abbrev dktJ16_hashCode_1 : List UInt8 := dkwJ16_hashCode_1 ++ []
def dkwJ16_hashCode_0 : List UInt8 := [28, 29, 96, 54, 4, 28, 54, 5, 21, 5, 21, 4, 162, 0, 19, 16, 31, 26, 104, 43, 21, 5, 52, 96]
abbrev dktJ16_hashCode_0 : List UInt8 := dkwJ16_hashCode_0 ++ dktJ16_hashCode_1
theorem dksJ16_hashCode_0 : cJ16_hashCode.data.toList.drop 0 = dktJ16_hashCode_0 := by decide +kernel
theorem dksJ16_hashCode_1 : cJ16_hashCode.data.toList.drop 24 = dktJ16_hashCode_1 := dk_seg dksJ16_hashCode_0 24 rfl rfl
theorem dJ16_hashCode_0 : decode cJ16_hashCode 0 = .ok (.iload_n 2, 1) := dk_28 (dk_at dksJ16_hashCode_0 0 rfl rfl)
theorem dJ16_hashCode_1 : decode cJ16_hashCode 1 = .ok (.iload_n 3, 1) := dk_29 (dk_at dksJ16_hashCode_0 1 rfl rfl)
theorem dJ16_hashCode_2 : decode cJ16_hashCode 2 = .ok (.iadd, 1) := dk_96 (dk_at dksJ16_hashCode_0 2 rfl rfl)
theorem dJ16_hashCode_3 : decode cJ16_hashCode 3 = .ok (.istore 4, 2) := dk_54 4 (dk_at dksJ16_hashCode_0 3 rfl rfl)
theorem dJ16_hashCode_5 : decode cJ16_hashCode 5 = .ok (.iload_n 2, 1) := dk_28 (dk_at dksJ16_hashCode_0 5 rfl rfl)
theorem dJ16_hashCode_6 : decode cJ16_hashCode 6 = .ok (.istore 5, 2) := dk_54 5 (dk_at dksJ16_hashCode_0 6 rfl rfl)
theorem dJ16_hashCode_8 : decode cJ16_hashCode 8 = .ok (.iload 5, 2) := dk_21 5 (dk_at dksJ16_hashCode_0 8 rfl rfl)
theorem dJ16_hashCode_10 : decode cJ16_hashCode 10 = .ok (.iload 4, 2) := dk_21 4 (dk_at dksJ16_hashCode_0 10 rfl rfl)
theorem dJ16_hashCode_12 : decode cJ16_hashCode 12 = .ok (.if_icmp .ge 19, 3) := dk_162 0 19 (dk_at dksJ16_hashCode_0 12 rfl rfl)
theorem dJ16_hashCode_15 : decode cJ16_hashCode 15 = .ok (.bipush 31, 2) := dk_16 31 (dk_at dksJ16_hashCode_0 15 rfl rfl)
theorem dJ16_hashCode_17 : decode cJ16_hashCode 17 = .ok (.iload_n 0, 1) := dk_26 (dk_at dksJ16_hashCode_0 17 rfl rfl)
theorem dJ16_hashCode_18 : decode cJ16_hashCode 18 = .ok (.imul, 1) := dk_104 (dk_at dksJ16_hashCode_0 18 rfl rfl)
theorem dJ16_hashCode_19 : decode cJ16_hashCode 19 = .ok (.aload_n 1, 1) := dk_43 (dk_at dksJ16_hashCode_0 19 rfl rfl)
theorem dJ16_hashCode_20 : decode cJ16_hashCode 20 = .ok (.iload 5, 2) := dk_21 5 (dk_at dksJ16_hashCode_0 20 rfl rfl)
theorem dJ16_hashCode_22 : decode cJ16_hashCode 22 = .ok (.caload, 1) := dk_52 (dk_at dksJ16_hashCode_0 22 rfl rfl)
theorem dJ16_hashCode_23 : decode cJ16_hashCode 23 = .ok (.iadd, 1) := dk_96 (dk_at dksJ16_hashCode_0 23 rfl rfl)
theorem dJ16_hashCode_24 : decode cJ16_hashCode 24 = .ok (.istore_n 0, 1) := dk_59 (dk_at dksJ16_hashCode_1 0 rfl rfl)
theorem dJ16_hashCode_25 : decode cJ16_hashCode 25 = .ok (.iinc 5 1, 3) := dk_132 5 1 (dk_at dksJ16_hashCode_1 1 rfl rfl)
theorem dJ16_hashCode_28 : decode cJ16_hashCode 28 = .ok (.goto (-20), 3) := dk_167 255 236 (dk_at dksJ16_hashCode_1 4 rfl rfl)
theorem dJ16_hashCode_31 : decode cJ16_hashCode 31 = .ok (.iload_n 0, 1) := dk_26 (dk_at dksJ16_hashCode_1 7 rfl rfl)
theorem dJ16_hashCode_32 : decode cJ16_hashCode 32 = .ok (.ireturn, 1) := dk_172 (dk_at dksJ16_hashCode_1 8 rfl rfl)
abbrev cJ16_hashCode_2 : ByteArray := prog_84_method_6_code
def yJ16_hashCode_2 : MethodName := ⟨RJ16, "hashCode", "(I[BII)I"⟩
def dkwJ16_hashCode_2_1 : List UInt8 := [59, 132, 5, 1, 167, 255, 236, 26, 172]
abbrev dktJ16_hashCode_2_1 : List UInt8 := dkwJ16_hashCode_2_1 ++ []
def dkwJ16_hashCode_2_0 : List UInt8 := [28, 29, 96, 54, 4, 28, 54, 5, 21, 5, 21, 4, 162, 0, 19, 16, 31, 26, 104, 43, 21, 5, 51, 96]
abbrev dktJ16_hashCode_2_0 : List UInt8 := dkwJ16_hashCode_2_0 ++ dktJ16_hashCode_2_1
theorem dksJ16_hashCode_2_0 : cJ16_hashCode_2.data.toList.drop 0 = dktJ16_hashCode_2_0 := by decide +kernel
theorem dksJ16_hashCode_2_1 : cJ16_hashCode_2.data.toList.drop 24 = dktJ16_hashCode_2_1 := dk_seg dksJ16_hashCode_2_0 24 rfl rfl
theorem dJ16_hashCode_2_0 : decode cJ16_hashCode_2 0 = .ok (.iload_n 2, 1) := dk_28 (dk_at dksJ16_hashCode_2_0 0 rfl rfl)
theorem dJ16_hashCode_2_1 : decode cJ16_hashCode_2 1 = .ok (.iload_n 3, 1) := dk_29 (dk_at dksJ16_hashCode_2_0 1 rfl rfl)
theorem dJ16_hashCode_2_2 : decode cJ16_hashCode_2 2 = .ok (.iadd, 1) := dk_96 (dk_at dksJ16_hashCode_2_0 2 rfl rfl)
theorem dJ16_hashCode_2_3 : decode cJ16_hashCode_2 3 = .ok (.istore 4, 2) := dk_54 4 (dk_at dksJ16_hashCode_2_0 3 rfl rfl)
theorem dJ16_hashCode_2_5 : decode cJ16_hashCode_2 5 = .ok (.iload_n 2, 1) := dk_28 (dk_at dksJ16_hashCode_2_0 5 rfl rfl)
theorem dJ16_hashCode_2_6 : decode cJ16_hashCode_2 6 = .ok (.istore 5, 2) := dk_54 5 (dk_at dksJ16_hashCode_2_0 6 rfl rfl)
theorem dJ16_hashCode_2_8 : decode cJ16_hashCode_2 8 = .ok (.iload 5, 2) := dk_21 5 (dk_at dksJ16_hashCode_2_0 8 rfl rfl)
theorem dJ16_hashCode_2_10 : decode cJ16_hashCode_2 10 = .ok (.iload 4, 2) := dk_21 4 (dk_at dksJ16_hashCode_2_0 10 rfl rfl)
theorem dJ16_hashCode_2_12 : decode cJ16_hashCode_2 12 = .ok (.if_icmp .ge 19, 3) := dk_162 0 19 (dk_at dksJ16_hashCode_2_0 12 rfl rfl)
theorem dJ16_hashCode_2_15 : decode cJ16_hashCode_2 15 = .ok (.bipush 31, 2) := dk_16 31 (dk_at dksJ16_hashCode_2_0 15 rfl rfl)
theorem dJ16_hashCode_2_17 : decode cJ16_hashCode_2 17 = .ok (.iload_n 0, 1) := dk_26 (dk_at dksJ16_hashCode_2_0 17 rfl rfl)
theorem dJ16_hashCode_2_18 : decode cJ16_hashCode_2 18 = .ok (.imul, 1) := dk_104 (dk_at dksJ16_hashCode_2_0 18 rfl rfl)
theorem dJ16_hashCode_2_19 : decode cJ16_hashCode_2 19 = .ok (.aload_n 1, 1) := dk_43 (dk_at dksJ16_hashCode_2_0 19 rfl rfl)
theorem dJ16_hashCode_2_20 : decode cJ16_hashCode_2 20 = .ok (.iload 5, 2) := dk_21 5 (dk_at dksJ16_hashCode_2_0 20 rfl rfl)
theorem dJ16_hashCode_2_22 : decode cJ16_hashCode_2 22 = .ok (.baload, 1) := dk_51 (dk_at dksJ16_hashCode_2_0 22 rfl rfl)
theorem dJ16_hashCode_2_23 : decode cJ16_hashCode_2 23 = .ok (.iadd, 1) := dk_96 (dk_at dksJ16_hashCode_2_0 23 rfl rfl)
theorem dJ16_hashCode_2_24 : decode cJ16_hashCode_2 24 = .ok (.istore_n 0, 1) := dk_59 (dk_at dksJ16_hashCode_2_1 0 rfl rfl)
theorem dJ16_hashCode_2_25 : decode cJ16_hashCode_2 25 = .ok (.iinc 5 1, 3) := dk_132 5 1 (dk_at dksJ16_hashCode_2_1 1 rfl rfl)
theorem dJ16_hashCode_2_28 : decode cJ16_hashCode_2 28 = .ok (.goto (-20), 3) := dk_167 255 236 (dk_at dksJ16_hashCode_2_1 4 rfl rfl)
theorem dJ16_hashCode_2_31 : decode cJ16_hashCode_2 31 = .ok (.iload_n 0, 1) := dk_26 (dk_at dksJ16_hashCode_2_1 7 rfl rfl)
theorem dJ16_hashCode_2_32 : decode cJ16_hashCode_2 32 = .ok (.ireturn, 1) := dk_172 (dk_at dksJ16_hashCode_2_1 8 rfl rfl)
abbrev cJ16_hashCode_3 : ByteArray := prog_84_method_8_code
def yJ16_hashCode_3 : MethodName := ⟨RJ16, "hashCode", "(I[SII)I"⟩
def dkwJ16_hashCode_3_1 : List UInt8 := [59, 132, 5, 1, 167, 255, 236, 26, 172]
abbrev dktJ16_hashCode_3_1 : List UInt8 := dkwJ16_hashCode_3_1 ++ []
def dkwJ16_hashCode_3_0 : List UInt8 := [28, 29, 96, 54, 4, 28, 54, 5, 21, 5, 21, 4, 162, 0, 19, 16, 31, 26, 104, 43, 21, 5, 53, 96]
abbrev dktJ16_hashCode_3_0 : List UInt8 := dkwJ16_hashCode_3_0 ++ dktJ16_hashCode_3_1
theorem dksJ16_hashCode_3_0 : cJ16_hashCode_3.data.toList.drop 0 = dktJ16_hashCode_3_0 := by decide +kernel
theorem dksJ16_hashCode_3_1 : cJ16_hashCode_3.data.toList.drop 24 = dktJ16_hashCode_3_1 := dk_seg dksJ16_hashCode_3_0 24 rfl rfl
theorem dJ16_hashCode_3_0 : decode cJ16_hashCode_3 0 = .ok (.iload_n 2, 1) := dk_28 (dk_at dksJ16_hashCode_3_0 0 rfl rfl)
theorem dJ16_hashCode_3_1 : decode cJ16_hashCode_3 1 = .ok (.iload_n 3, 1) := dk_29 (dk_at dksJ16_hashCode_3_0 1 rfl rfl)
theorem dJ16_hashCode_3_2 : decode cJ16_hashCode_3 2 = .ok (.iadd, 1) := dk_96 (dk_at dksJ16_hashCode_3_0 2 rfl rfl)
theorem dJ16_hashCode_3_3 : decode cJ16_hashCode_3 3 = .ok (.istore 4, 2) := dk_54 4 (dk_at dksJ16_hashCode_3_0 3 rfl rfl)
theorem dJ16_hashCode_3_5 : decode cJ16_hashCode_3 5 = .ok (.iload_n 2, 1) := dk_28 (dk_at dksJ16_hashCode_3_0 5 rfl rfl)
theorem dJ16_hashCode_3_6 : decode cJ16_hashCode_3 6 = .ok (.istore 5, 2) := dk_54 5 (dk_at dksJ16_hashCode_3_0 6 rfl rfl)
theorem dJ16_hashCode_3_8 : decode cJ16_hashCode_3 8 = .ok (.iload 5, 2) := dk_21 5 (dk_at dksJ16_hashCode_3_0 8 rfl rfl)
theorem dJ16_hashCode_3_10 : decode cJ16_hashCode_3 10 = .ok (.iload 4, 2) := dk_21 4 (dk_at dksJ16_hashCode_3_0 10 rfl rfl)
theorem dJ16_hashCode_3_12 : decode cJ16_hashCode_3 12 = .ok (.if_icmp .ge 19, 3) := dk_162 0 19 (dk_at dksJ16_hashCode_3_0 12 rfl rfl)
theorem dJ16_hashCode_3_15 : decode cJ16_hashCode_3 15 = .ok (.bipush 31, 2) := dk_16 31 (dk_at dksJ16_hashCode_3_0 15 rfl rfl)
theorem dJ16_hashCode_3_17 : decode cJ16_hashCode_3 17 = .ok (.iload_n 0, 1) := dk_26 (dk_at dksJ16_hashCode_3_0 17 rfl rfl)
theorem dJ16_hashCode_3_18 : decode cJ16_hashCode_3 18 = .ok (.imul, 1) := dk_104 (dk_at dksJ16_hashCode_3_0 18 rfl rfl)
theorem dJ16_hashCode_3_19 : decode cJ16_hashCode_3 19 = .ok (.aload_n 1, 1) := dk_43 (dk_at dksJ16_hashCode_3_0 19 rfl rfl)
theorem dJ16_hashCode_3_20 : decode cJ16_hashCode_3 20 = .ok (.iload 5, 2) := dk_21 5 (dk_at dksJ16_hashCode_3_0 20 rfl rfl)
theorem dJ16_hashCode_3_22 : decode cJ16_hashCode_3 22 = .ok (.saload, 1) := dk_53 (dk_at dksJ16_hashCode_3_0 22 rfl rfl)
theorem dJ16_hashCode_3_23 : decode cJ16_hashCode_3 23 = .ok (.iadd, 1) := dk_96 (dk_at dksJ16_hashCode_3_0 23 rfl rfl)
theorem dJ16_hashCode_3_24 : decode cJ16_hashCode_3 24 = .ok (.istore_n 0, 1) := dk_59 (dk_at dksJ16_hashCode_3_1 0 rfl rfl)
theorem dJ16_hashCode_3_25 : decode cJ16_hashCode_3 25 = .ok (.iinc 5 1, 3) := dk_132 5 1 (dk_at dksJ16_hashCode_3_1 1 rfl rfl)
theorem dJ16_hashCode_3_28 : decode cJ16_hashCode_3 28 = .ok (.goto (-20), 3) := dk_167 255 236 (dk_at dksJ16_hashCode_3_1 4 rfl rfl)
theorem dJ16_hashCode_3_31 : decode cJ16_hashCode_3 31 = .ok (.iload_n 0, 1) := dk_26 (dk_at dksJ16_hashCode_3_1 7 rfl rfl)
theorem dJ16_hashCode_3_32 : decode cJ16_hashCode_3 32 = .ok (.ireturn, 1) := dk_172 (dk_at dksJ16_hashCode_3_1 8 rfl rfl)
abbrev cJ16_hashCode_4 : ByteArray := prog_84_method_9_code
def yJ16_hashCode_4 : MethodName := ⟨RJ16, "hashCode", "(I[III)I"⟩
def dkwJ16_hashCode_4_1 : List UInt8 := [59, 132, 5, 1, 167, 255, 236, 26, 172]
abbrev dktJ16_hashCode_4_1 : List UInt8 := dkwJ16_hashCode_4_1 ++ []
def dkwJ16_hashCode_4_0 : List UInt8 := [28, 29, 96, 54, 4, 28, 54, 5, 21, 5, 21, 4, 162, 0, 19, 16, 31, 26, 104, 43, 21, 5, 46, 96]
abbrev dktJ16_hashCode_4_0 : List UInt8 := dkwJ16_hashCode_4_0 ++ dktJ16_hashCode_4_1
theorem dksJ16_hashCode_4_0 : cJ16_hashCode_4.data.toList.drop 0 = dktJ16_hashCode_4_0 := by decide +kernel
theorem dksJ16_hashCode_4_1 : cJ16_hashCode_4.data.toList.drop 24 = dktJ16_hashCode_4_1 := dk_seg dksJ16_hashCode_4_0 24 rfl rfl
theorem dJ16_hashCode_4_0 : decode cJ16_hashCode_4 0 = .ok (.iload_n 2, 1) := dk_28 (dk_at dksJ16_hashCode_4_0 0 rfl rfl)
theorem dJ16_hashCode_4_1 : decode cJ16_hashCode_4 1 = .ok (.iload_n 3, 1) := dk_29 (dk_at dksJ16_hashCode_4_0 1 rfl rfl)
theorem dJ16_hashCode_4_2 : decode cJ16_hashCode_4 2 = .ok (.iadd, 1) := dk_96 (dk_at dksJ16_hashCode_4_0 2 rfl rfl)
theorem dJ16_hashCode_4_3 : decode cJ16_hashCode_4 3 = .ok (.istore 4, 2) := dk_54 4 (dk_at dksJ16_hashCode_4_0 3 rfl rfl)
theorem dJ16_hashCode_4_5 : decode cJ16_hashCode_4 5 = .ok (.iload_n 2, 1) := dk_28 (dk_at dksJ16_hashCode_4_0 5 rfl rfl)
theorem dJ16_hashCode_4_6 : decode cJ16_hashCode_4 6 = .ok (.istore 5, 2) := dk_54 5 (dk_at dksJ16_hashCode_4_0 6 rfl rfl)
theorem dJ16_hashCode_4_8 : decode cJ16_hashCode_4 8 = .ok (.iload 5, 2) := dk_21 5 (dk_at dksJ16_hashCode_4_0 8 rfl rfl)
theorem dJ16_hashCode_4_10 : decode cJ16_hashCode_4 10 = .ok (.iload 4, 2) := dk_21 4 (dk_at dksJ16_hashCode_4_0 10 rfl rfl)
theorem dJ16_hashCode_4_12 : decode cJ16_hashCode_4 12 = .ok (.if_icmp .ge 19, 3) := dk_162 0 19 (dk_at dksJ16_hashCode_4_0 12 rfl rfl)
theorem dJ16_hashCode_4_15 : decode cJ16_hashCode_4 15 = .ok (.bipush 31, 2) := dk_16 31 (dk_at dksJ16_hashCode_4_0 15 rfl rfl)
theorem dJ16_hashCode_4_17 : decode cJ16_hashCode_4 17 = .ok (.iload_n 0, 1) := dk_26 (dk_at dksJ16_hashCode_4_0 17 rfl rfl)
theorem dJ16_hashCode_4_18 : decode cJ16_hashCode_4 18 = .ok (.imul, 1) := dk_104 (dk_at dksJ16_hashCode_4_0 18 rfl rfl)
theorem dJ16_hashCode_4_19 : decode cJ16_hashCode_4 19 = .ok (.aload_n 1, 1) := dk_43 (dk_at dksJ16_hashCode_4_0 19 rfl rfl)
theorem dJ16_hashCode_4_20 : decode cJ16_hashCode_4 20 = .ok (.iload 5, 2) := dk_21 5 (dk_at dksJ16_hashCode_4_0 20 rfl rfl)
theorem dJ16_hashCode_4_22 : decode cJ16_hashCode_4 22 = .ok (.iaload, 1) := dk_46 (dk_at dksJ16_hashCode_4_0 22 rfl rfl)
theorem dJ16_hashCode_4_23 : decode cJ16_hashCode_4 23 = .ok (.iadd, 1) := dk_96 (dk_at dksJ16_hashCode_4_0 23 rfl rfl)
theorem dJ16_hashCode_4_24 : decode cJ16_hashCode_4 24 = .ok (.istore_n 0, 1) := dk_59 (dk_at dksJ16_hashCode_4_1 0 rfl rfl)
theorem dJ16_hashCode_4_25 : decode cJ16_hashCode_4 25 = .ok (.iinc 5 1, 3) := dk_132 5 1 (dk_at dksJ16_hashCode_4_1 1 rfl rfl)
theorem dJ16_hashCode_4_28 : decode cJ16_hashCode_4 28 = .ok (.goto (-20), 3) := dk_167 255 236 (dk_at dksJ16_hashCode_4_1 4 rfl rfl)
theorem dJ16_hashCode_4_31 : decode cJ16_hashCode_4 31 = .ok (.iload_n 0, 1) := dk_26 (dk_at dksJ16_hashCode_4_1 7 rfl rfl)
theorem dJ16_hashCode_4_32 : decode cJ16_hashCode_4 32 = .ok (.ireturn, 1) := dk_172 (dk_at dksJ16_hashCode_4_1 8 rfl rfl)
abbrev cJ16_mismatch : ByteArray := prog_84_method_13_code
def yJ16_mismatch : MethodName := ⟨RJ16, "mismatch", "([B[BI)I"⟩
def dkwJ16_mismatch_3 : List UInt8 := [172]
abbrev dktJ16_mismatch_3 : List UInt8 := dkwJ16_mismatch_3 ++ []
def dkwJ16_mismatch_2 : List UInt8 := [62, 29, 28, 162, 0, 20, 42, 29, 51, 43, 29, 51, 159, 0, 5, 29, 172, 132, 3, 1, 167, 255, 237, 2]
abbrev dktJ16_mismatch_2 : List UInt8 := dkwJ16_mismatch_2 ++ dktJ16_mismatch_3
def dkwJ16_mismatch_1 : List UInt8 := [43, 178, 0, 126, 133, 28, 178, 0, 129, 184, 0, 122, 62, 29, 155, 0, 5, 29, 172, 28, 29, 2, 130, 100]
abbrev dktJ16_mismatch_1 : List UInt8 := dkwJ16_mismatch_1 ++ dktJ16_mismatch_2
def dkwJ16_mismatch_0 : List UInt8 := [3, 62, 28, 16, 7, 164, 0, 44, 42, 3, 51, 43, 3, 51, 159, 0, 5, 3, 172, 42, 178, 0, 126, 133]
abbrev dktJ16_mismatch_0 : List UInt8 := dkwJ16_mismatch_0 ++ dktJ16_mismatch_1
theorem dksJ16_mismatch_0 : cJ16_mismatch.data.toList.drop 0 = dktJ16_mismatch_0 := by decide +kernel
theorem dksJ16_mismatch_1 : cJ16_mismatch.data.toList.drop 24 = dktJ16_mismatch_1 := dk_seg dksJ16_mismatch_0 24 rfl rfl
theorem dksJ16_mismatch_2 : cJ16_mismatch.data.toList.drop 48 = dktJ16_mismatch_2 := dk_seg dksJ16_mismatch_1 24 rfl rfl
theorem dksJ16_mismatch_3 : cJ16_mismatch.data.toList.drop 72 = dktJ16_mismatch_3 := dk_seg dksJ16_mismatch_2 24 rfl rfl
theorem dJ16_mismatch_0 : decode cJ16_mismatch 0 = .ok (.iconst 0, 1) := dk_3 (dk_at dksJ16_mismatch_0 0 rfl rfl)
theorem dJ16_mismatch_1 : decode cJ16_mismatch 1 = .ok (.istore_n 3, 1) := dk_62 (dk_at dksJ16_mismatch_0 1 rfl rfl)
theorem dJ16_mismatch_2 : decode cJ16_mismatch 2 = .ok (.iload_n 2, 1) := dk_28 (dk_at dksJ16_mismatch_0 2 rfl rfl)
theorem dJ16_mismatch_3 : decode cJ16_mismatch 3 = .ok (.bipush 7, 2) := dk_16 7 (dk_at dksJ16_mismatch_0 3 rfl rfl)
theorem dJ16_mismatch_5 : decode cJ16_mismatch 5 = .ok (.if_icmp .le 44, 3) := dk_164 0 44 (dk_at dksJ16_mismatch_0 5 rfl rfl)
theorem dJ16_mismatch_8 : decode cJ16_mismatch 8 = .ok (.aload_n 0, 1) := dk_42 (dk_at dksJ16_mismatch_0 8 rfl rfl)
theorem dJ16_mismatch_9 : decode cJ16_mismatch 9 = .ok (.iconst 0, 1) := dk_3 (dk_at dksJ16_mismatch_0 9 rfl rfl)
theorem dJ16_mismatch_10 : decode cJ16_mismatch 10 = .ok (.baload, 1) := dk_51 (dk_at dksJ16_mismatch_0 10 rfl rfl)
theorem dJ16_mismatch_11 : decode cJ16_mismatch 11 = .ok (.aload_n 1, 1) := dk_43 (dk_at dksJ16_mismatch_0 11 rfl rfl)
theorem dJ16_mismatch_12 : decode cJ16_mismatch 12 = .ok (.iconst 0, 1) := dk_3 (dk_at dksJ16_mismatch_0 12 rfl rfl)
theorem dJ16_mismatch_13 : decode cJ16_mismatch 13 = .ok (.baload, 1) := dk_51 (dk_at dksJ16_mismatch_0 13 rfl rfl)
theorem dJ16_mismatch_14 : decode cJ16_mismatch 14 = .ok (.if_icmp .eq 5, 3) := dk_159 0 5 (dk_at dksJ16_mismatch_0 14 rfl rfl)
theorem dJ16_mismatch_17 : decode cJ16_mismatch 17 = .ok (.iconst 0, 1) := dk_3 (dk_at dksJ16_mismatch_0 17 rfl rfl)
theorem dJ16_mismatch_18 : decode cJ16_mismatch 18 = .ok (.ireturn, 1) := dk_172 (dk_at dksJ16_mismatch_0 18 rfl rfl)
theorem dJ16_mismatch_19 : decode cJ16_mismatch 19 = .ok (.aload_n 0, 1) := dk_42 (dk_at dksJ16_mismatch_0 19 rfl rfl)
theorem dJ16_mismatch_20 : decode cJ16_mismatch 20 = .ok (.getstatic 126, 3) := dk_178 0 126 (dk_at dksJ16_mismatch_0 20 rfl rfl)
theorem dJ16_mismatch_23 : decode cJ16_mismatch 23 = .ok (.i2l, 1) := dk_133 (dk_at dksJ16_mismatch_0 23 rfl rfl)
theorem dJ16_mismatch_24 : decode cJ16_mismatch 24 = .ok (.aload_n 1, 1) := dk_43 (dk_at dksJ16_mismatch_1 0 rfl rfl)
theorem dJ16_mismatch_25 : decode cJ16_mismatch 25 = .ok (.getstatic 126, 3) := dk_178 0 126 (dk_at dksJ16_mismatch_1 1 rfl rfl)
theorem dJ16_mismatch_28 : decode cJ16_mismatch 28 = .ok (.i2l, 1) := dk_133 (dk_at dksJ16_mismatch_1 4 rfl rfl)
theorem dJ16_mismatch_29 : decode cJ16_mismatch 29 = .ok (.iload_n 2, 1) := dk_28 (dk_at dksJ16_mismatch_1 5 rfl rfl)
theorem dJ16_mismatch_30 : decode cJ16_mismatch 30 = .ok (.getstatic 129, 3) := dk_178 0 129 (dk_at dksJ16_mismatch_1 6 rfl rfl)
theorem dJ16_mismatch_33 : decode cJ16_mismatch 33 = .ok (.invokestatic 122, 3) := dk_184 0 122 (dk_at dksJ16_mismatch_1 9 rfl rfl)
theorem dJ16_mismatch_36 : decode cJ16_mismatch 36 = .ok (.istore_n 3, 1) := dk_62 (dk_at dksJ16_mismatch_1 12 rfl rfl)
theorem dJ16_mismatch_37 : decode cJ16_mismatch 37 = .ok (.iload_n 3, 1) := dk_29 (dk_at dksJ16_mismatch_1 13 rfl rfl)
theorem dJ16_mismatch_38 : decode cJ16_mismatch 38 = .ok (.ifCond .lt 5, 3) := dk_155 0 5 (dk_at dksJ16_mismatch_1 14 rfl rfl)
theorem dJ16_mismatch_41 : decode cJ16_mismatch 41 = .ok (.iload_n 3, 1) := dk_29 (dk_at dksJ16_mismatch_1 17 rfl rfl)
theorem dJ16_mismatch_42 : decode cJ16_mismatch 42 = .ok (.ireturn, 1) := dk_172 (dk_at dksJ16_mismatch_1 18 rfl rfl)
theorem dJ16_mismatch_43 : decode cJ16_mismatch 43 = .ok (.iload_n 2, 1) := dk_28 (dk_at dksJ16_mismatch_1 19 rfl rfl)
theorem dJ16_mismatch_44 : decode cJ16_mismatch 44 = .ok (.iload_n 3, 1) := dk_29 (dk_at dksJ16_mismatch_1 20 rfl rfl)
theorem dJ16_mismatch_45 : decode cJ16_mismatch 45 = .ok (.iconst (-1), 1) := dk_2 (dk_at dksJ16_mismatch_1 21 rfl rfl)
theorem dJ16_mismatch_46 : decode cJ16_mismatch 46 = .ok (.ixor, 1) := dk_130 (dk_at dksJ16_mismatch_1 22 rfl rfl)
theorem dJ16_mismatch_47 : decode cJ16_mismatch 47 = .ok (.isub, 1) := dk_100 (dk_at dksJ16_mismatch_1 23 rfl rfl)
theorem dJ16_mismatch_48 : decode cJ16_mismatch 48 = .ok (.istore_n 3, 1) := dk_62 (dk_at dksJ16_mismatch_2 0 rfl rfl)
theorem dJ16_mismatch_49 : decode cJ16_mismatch 49 = .ok (.iload_n 3, 1) := dk_29 (dk_at dksJ16_mismatch_2 1 rfl rfl)
theorem dJ16_mismatch_50 : decode cJ16_mismatch 50 = .ok (.iload_n 2, 1) := dk_28 (dk_at dksJ16_mismatch_2 2 rfl rfl)
theorem dJ16_mismatch_51 : decode cJ16_mismatch 51 = .ok (.if_icmp .ge 20, 3) := dk_162 0 20 (dk_at dksJ16_mismatch_2 3 rfl rfl)
theorem dJ16_mismatch_54 : decode cJ16_mismatch 54 = .ok (.aload_n 0, 1) := dk_42 (dk_at dksJ16_mismatch_2 6 rfl rfl)
theorem dJ16_mismatch_55 : decode cJ16_mismatch 55 = .ok (.iload_n 3, 1) := dk_29 (dk_at dksJ16_mismatch_2 7 rfl rfl)
theorem dJ16_mismatch_56 : decode cJ16_mismatch 56 = .ok (.baload, 1) := dk_51 (dk_at dksJ16_mismatch_2 8 rfl rfl)
theorem dJ16_mismatch_57 : decode cJ16_mismatch 57 = .ok (.aload_n 1, 1) := dk_43 (dk_at dksJ16_mismatch_2 9 rfl rfl)
theorem dJ16_mismatch_58 : decode cJ16_mismatch 58 = .ok (.iload_n 3, 1) := dk_29 (dk_at dksJ16_mismatch_2 10 rfl rfl)
theorem dJ16_mismatch_59 : decode cJ16_mismatch 59 = .ok (.baload, 1) := dk_51 (dk_at dksJ16_mismatch_2 11 rfl rfl)
theorem dJ16_mismatch_60 : decode cJ16_mismatch 60 = .ok (.if_icmp .eq 5, 3) := dk_159 0 5 (dk_at dksJ16_mismatch_2 12 rfl rfl)
theorem dJ16_mismatch_63 : decode cJ16_mismatch 63 = .ok (.iload_n 3, 1) := dk_29 (dk_at dksJ16_mismatch_2 15 rfl rfl)
theorem dJ16_mismatch_64 : decode cJ16_mismatch 64 = .ok (.ireturn, 1) := dk_172 (dk_at dksJ16_mismatch_2 16 rfl rfl)
theorem dJ16_mismatch_65 : decode cJ16_mismatch 65 = .ok (.iinc 3 1, 3) := dk_132 3 1 (dk_at dksJ16_mismatch_2 17 rfl rfl)
theorem dJ16_mismatch_68 : decode cJ16_mismatch 68 = .ok (.goto (-19), 3) := dk_167 255 237 (dk_at dksJ16_mismatch_2 20 rfl rfl)
theorem dJ16_mismatch_71 : decode cJ16_mismatch 71 = .ok (.iconst (-1), 1) := dk_2 (dk_at dksJ16_mismatch_2 23 rfl rfl)
theorem dJ16_mismatch_72 : decode cJ16_mismatch 72 = .ok (.ireturn, 1) := dk_172 (dk_at dksJ16_mismatch_3 0 rfl rfl)
abbrev cJ16_vectorizedMismatch : ByteArray := prog_84_method_3_code
def yJ16_vectorizedMismatch : MethodName := ⟨RJ16, "vectorizedMismatch", "(Ljava/lang/Object;JLjava/lang/Object;JII)I"⟩
def dkwJ16_vectorizedMismatch_11 : List UInt8 := [54, 10, 21, 10, 2, 130, 172, 21, 10, 2, 130, 172]
abbrev dktJ16_vectorizedMismatch_11 : List UInt8 := dkwJ16_vectorizedMismatch_11 ++ []
def dkwJ16_vectorizedMismatch_10 : List UInt8 := [178, 0, 46, 21, 7, 96, 122, 54, 17, 21, 9, 21, 8, 120, 21, 17, 96, 172, 21, 10, 21, 11, 100]
abbrev dktJ16_vectorizedMismatch_10 : List UInt8 := dkwJ16_vectorizedMismatch_10 ++ dktJ16_vectorizedMismatch_11
def dkwJ16_vectorizedMismatch_9 : List UInt8 := [153, 0, 18, 21, 16, 184, 0, 58, 178, 0, 46, 21, 7, 96, 122, 167, 0, 15, 21, 16, 184, 0, 11]
abbrev dktJ16_vectorizedMismatch_9 : List UInt8 := dkwJ16_vectorizedMismatch_9 ++ dktJ16_vectorizedMismatch_10
def dkwJ16_vectorizedMismatch_8 : List UInt8 := [182, 0, 54, 54, 15, 21, 14, 21, 15, 159, 0, 54, 21, 14, 21, 15, 130, 54, 16, 178, 0, 36]
abbrev dktJ16_vectorizedMismatch_8 : List UInt8 := dkwJ16_vectorizedMismatch_8 ++ dktJ16_vectorizedMismatch_9
def dkwJ16_vectorizedMismatch_7 : List UInt8 := [55, 12, 178, 0, 26, 42, 31, 22, 12, 97, 182, 0, 54, 54, 14, 178, 0, 26, 45, 22, 4, 22, 12, 97]
abbrev dktJ16_vectorizedMismatch_7 : List UInt8 := dkwJ16_vectorizedMismatch_7 ++ dktJ16_vectorizedMismatch_8
def dkwJ16_vectorizedMismatch_6 : List UInt8 := [4, 178, 0, 51, 21, 7, 100, 120, 54, 11, 21, 10, 21, 11, 161, 0, 104, 21, 9, 133, 178, 0, 20, 121]
abbrev dktJ16_vectorizedMismatch_6 : List UInt8 := dkwJ16_vectorizedMismatch_6 ++ dktJ16_vectorizedMismatch_7
def dkwJ16_vectorizedMismatch_5 : List UInt8 := [132, 9, 1, 167, 255, 148, 21, 6, 21, 9, 21, 8, 120, 100, 54, 10, 21, 7, 178, 0, 51, 162, 0, 126]
abbrev dktJ16_vectorizedMismatch_5 : List UInt8 := dkwJ16_vectorizedMismatch_5 ++ dktJ16_vectorizedMismatch_6
def dkwJ16_vectorizedMismatch_4 : List UInt8 := [22, 16, 184, 0, 49, 178, 0, 46, 21, 7, 96, 122, 54, 18, 21, 9, 21, 8, 120, 21, 18, 96, 172]
abbrev dktJ16_vectorizedMismatch_4 : List UInt8 := dkwJ16_vectorizedMismatch_4 ++ dktJ16_vectorizedMismatch_5
def dkwJ16_vectorizedMismatch_3 : List UInt8 := [55, 16, 178, 0, 36, 153, 0, 18, 22, 16, 184, 0, 40, 178, 0, 46, 21, 7, 96, 122, 167, 0, 15]
abbrev dktJ16_vectorizedMismatch_3 : List UInt8 := dkwJ16_vectorizedMismatch_3 ++ dktJ16_vectorizedMismatch_4
def dkwJ16_vectorizedMismatch_2 : List UInt8 := [22, 4, 22, 10, 97, 182, 0, 30, 55, 14, 22, 12, 22, 14, 148, 153, 0, 54, 22, 12, 22, 14, 131]
abbrev dktJ16_vectorizedMismatch_2 : List UInt8 := dkwJ16_vectorizedMismatch_2 ++ dktJ16_vectorizedMismatch_3
def dkwJ16_vectorizedMismatch_1 : List UInt8 := [178, 0, 20, 121, 55, 10, 178, 0, 26, 42, 31, 22, 10, 97, 182, 0, 30, 55, 12, 178, 0, 26, 45]
abbrev dktJ16_vectorizedMismatch_1 : List UInt8 := dkwJ16_vectorizedMismatch_1 ++ dktJ16_vectorizedMismatch_2
def dkwJ16_vectorizedMismatch_0 : List UInt8 := [178, 0, 20, 21, 7, 100, 54, 8, 3, 54, 9, 21, 9, 21, 6, 21, 8, 122, 162, 0, 104, 21, 9, 133]
abbrev dktJ16_vectorizedMismatch_0 : List UInt8 := dkwJ16_vectorizedMismatch_0 ++ dktJ16_vectorizedMismatch_1
theorem dksJ16_vectorizedMismatch_0 : cJ16_vectorizedMismatch.data.toList.drop 0 = dktJ16_vectorizedMismatch_0 := by decide +kernel
theorem dksJ16_vectorizedMismatch_1 : cJ16_vectorizedMismatch.data.toList.drop 24 = dktJ16_vectorizedMismatch_1 := dk_seg dksJ16_vectorizedMismatch_0 24 rfl rfl
theorem dksJ16_vectorizedMismatch_2 : cJ16_vectorizedMismatch.data.toList.drop 47 = dktJ16_vectorizedMismatch_2 := dk_seg dksJ16_vectorizedMismatch_1 23 rfl rfl
theorem dksJ16_vectorizedMismatch_3 : cJ16_vectorizedMismatch.data.toList.drop 70 = dktJ16_vectorizedMismatch_3 := dk_seg dksJ16_vectorizedMismatch_2 23 rfl rfl
theorem dksJ16_vectorizedMismatch_4 : cJ16_vectorizedMismatch.data.toList.drop 93 = dktJ16_vectorizedMismatch_4 := dk_seg dksJ16_vectorizedMismatch_3 23 rfl rfl
theorem dksJ16_vectorizedMismatch_5 : cJ16_vectorizedMismatch.data.toList.drop 116 = dktJ16_vectorizedMismatch_5 := dk_seg dksJ16_vectorizedMismatch_4 23 rfl rfl
theorem dksJ16_vectorizedMismatch_6 : cJ16_vectorizedMismatch.data.toList.drop 140 = dktJ16_vectorizedMismatch_6 := dk_seg dksJ16_vectorizedMismatch_5 24 rfl rfl
theorem dksJ16_vectorizedMismatch_7 : cJ16_vectorizedMismatch.data.toList.drop 164 = dktJ16_vectorizedMismatch_7 := dk_seg dksJ16_vectorizedMismatch_6 24 rfl rfl
theorem dksJ16_vectorizedMismatch_8 : cJ16_vectorizedMismatch.data.toList.drop 188 = dktJ16_vectorizedMismatch_8 := dk_seg dksJ16_vectorizedMismatch_7 24 rfl rfl
theorem dksJ16_vectorizedMismatch_9 : cJ16_vectorizedMismatch.data.toList.drop 210 = dktJ16_vectorizedMismatch_9 := dk_seg dksJ16_vectorizedMismatch_8 22 rfl rfl
theorem dksJ16_vectorizedMismatch_10 : cJ16_vectorizedMismatch.data.toList.drop 233 = dktJ16_vectorizedMismatch_10 := dk_seg dksJ16_vectorizedMismatch_9 23 rfl rfl
theorem dksJ16_vectorizedMismatch_11 : cJ16_vectorizedMismatch.data.toList.drop 256 = dktJ16_vectorizedMismatch_11 := dk_seg dksJ16_vectorizedMismatch_10 23 rfl rfl
theorem dJ16_vectorizedMismatch_0 : decode cJ16_vectorizedMismatch 0 = .ok (.getstatic 20, 3) := dk_178 0 20 (dk_at dksJ16_vectorizedMismatch_0 0 rfl rfl)
theorem dJ16_vectorizedMismatch_3 : decode cJ16_vectorizedMismatch 3 = .ok (.iload 7, 2) := dk_21 7 (dk_at dksJ16_vectorizedMismatch_0 3 rfl rfl)
theorem dJ16_vectorizedMismatch_5 : decode cJ16_vectorizedMismatch 5 = .ok (.isub, 1) := dk_100 (dk_at dksJ16_vectorizedMismatch_0 5 rfl rfl)
theorem dJ16_vectorizedMismatch_6 : decode cJ16_vectorizedMismatch 6 = .ok (.istore 8, 2) := dk_54 8 (dk_at dksJ16_vectorizedMismatch_0 6 rfl rfl)
theorem dJ16_vectorizedMismatch_8 : decode cJ16_vectorizedMismatch 8 = .ok (.iconst 0, 1) := dk_3 (dk_at dksJ16_vectorizedMismatch_0 8 rfl rfl)
theorem dJ16_vectorizedMismatch_9 : decode cJ16_vectorizedMismatch 9 = .ok (.istore 9, 2) := dk_54 9 (dk_at dksJ16_vectorizedMismatch_0 9 rfl rfl)
theorem dJ16_vectorizedMismatch_11 : decode cJ16_vectorizedMismatch 11 = .ok (.iload 9, 2) := dk_21 9 (dk_at dksJ16_vectorizedMismatch_0 11 rfl rfl)
theorem dJ16_vectorizedMismatch_13 : decode cJ16_vectorizedMismatch 13 = .ok (.iload 6, 2) := dk_21 6 (dk_at dksJ16_vectorizedMismatch_0 13 rfl rfl)
theorem dJ16_vectorizedMismatch_15 : decode cJ16_vectorizedMismatch 15 = .ok (.iload 8, 2) := dk_21 8 (dk_at dksJ16_vectorizedMismatch_0 15 rfl rfl)
theorem dJ16_vectorizedMismatch_17 : decode cJ16_vectorizedMismatch 17 = .ok (.ishr, 1) := dk_122 (dk_at dksJ16_vectorizedMismatch_0 17 rfl rfl)
theorem dJ16_vectorizedMismatch_18 : decode cJ16_vectorizedMismatch 18 = .ok (.if_icmp .ge 104, 3) := dk_162 0 104 (dk_at dksJ16_vectorizedMismatch_0 18 rfl rfl)
theorem dJ16_vectorizedMismatch_21 : decode cJ16_vectorizedMismatch 21 = .ok (.iload 9, 2) := dk_21 9 (dk_at dksJ16_vectorizedMismatch_0 21 rfl rfl)
theorem dJ16_vectorizedMismatch_23 : decode cJ16_vectorizedMismatch 23 = .ok (.i2l, 1) := dk_133 (dk_at dksJ16_vectorizedMismatch_0 23 rfl rfl)
theorem dJ16_vectorizedMismatch_24 : decode cJ16_vectorizedMismatch 24 = .ok (.getstatic 20, 3) := dk_178 0 20 (dk_at dksJ16_vectorizedMismatch_1 0 rfl rfl)
theorem dJ16_vectorizedMismatch_27 : decode cJ16_vectorizedMismatch 27 = .ok (.lshl, 1) := dk_121 (dk_at dksJ16_vectorizedMismatch_1 3 rfl rfl)
theorem dJ16_vectorizedMismatch_28 : decode cJ16_vectorizedMismatch 28 = .ok (.lstore 10, 2) := dk_55 10 (dk_at dksJ16_vectorizedMismatch_1 4 rfl rfl)
theorem dJ16_vectorizedMismatch_30 : decode cJ16_vectorizedMismatch 30 = .ok (.getstatic 26, 3) := dk_178 0 26 (dk_at dksJ16_vectorizedMismatch_1 6 rfl rfl)
theorem dJ16_vectorizedMismatch_33 : decode cJ16_vectorizedMismatch 33 = .ok (.aload_n 0, 1) := dk_42 (dk_at dksJ16_vectorizedMismatch_1 9 rfl rfl)
theorem dJ16_vectorizedMismatch_34 : decode cJ16_vectorizedMismatch 34 = .ok (.lload_n 1, 1) := dk_31 (dk_at dksJ16_vectorizedMismatch_1 10 rfl rfl)
theorem dJ16_vectorizedMismatch_35 : decode cJ16_vectorizedMismatch 35 = .ok (.lload 10, 2) := dk_22 10 (dk_at dksJ16_vectorizedMismatch_1 11 rfl rfl)
theorem dJ16_vectorizedMismatch_37 : decode cJ16_vectorizedMismatch 37 = .ok (.ladd, 1) := dk_97 (dk_at dksJ16_vectorizedMismatch_1 13 rfl rfl)
theorem dJ16_vectorizedMismatch_38 : decode cJ16_vectorizedMismatch 38 = .ok (.invokevirtual 30, 3) := dk_182 0 30 (dk_at dksJ16_vectorizedMismatch_1 14 rfl rfl)
theorem dJ16_vectorizedMismatch_41 : decode cJ16_vectorizedMismatch 41 = .ok (.lstore 12, 2) := dk_55 12 (dk_at dksJ16_vectorizedMismatch_1 17 rfl rfl)
theorem dJ16_vectorizedMismatch_43 : decode cJ16_vectorizedMismatch 43 = .ok (.getstatic 26, 3) := dk_178 0 26 (dk_at dksJ16_vectorizedMismatch_1 19 rfl rfl)
theorem dJ16_vectorizedMismatch_46 : decode cJ16_vectorizedMismatch 46 = .ok (.aload_n 3, 1) := dk_45 (dk_at dksJ16_vectorizedMismatch_1 22 rfl rfl)
theorem dJ16_vectorizedMismatch_47 : decode cJ16_vectorizedMismatch 47 = .ok (.lload 4, 2) := dk_22 4 (dk_at dksJ16_vectorizedMismatch_2 0 rfl rfl)
theorem dJ16_vectorizedMismatch_49 : decode cJ16_vectorizedMismatch 49 = .ok (.lload 10, 2) := dk_22 10 (dk_at dksJ16_vectorizedMismatch_2 2 rfl rfl)
theorem dJ16_vectorizedMismatch_51 : decode cJ16_vectorizedMismatch 51 = .ok (.ladd, 1) := dk_97 (dk_at dksJ16_vectorizedMismatch_2 4 rfl rfl)
theorem dJ16_vectorizedMismatch_52 : decode cJ16_vectorizedMismatch 52 = .ok (.invokevirtual 30, 3) := dk_182 0 30 (dk_at dksJ16_vectorizedMismatch_2 5 rfl rfl)
theorem dJ16_vectorizedMismatch_55 : decode cJ16_vectorizedMismatch 55 = .ok (.lstore 14, 2) := dk_55 14 (dk_at dksJ16_vectorizedMismatch_2 8 rfl rfl)
theorem dJ16_vectorizedMismatch_57 : decode cJ16_vectorizedMismatch 57 = .ok (.lload 12, 2) := dk_22 12 (dk_at dksJ16_vectorizedMismatch_2 10 rfl rfl)
theorem dJ16_vectorizedMismatch_59 : decode cJ16_vectorizedMismatch 59 = .ok (.lload 14, 2) := dk_22 14 (dk_at dksJ16_vectorizedMismatch_2 12 rfl rfl)
theorem dJ16_vectorizedMismatch_61 : decode cJ16_vectorizedMismatch 61 = .ok (.lcmp, 1) := dk_148 (dk_at dksJ16_vectorizedMismatch_2 14 rfl rfl)
theorem dJ16_vectorizedMismatch_62 : decode cJ16_vectorizedMismatch 62 = .ok (.ifCond .eq 54, 3) := dk_153 0 54 (dk_at dksJ16_vectorizedMismatch_2 15 rfl rfl)
theorem dJ16_vectorizedMismatch_65 : decode cJ16_vectorizedMismatch 65 = .ok (.lload 12, 2) := dk_22 12 (dk_at dksJ16_vectorizedMismatch_2 18 rfl rfl)
theorem dJ16_vectorizedMismatch_67 : decode cJ16_vectorizedMismatch 67 = .ok (.lload 14, 2) := dk_22 14 (dk_at dksJ16_vectorizedMismatch_2 20 rfl rfl)
theorem dJ16_vectorizedMismatch_69 : decode cJ16_vectorizedMismatch 69 = .ok (.lxor, 1) := dk_131 (dk_at dksJ16_vectorizedMismatch_2 22 rfl rfl)
theorem dJ16_vectorizedMismatch_70 : decode cJ16_vectorizedMismatch 70 = .ok (.lstore 16, 2) := dk_55 16 (dk_at dksJ16_vectorizedMismatch_3 0 rfl rfl)
theorem dJ16_vectorizedMismatch_72 : decode cJ16_vectorizedMismatch 72 = .ok (.getstatic 36, 3) := dk_178 0 36 (dk_at dksJ16_vectorizedMismatch_3 2 rfl rfl)
theorem dJ16_vectorizedMismatch_75 : decode cJ16_vectorizedMismatch 75 = .ok (.ifCond .eq 18, 3) := dk_153 0 18 (dk_at dksJ16_vectorizedMismatch_3 5 rfl rfl)
theorem dJ16_vectorizedMismatch_78 : decode cJ16_vectorizedMismatch 78 = .ok (.lload 16, 2) := dk_22 16 (dk_at dksJ16_vectorizedMismatch_3 8 rfl rfl)
theorem dJ16_vectorizedMismatch_80 : decode cJ16_vectorizedMismatch 80 = .ok (.invokestatic 40, 3) := dk_184 0 40 (dk_at dksJ16_vectorizedMismatch_3 10 rfl rfl)
theorem dJ16_vectorizedMismatch_83 : decode cJ16_vectorizedMismatch 83 = .ok (.getstatic 46, 3) := dk_178 0 46 (dk_at dksJ16_vectorizedMismatch_3 13 rfl rfl)
theorem dJ16_vectorizedMismatch_86 : decode cJ16_vectorizedMismatch 86 = .ok (.iload 7, 2) := dk_21 7 (dk_at dksJ16_vectorizedMismatch_3 16 rfl rfl)
theorem dJ16_vectorizedMismatch_88 : decode cJ16_vectorizedMismatch 88 = .ok (.iadd, 1) := dk_96 (dk_at dksJ16_vectorizedMismatch_3 18 rfl rfl)
theorem dJ16_vectorizedMismatch_89 : decode cJ16_vectorizedMismatch 89 = .ok (.ishr, 1) := dk_122 (dk_at dksJ16_vectorizedMismatch_3 19 rfl rfl)
theorem dJ16_vectorizedMismatch_90 : decode cJ16_vectorizedMismatch 90 = .ok (.goto 15, 3) := dk_167 0 15 (dk_at dksJ16_vectorizedMismatch_3 20 rfl rfl)
theorem dJ16_vectorizedMismatch_93 : decode cJ16_vectorizedMismatch 93 = .ok (.lload 16, 2) := dk_22 16 (dk_at dksJ16_vectorizedMismatch_4 0 rfl rfl)
theorem dJ16_vectorizedMismatch_95 : decode cJ16_vectorizedMismatch 95 = .ok (.invokestatic 49, 3) := dk_184 0 49 (dk_at dksJ16_vectorizedMismatch_4 2 rfl rfl)
theorem dJ16_vectorizedMismatch_98 : decode cJ16_vectorizedMismatch 98 = .ok (.getstatic 46, 3) := dk_178 0 46 (dk_at dksJ16_vectorizedMismatch_4 5 rfl rfl)
theorem dJ16_vectorizedMismatch_101 : decode cJ16_vectorizedMismatch 101 = .ok (.iload 7, 2) := dk_21 7 (dk_at dksJ16_vectorizedMismatch_4 8 rfl rfl)
theorem dJ16_vectorizedMismatch_103 : decode cJ16_vectorizedMismatch 103 = .ok (.iadd, 1) := dk_96 (dk_at dksJ16_vectorizedMismatch_4 10 rfl rfl)
theorem dJ16_vectorizedMismatch_104 : decode cJ16_vectorizedMismatch 104 = .ok (.ishr, 1) := dk_122 (dk_at dksJ16_vectorizedMismatch_4 11 rfl rfl)
theorem dJ16_vectorizedMismatch_105 : decode cJ16_vectorizedMismatch 105 = .ok (.istore 18, 2) := dk_54 18 (dk_at dksJ16_vectorizedMismatch_4 12 rfl rfl)
theorem dJ16_vectorizedMismatch_107 : decode cJ16_vectorizedMismatch 107 = .ok (.iload 9, 2) := dk_21 9 (dk_at dksJ16_vectorizedMismatch_4 14 rfl rfl)
theorem dJ16_vectorizedMismatch_109 : decode cJ16_vectorizedMismatch 109 = .ok (.iload 8, 2) := dk_21 8 (dk_at dksJ16_vectorizedMismatch_4 16 rfl rfl)
theorem dJ16_vectorizedMismatch_111 : decode cJ16_vectorizedMismatch 111 = .ok (.ishl, 1) := dk_120 (dk_at dksJ16_vectorizedMismatch_4 18 rfl rfl)
theorem dJ16_vectorizedMismatch_112 : decode cJ16_vectorizedMismatch 112 = .ok (.iload 18, 2) := dk_21 18 (dk_at dksJ16_vectorizedMismatch_4 19 rfl rfl)
theorem dJ16_vectorizedMismatch_114 : decode cJ16_vectorizedMismatch 114 = .ok (.iadd, 1) := dk_96 (dk_at dksJ16_vectorizedMismatch_4 21 rfl rfl)
theorem dJ16_vectorizedMismatch_115 : decode cJ16_vectorizedMismatch 115 = .ok (.ireturn, 1) := dk_172 (dk_at dksJ16_vectorizedMismatch_4 22 rfl rfl)
theorem dJ16_vectorizedMismatch_116 : decode cJ16_vectorizedMismatch 116 = .ok (.iinc 9 1, 3) := dk_132 9 1 (dk_at dksJ16_vectorizedMismatch_5 0 rfl rfl)
theorem dJ16_vectorizedMismatch_119 : decode cJ16_vectorizedMismatch 119 = .ok (.goto (-108), 3) := dk_167 255 148 (dk_at dksJ16_vectorizedMismatch_5 3 rfl rfl)
theorem dJ16_vectorizedMismatch_122 : decode cJ16_vectorizedMismatch 122 = .ok (.iload 6, 2) := dk_21 6 (dk_at dksJ16_vectorizedMismatch_5 6 rfl rfl)
theorem dJ16_vectorizedMismatch_124 : decode cJ16_vectorizedMismatch 124 = .ok (.iload 9, 2) := dk_21 9 (dk_at dksJ16_vectorizedMismatch_5 8 rfl rfl)
theorem dJ16_vectorizedMismatch_126 : decode cJ16_vectorizedMismatch 126 = .ok (.iload 8, 2) := dk_21 8 (dk_at dksJ16_vectorizedMismatch_5 10 rfl rfl)
theorem dJ16_vectorizedMismatch_128 : decode cJ16_vectorizedMismatch 128 = .ok (.ishl, 1) := dk_120 (dk_at dksJ16_vectorizedMismatch_5 12 rfl rfl)
theorem dJ16_vectorizedMismatch_129 : decode cJ16_vectorizedMismatch 129 = .ok (.isub, 1) := dk_100 (dk_at dksJ16_vectorizedMismatch_5 13 rfl rfl)
theorem dJ16_vectorizedMismatch_130 : decode cJ16_vectorizedMismatch 130 = .ok (.istore 10, 2) := dk_54 10 (dk_at dksJ16_vectorizedMismatch_5 14 rfl rfl)
theorem dJ16_vectorizedMismatch_132 : decode cJ16_vectorizedMismatch 132 = .ok (.iload 7, 2) := dk_21 7 (dk_at dksJ16_vectorizedMismatch_5 16 rfl rfl)
theorem dJ16_vectorizedMismatch_134 : decode cJ16_vectorizedMismatch 134 = .ok (.getstatic 51, 3) := dk_178 0 51 (dk_at dksJ16_vectorizedMismatch_5 18 rfl rfl)
theorem dJ16_vectorizedMismatch_137 : decode cJ16_vectorizedMismatch 137 = .ok (.if_icmp .ge 126, 3) := dk_162 0 126 (dk_at dksJ16_vectorizedMismatch_5 21 rfl rfl)
theorem dJ16_vectorizedMismatch_140 : decode cJ16_vectorizedMismatch 140 = .ok (.iconst 1, 1) := dk_4 (dk_at dksJ16_vectorizedMismatch_6 0 rfl rfl)
theorem dJ16_vectorizedMismatch_141 : decode cJ16_vectorizedMismatch 141 = .ok (.getstatic 51, 3) := dk_178 0 51 (dk_at dksJ16_vectorizedMismatch_6 1 rfl rfl)
theorem dJ16_vectorizedMismatch_144 : decode cJ16_vectorizedMismatch 144 = .ok (.iload 7, 2) := dk_21 7 (dk_at dksJ16_vectorizedMismatch_6 4 rfl rfl)
theorem dJ16_vectorizedMismatch_146 : decode cJ16_vectorizedMismatch 146 = .ok (.isub, 1) := dk_100 (dk_at dksJ16_vectorizedMismatch_6 6 rfl rfl)
theorem dJ16_vectorizedMismatch_147 : decode cJ16_vectorizedMismatch 147 = .ok (.ishl, 1) := dk_120 (dk_at dksJ16_vectorizedMismatch_6 7 rfl rfl)
theorem dJ16_vectorizedMismatch_148 : decode cJ16_vectorizedMismatch 148 = .ok (.istore 11, 2) := dk_54 11 (dk_at dksJ16_vectorizedMismatch_6 8 rfl rfl)
theorem dJ16_vectorizedMismatch_150 : decode cJ16_vectorizedMismatch 150 = .ok (.iload 10, 2) := dk_21 10 (dk_at dksJ16_vectorizedMismatch_6 10 rfl rfl)
theorem dJ16_vectorizedMismatch_152 : decode cJ16_vectorizedMismatch 152 = .ok (.iload 11, 2) := dk_21 11 (dk_at dksJ16_vectorizedMismatch_6 12 rfl rfl)
theorem dJ16_vectorizedMismatch_154 : decode cJ16_vectorizedMismatch 154 = .ok (.if_icmp .lt 104, 3) := dk_161 0 104 (dk_at dksJ16_vectorizedMismatch_6 14 rfl rfl)
theorem dJ16_vectorizedMismatch_157 : decode cJ16_vectorizedMismatch 157 = .ok (.iload 9, 2) := dk_21 9 (dk_at dksJ16_vectorizedMismatch_6 17 rfl rfl)
theorem dJ16_vectorizedMismatch_159 : decode cJ16_vectorizedMismatch 159 = .ok (.i2l, 1) := dk_133 (dk_at dksJ16_vectorizedMismatch_6 19 rfl rfl)
theorem dJ16_vectorizedMismatch_160 : decode cJ16_vectorizedMismatch 160 = .ok (.getstatic 20, 3) := dk_178 0 20 (dk_at dksJ16_vectorizedMismatch_6 20 rfl rfl)
theorem dJ16_vectorizedMismatch_163 : decode cJ16_vectorizedMismatch 163 = .ok (.lshl, 1) := dk_121 (dk_at dksJ16_vectorizedMismatch_6 23 rfl rfl)
theorem dJ16_vectorizedMismatch_164 : decode cJ16_vectorizedMismatch 164 = .ok (.lstore 12, 2) := dk_55 12 (dk_at dksJ16_vectorizedMismatch_7 0 rfl rfl)
theorem dJ16_vectorizedMismatch_166 : decode cJ16_vectorizedMismatch 166 = .ok (.getstatic 26, 3) := dk_178 0 26 (dk_at dksJ16_vectorizedMismatch_7 2 rfl rfl)
theorem dJ16_vectorizedMismatch_169 : decode cJ16_vectorizedMismatch 169 = .ok (.aload_n 0, 1) := dk_42 (dk_at dksJ16_vectorizedMismatch_7 5 rfl rfl)
theorem dJ16_vectorizedMismatch_170 : decode cJ16_vectorizedMismatch 170 = .ok (.lload_n 1, 1) := dk_31 (dk_at dksJ16_vectorizedMismatch_7 6 rfl rfl)
theorem dJ16_vectorizedMismatch_171 : decode cJ16_vectorizedMismatch 171 = .ok (.lload 12, 2) := dk_22 12 (dk_at dksJ16_vectorizedMismatch_7 7 rfl rfl)
theorem dJ16_vectorizedMismatch_173 : decode cJ16_vectorizedMismatch 173 = .ok (.ladd, 1) := dk_97 (dk_at dksJ16_vectorizedMismatch_7 9 rfl rfl)
theorem dJ16_vectorizedMismatch_174 : decode cJ16_vectorizedMismatch 174 = .ok (.invokevirtual 54, 3) := dk_182 0 54 (dk_at dksJ16_vectorizedMismatch_7 10 rfl rfl)
theorem dJ16_vectorizedMismatch_177 : decode cJ16_vectorizedMismatch 177 = .ok (.istore 14, 2) := dk_54 14 (dk_at dksJ16_vectorizedMismatch_7 13 rfl rfl)
theorem dJ16_vectorizedMismatch_179 : decode cJ16_vectorizedMismatch 179 = .ok (.getstatic 26, 3) := dk_178 0 26 (dk_at dksJ16_vectorizedMismatch_7 15 rfl rfl)
theorem dJ16_vectorizedMismatch_182 : decode cJ16_vectorizedMismatch 182 = .ok (.aload_n 3, 1) := dk_45 (dk_at dksJ16_vectorizedMismatch_7 18 rfl rfl)
theorem dJ16_vectorizedMismatch_183 : decode cJ16_vectorizedMismatch 183 = .ok (.lload 4, 2) := dk_22 4 (dk_at dksJ16_vectorizedMismatch_7 19 rfl rfl)
theorem dJ16_vectorizedMismatch_185 : decode cJ16_vectorizedMismatch 185 = .ok (.lload 12, 2) := dk_22 12 (dk_at dksJ16_vectorizedMismatch_7 21 rfl rfl)
theorem dJ16_vectorizedMismatch_187 : decode cJ16_vectorizedMismatch 187 = .ok (.ladd, 1) := dk_97 (dk_at dksJ16_vectorizedMismatch_7 23 rfl rfl)
theorem dJ16_vectorizedMismatch_188 : decode cJ16_vectorizedMismatch 188 = .ok (.invokevirtual 54, 3) := dk_182 0 54 (dk_at dksJ16_vectorizedMismatch_8 0 rfl rfl)
theorem dJ16_vectorizedMismatch_191 : decode cJ16_vectorizedMismatch 191 = .ok (.istore 15, 2) := dk_54 15 (dk_at dksJ16_vectorizedMismatch_8 3 rfl rfl)
theorem dJ16_vectorizedMismatch_193 : decode cJ16_vectorizedMismatch 193 = .ok (.iload 14, 2) := dk_21 14 (dk_at dksJ16_vectorizedMismatch_8 5 rfl rfl)
theorem dJ16_vectorizedMismatch_195 : decode cJ16_vectorizedMismatch 195 = .ok (.iload 15, 2) := dk_21 15 (dk_at dksJ16_vectorizedMismatch_8 7 rfl rfl)
theorem dJ16_vectorizedMismatch_197 : decode cJ16_vectorizedMismatch 197 = .ok (.if_icmp .eq 54, 3) := dk_159 0 54 (dk_at dksJ16_vectorizedMismatch_8 9 rfl rfl)
theorem dJ16_vectorizedMismatch_200 : decode cJ16_vectorizedMismatch 200 = .ok (.iload 14, 2) := dk_21 14 (dk_at dksJ16_vectorizedMismatch_8 12 rfl rfl)
theorem dJ16_vectorizedMismatch_202 : decode cJ16_vectorizedMismatch 202 = .ok (.iload 15, 2) := dk_21 15 (dk_at dksJ16_vectorizedMismatch_8 14 rfl rfl)
theorem dJ16_vectorizedMismatch_204 : decode cJ16_vectorizedMismatch 204 = .ok (.ixor, 1) := dk_130 (dk_at dksJ16_vectorizedMismatch_8 16 rfl rfl)
theorem dJ16_vectorizedMismatch_205 : decode cJ16_vectorizedMismatch 205 = .ok (.istore 16, 2) := dk_54 16 (dk_at dksJ16_vectorizedMismatch_8 17 rfl rfl)
theorem dJ16_vectorizedMismatch_207 : decode cJ16_vectorizedMismatch 207 = .ok (.getstatic 36, 3) := dk_178 0 36 (dk_at dksJ16_vectorizedMismatch_8 19 rfl rfl)
theorem dJ16_vectorizedMismatch_210 : decode cJ16_vectorizedMismatch 210 = .ok (.ifCond .eq 18, 3) := dk_153 0 18 (dk_at dksJ16_vectorizedMismatch_9 0 rfl rfl)
theorem dJ16_vectorizedMismatch_213 : decode cJ16_vectorizedMismatch 213 = .ok (.iload 16, 2) := dk_21 16 (dk_at dksJ16_vectorizedMismatch_9 3 rfl rfl)
theorem dJ16_vectorizedMismatch_215 : decode cJ16_vectorizedMismatch 215 = .ok (.invokestatic 58, 3) := dk_184 0 58 (dk_at dksJ16_vectorizedMismatch_9 5 rfl rfl)
theorem dJ16_vectorizedMismatch_218 : decode cJ16_vectorizedMismatch 218 = .ok (.getstatic 46, 3) := dk_178 0 46 (dk_at dksJ16_vectorizedMismatch_9 8 rfl rfl)
theorem dJ16_vectorizedMismatch_221 : decode cJ16_vectorizedMismatch 221 = .ok (.iload 7, 2) := dk_21 7 (dk_at dksJ16_vectorizedMismatch_9 11 rfl rfl)
theorem dJ16_vectorizedMismatch_223 : decode cJ16_vectorizedMismatch 223 = .ok (.iadd, 1) := dk_96 (dk_at dksJ16_vectorizedMismatch_9 13 rfl rfl)
theorem dJ16_vectorizedMismatch_224 : decode cJ16_vectorizedMismatch 224 = .ok (.ishr, 1) := dk_122 (dk_at dksJ16_vectorizedMismatch_9 14 rfl rfl)
theorem dJ16_vectorizedMismatch_225 : decode cJ16_vectorizedMismatch 225 = .ok (.goto 15, 3) := dk_167 0 15 (dk_at dksJ16_vectorizedMismatch_9 15 rfl rfl)
theorem dJ16_vectorizedMismatch_228 : decode cJ16_vectorizedMismatch 228 = .ok (.iload 16, 2) := dk_21 16 (dk_at dksJ16_vectorizedMismatch_9 18 rfl rfl)
theorem dJ16_vectorizedMismatch_230 : decode cJ16_vectorizedMismatch 230 = .ok (.invokestatic 11, 3) := dk_184 0 11 (dk_at dksJ16_vectorizedMismatch_9 20 rfl rfl)
theorem dJ16_vectorizedMismatch_233 : decode cJ16_vectorizedMismatch 233 = .ok (.getstatic 46, 3) := dk_178 0 46 (dk_at dksJ16_vectorizedMismatch_10 0 rfl rfl)
theorem dJ16_vectorizedMismatch_236 : decode cJ16_vectorizedMismatch 236 = .ok (.iload 7, 2) := dk_21 7 (dk_at dksJ16_vectorizedMismatch_10 3 rfl rfl)
theorem dJ16_vectorizedMismatch_238 : decode cJ16_vectorizedMismatch 238 = .ok (.iadd, 1) := dk_96 (dk_at dksJ16_vectorizedMismatch_10 5 rfl rfl)
theorem dJ16_vectorizedMismatch_239 : decode cJ16_vectorizedMismatch 239 = .ok (.ishr, 1) := dk_122 (dk_at dksJ16_vectorizedMismatch_10 6 rfl rfl)
theorem dJ16_vectorizedMismatch_240 : decode cJ16_vectorizedMismatch 240 = .ok (.istore 17, 2) := dk_54 17 (dk_at dksJ16_vectorizedMismatch_10 7 rfl rfl)
theorem dJ16_vectorizedMismatch_242 : decode cJ16_vectorizedMismatch 242 = .ok (.iload 9, 2) := dk_21 9 (dk_at dksJ16_vectorizedMismatch_10 9 rfl rfl)
theorem dJ16_vectorizedMismatch_244 : decode cJ16_vectorizedMismatch 244 = .ok (.iload 8, 2) := dk_21 8 (dk_at dksJ16_vectorizedMismatch_10 11 rfl rfl)
theorem dJ16_vectorizedMismatch_246 : decode cJ16_vectorizedMismatch 246 = .ok (.ishl, 1) := dk_120 (dk_at dksJ16_vectorizedMismatch_10 13 rfl rfl)
theorem dJ16_vectorizedMismatch_247 : decode cJ16_vectorizedMismatch 247 = .ok (.iload 17, 2) := dk_21 17 (dk_at dksJ16_vectorizedMismatch_10 14 rfl rfl)
theorem dJ16_vectorizedMismatch_249 : decode cJ16_vectorizedMismatch 249 = .ok (.iadd, 1) := dk_96 (dk_at dksJ16_vectorizedMismatch_10 16 rfl rfl)
theorem dJ16_vectorizedMismatch_250 : decode cJ16_vectorizedMismatch 250 = .ok (.ireturn, 1) := dk_172 (dk_at dksJ16_vectorizedMismatch_10 17 rfl rfl)
theorem dJ16_vectorizedMismatch_251 : decode cJ16_vectorizedMismatch 251 = .ok (.iload 10, 2) := dk_21 10 (dk_at dksJ16_vectorizedMismatch_10 18 rfl rfl)
theorem dJ16_vectorizedMismatch_253 : decode cJ16_vectorizedMismatch 253 = .ok (.iload 11, 2) := dk_21 11 (dk_at dksJ16_vectorizedMismatch_10 20 rfl rfl)
theorem dJ16_vectorizedMismatch_255 : decode cJ16_vectorizedMismatch 255 = .ok (.isub, 1) := dk_100 (dk_at dksJ16_vectorizedMismatch_10 22 rfl rfl)
theorem dJ16_vectorizedMismatch_256 : decode cJ16_vectorizedMismatch 256 = .ok (.istore 10, 2) := dk_54 10 (dk_at dksJ16_vectorizedMismatch_11 0 rfl rfl)
theorem dJ16_vectorizedMismatch_258 : decode cJ16_vectorizedMismatch 258 = .ok (.iload 10, 2) := dk_21 10 (dk_at dksJ16_vectorizedMismatch_11 2 rfl rfl)
theorem dJ16_vectorizedMismatch_260 : decode cJ16_vectorizedMismatch 260 = .ok (.iconst (-1), 1) := dk_2 (dk_at dksJ16_vectorizedMismatch_11 4 rfl rfl)
theorem dJ16_vectorizedMismatch_261 : decode cJ16_vectorizedMismatch 261 = .ok (.ixor, 1) := dk_130 (dk_at dksJ16_vectorizedMismatch_11 5 rfl rfl)
theorem dJ16_vectorizedMismatch_262 : decode cJ16_vectorizedMismatch 262 = .ok (.ireturn, 1) := dk_172 (dk_at dksJ16_vectorizedMismatch_11 6 rfl rfl)
theorem dJ16_vectorizedMismatch_263 : decode cJ16_vectorizedMismatch 263 = .ok (.iload 10, 2) := dk_21 10 (dk_at dksJ16_vectorizedMismatch_11 7 rfl rfl)
theorem dJ16_vectorizedMismatch_265 : decode cJ16_vectorizedMismatch 265 = .ok (.iconst (-1), 1) := dk_2 (dk_at dksJ16_vectorizedMismatch_11 9 rfl rfl)
theorem dJ16_vectorizedMismatch_266 : decode cJ16_vectorizedMismatch 266 = .ok (.ixor, 1) := dk_130 (dk_at dksJ16_vectorizedMismatch_11 10 rfl rfl)
theorem dJ16_vectorizedMismatch_267 : decode cJ16_vectorizedMismatch 267 = .ok (.ireturn, 1) := dk_172 (dk_at dksJ16_vectorizedMismatch_11 11 rfl rfl)
theorem q126 : (Jvm.Cond.initialized "jdk/internal/util/ArraysSupport") ∈ lw_all := lw_g (lw_at lw_m1 20 rfl) rfl
theorem q586 : (Jvm.Cond.static ({ cls := "jdk/internal/util/ArraysSupport", name := "newLength", desc := "(III)I" } : Jvm.MethodName)) ∈ lw_all := lw_g (lw_at lw_m3 0 rfl) rfl
theorem q587 : (Jvm.Cond.code ({ cls := "jdk/internal/util/ArraysSupport", name := "newLength", desc := "(III)I" } : Jvm.MethodName) prog_84_method_27_code (4 : Nat) (Option.some Jvm.ClassFile.FieldType.int)) ∈ lw_all := lw_g (lw_at lw_m3 1 rfl) rfl
theorem q588 : (Jvm.Cond.methodLink "jdk/internal/util/ArraysSupport" (194 : Nat) ({ cls := "java/lang/Math", name := "max", desc := "(II)I" } : Jvm.MethodName)) ∈ lw_all := lw_g (lw_at lw_m3 2 rfl) rfl
theorem q591 : (Jvm.Cond.constant "jdk/internal/util/ArraysSupport" (200 : Nat) (2147483639 : Int32)) ∈ lw_all := lw_g (lw_at lw_m3 5 rfl) rfl
theorem q592 : (Jvm.Cond.methodLink "jdk/internal/util/ArraysSupport" (201 : Nat) ({ cls := "jdk/internal/util/ArraysSupport", name := "hugeLength", desc := "(II)I" } : Jvm.MethodName)) ∈ lw_all := lw_g (lw_at lw_m3 6 rfl) rfl
theorem q593 : (Jvm.Cond.static ({ cls := "jdk/internal/util/ArraysSupport", name := "hugeLength", desc := "(II)I" } : Jvm.MethodName)) ∈ lw_all := lw_g (lw_at lw_m3 7 rfl) rfl
theorem q594 : (Jvm.Cond.code ({ cls := "jdk/internal/util/ArraysSupport", name := "hugeLength", desc := "(II)I" } : Jvm.MethodName) prog_84_method_28_code (3 : Nat) (Option.some Jvm.ClassFile.FieldType.int)) ∈ lw_all := lw_g (lw_at lw_m3 8 rfl) rfl
theorem q954 : (Jvm.Cond.static ({ cls := "jdk/internal/util/ArraysSupport", name := "vectorizedHashCode", desc := "(Ljava/lang/Object;IIII)I" } : Jvm.MethodName)) ∈ lw_all := lw_g (lw_at lw_m4 128 rfl) rfl
theorem q955 : (Jvm.Cond.code ({ cls := "jdk/internal/util/ArraysSupport", name := "vectorizedHashCode", desc := "(Ljava/lang/Object;IIII)I" } : Jvm.MethodName) prog_84_method_4_code (5 : Nat) (Option.some Jvm.ClassFile.FieldType.int)) ∈ lw_all := lw_g (lw_at lw_m4 129 rfl) rfl
theorem q956 : (Jvm.Cond.classLink "jdk/internal/util/ArraysSupport" (60 : Nat) "[B") ∈ lw_all := lw_g (lw_at lw_m4 130 rfl) rfl
theorem q957 : (Jvm.Cond.methodLink "jdk/internal/util/ArraysSupport" (62 : Nat) ({ cls := "jdk/internal/util/ArraysSupport", name := "signedHashCode", desc := "(I[BII)I" } : Jvm.MethodName)) ∈ lw_all := lw_g (lw_at lw_m4 131 rfl) rfl
theorem q958 : (Jvm.Cond.static ({ cls := "jdk/internal/util/ArraysSupport", name := "signedHashCode", desc := "(I[BII)I" } : Jvm.MethodName)) ∈ lw_all := lw_g (lw_at lw_m4 132 rfl) rfl
theorem q959 : (Jvm.Cond.code ({ cls := "jdk/internal/util/ArraysSupport", name := "signedHashCode", desc := "(I[BII)I" } : Jvm.MethodName) prog_84_method_5_code (6 : Nat) (Option.some Jvm.ClassFile.FieldType.int)) ∈ lw_all := lw_g (lw_at lw_m4 133 rfl) rfl
theorem q960 : (Jvm.Cond.methodLink "jdk/internal/util/ArraysSupport" (66 : Nat) ({ cls := "jdk/internal/util/ArraysSupport", name := "utf16hashCode", desc := "(I[BII)I" } : Jvm.MethodName)) ∈ lw_all := lw_g (lw_at lw_m4 134 rfl) rfl
theorem q961 : (Jvm.Cond.static ({ cls := "jdk/internal/util/ArraysSupport", name := "utf16hashCode", desc := "(I[BII)I" } : Jvm.MethodName)) ∈ lw_all := lw_g (lw_at lw_m4 135 rfl) rfl
theorem q962 : (Jvm.Cond.code ({ cls := "jdk/internal/util/ArraysSupport", name := "utf16hashCode", desc := "(I[BII)I" } : Jvm.MethodName) prog_84_method_10_code (6 : Nat) (Option.some Jvm.ClassFile.FieldType.int)) ∈ lw_all := lw_g (lw_at lw_m4 136 rfl) rfl
theorem q963 : (Jvm.Cond.fieldLink "jdk/internal/util/ArraysSupport" (106 : Nat) "jdk/internal/util/ArraysSupport" "JLA" "Ljdk/internal/access/JavaLangAccess;") ∈ lw_all := lw_g (lw_at lw_m4 137 rfl) rfl
theorem q964 : (Jvm.Cond.laysStatic "jdk/internal/util/ArraysSupport" "JLA" "Ljdk/internal/access/JavaLangAccess;") ∈ lw_tbl := lw_at lw_m4 138 rfl
theorem q965 : (Jvm.Cond.interfaceEntry "jdk/internal/util/ArraysSupport" (110 : Nat)) ∈ lw_tbl := lw_at lw_m4 139 rfl
theorem q966 : (Jvm.Cond.methodLink "jdk/internal/util/ArraysSupport" (110 : Nat) ({ cls := "jdk/internal/access/JavaLangAccess", name := "getUTF16Char", desc := "([BI)C" } : Jvm.MethodName)) ∈ lw_all := lw_g (lw_at lw_m4 140 rfl) rfl
theorem q987 : (Jvm.Cond.classLink "jdk/internal/util/ArraysSupport" (69 : Nat) "[C") ∈ lw_all := lw_g (lw_at lw_m4 161 rfl) rfl
theorem q988 : (Jvm.Cond.methodLink "jdk/internal/util/ArraysSupport" (71 : Nat) ({ cls := "jdk/internal/util/ArraysSupport", name := "hashCode", desc := "(I[CII)I" } : Jvm.MethodName)) ∈ lw_all := lw_g (lw_at lw_m4 162 rfl) rfl
theorem q989 : (Jvm.Cond.static ({ cls := "jdk/internal/util/ArraysSupport", name := "hashCode", desc := "(I[CII)I" } : Jvm.MethodName)) ∈ lw_all := lw_g (lw_at lw_m4 163 rfl) rfl
theorem q990 : (Jvm.Cond.code ({ cls := "jdk/internal/util/ArraysSupport", name := "hashCode", desc := "(I[CII)I" } : Jvm.MethodName) prog_84_method_7_code (6 : Nat) (Option.some Jvm.ClassFile.FieldType.int)) ∈ lw_all := lw_g (lw_at lw_m4 164 rfl) rfl
theorem q991 : (Jvm.Cond.methodLink "jdk/internal/util/ArraysSupport" (75 : Nat) ({ cls := "jdk/internal/util/ArraysSupport", name := "hashCode", desc := "(I[BII)I" } : Jvm.MethodName)) ∈ lw_all := lw_g (lw_at lw_m4 165 rfl) rfl
theorem q992 : (Jvm.Cond.static ({ cls := "jdk/internal/util/ArraysSupport", name := "hashCode", desc := "(I[BII)I" } : Jvm.MethodName)) ∈ lw_all := lw_g (lw_at lw_m4 166 rfl) rfl
theorem q993 : (Jvm.Cond.code ({ cls := "jdk/internal/util/ArraysSupport", name := "hashCode", desc := "(I[BII)I" } : Jvm.MethodName) prog_84_method_6_code (6 : Nat) (Option.some Jvm.ClassFile.FieldType.int)) ∈ lw_all := lw_g (lw_at lw_m4 167 rfl) rfl
theorem q994 : (Jvm.Cond.classLink "jdk/internal/util/ArraysSupport" (77 : Nat) "[S") ∈ lw_all := lw_g (lw_at lw_m4 168 rfl) rfl
theorem q995 : (Jvm.Cond.methodLink "jdk/internal/util/ArraysSupport" (79 : Nat) ({ cls := "jdk/internal/util/ArraysSupport", name := "hashCode", desc := "(I[SII)I" } : Jvm.MethodName)) ∈ lw_all := lw_g (lw_at lw_m4 169 rfl) rfl
theorem q996 : (Jvm.Cond.static ({ cls := "jdk/internal/util/ArraysSupport", name := "hashCode", desc := "(I[SII)I" } : Jvm.MethodName)) ∈ lw_all := lw_g (lw_at lw_m4 170 rfl) rfl
theorem q997 : (Jvm.Cond.code ({ cls := "jdk/internal/util/ArraysSupport", name := "hashCode", desc := "(I[SII)I" } : Jvm.MethodName) prog_84_method_8_code (6 : Nat) (Option.some Jvm.ClassFile.FieldType.int)) ∈ lw_all := lw_g (lw_at lw_m4 171 rfl) rfl
theorem q998 : (Jvm.Cond.classLink "jdk/internal/util/ArraysSupport" (82 : Nat) "[I") ∈ lw_all := lw_g (lw_at lw_m4 172 rfl) rfl
theorem q999 : (Jvm.Cond.methodLink "jdk/internal/util/ArraysSupport" (84 : Nat) ({ cls := "jdk/internal/util/ArraysSupport", name := "hashCode", desc := "(I[III)I" } : Jvm.MethodName)) ∈ lw_all := lw_g (lw_at lw_m4 173 rfl) rfl
theorem q1000 : (Jvm.Cond.static ({ cls := "jdk/internal/util/ArraysSupport", name := "hashCode", desc := "(I[III)I" } : Jvm.MethodName)) ∈ lw_all := lw_g (lw_at lw_m4 174 rfl) rfl
theorem q1001 : (Jvm.Cond.code ({ cls := "jdk/internal/util/ArraysSupport", name := "hashCode", desc := "(I[III)I" } : Jvm.MethodName) prog_84_method_9_code (6 : Nat) (Option.some Jvm.ClassFile.FieldType.int)) ∈ lw_all := lw_g (lw_at lw_m4 175 rfl) rfl
theorem q1129 : (Jvm.Cond.static ({ cls := "jdk/internal/util/ArraysSupport", name := "mismatch", desc := "([B[BI)I" } : Jvm.MethodName)) ∈ lw_all := lw_g (lw_at lw_m5 63 rfl) rfl
theorem q1130 : (Jvm.Cond.code ({ cls := "jdk/internal/util/ArraysSupport", name := "mismatch", desc := "([B[BI)I" } : Jvm.MethodName) prog_84_method_13_code (4 : Nat) (Option.some Jvm.ClassFile.FieldType.int)) ∈ lw_all := lw_g (lw_at lw_m5 64 rfl) rfl
theorem q1131 : (Jvm.Cond.fieldLink "jdk/internal/util/ArraysSupport" (126 : Nat) "jdk/internal/misc/Unsafe" "ARRAY_BYTE_BASE_OFFSET" "I") ∈ lw_all := lw_g (lw_at lw_m5 65 rfl) rfl
theorem q1133 : (Jvm.Cond.fieldLink "jdk/internal/util/ArraysSupport" (129 : Nat) "jdk/internal/util/ArraysSupport" "LOG2_ARRAY_BYTE_INDEX_SCALE" "I") ∈ lw_all := lw_g (lw_at lw_m5 67 rfl) rfl
theorem q1134 : (Jvm.Cond.laysStatic "jdk/internal/util/ArraysSupport" "LOG2_ARRAY_BYTE_INDEX_SCALE" "I") ∈ lw_tbl := lw_at lw_m5 68 rfl
theorem q1135 : (Jvm.Cond.methodLink "jdk/internal/util/ArraysSupport" (122 : Nat) ({ cls := "jdk/internal/util/ArraysSupport", name := "vectorizedMismatch", desc := "(Ljava/lang/Object;JLjava/lang/Object;JII)I" } : Jvm.MethodName)) ∈ lw_all := lw_g (lw_at lw_m5 69 rfl) rfl
theorem q1136 : (Jvm.Cond.static ({ cls := "jdk/internal/util/ArraysSupport", name := "vectorizedMismatch", desc := "(Ljava/lang/Object;JLjava/lang/Object;JII)I" } : Jvm.MethodName)) ∈ lw_all := lw_g (lw_at lw_m5 70 rfl) rfl
theorem q1137 : (Jvm.Cond.code ({ cls := "jdk/internal/util/ArraysSupport", name := "vectorizedMismatch", desc := "(Ljava/lang/Object;JLjava/lang/Object;JII)I" } : Jvm.MethodName) prog_84_method_3_code (19 : Nat) (Option.some Jvm.ClassFile.FieldType.int)) ∈ lw_all := lw_g (lw_at lw_m5 71 rfl) rfl
theorem q1138 : (Jvm.Cond.fieldLink "jdk/internal/util/ArraysSupport" (20 : Nat) "jdk/internal/util/ArraysSupport" "LOG2_ARRAY_LONG_INDEX_SCALE" "I") ∈ lw_all := lw_g (lw_at lw_m5 72 rfl) rfl
theorem q1139 : (Jvm.Cond.laysStatic "jdk/internal/util/ArraysSupport" "LOG2_ARRAY_LONG_INDEX_SCALE" "I") ∈ lw_tbl := lw_at lw_m5 73 rfl
theorem q1140 : (Jvm.Cond.fieldLink "jdk/internal/util/ArraysSupport" (26 : Nat) "jdk/internal/util/ArraysSupport" "U" "Ljdk/internal/misc/Unsafe;") ∈ lw_all := lw_g (lw_at lw_m5 74 rfl) rfl
theorem q1141 : (Jvm.Cond.laysStatic "jdk/internal/util/ArraysSupport" "U" "Ljdk/internal/misc/Unsafe;") ∈ lw_tbl := lw_at lw_m5 75 rfl
theorem q1142 : (Jvm.Cond.methodLink "jdk/internal/util/ArraysSupport" (30 : Nat) ({ cls := "jdk/internal/misc/Unsafe", name := "getLongUnaligned", desc := "(Ljava/lang/Object;J)J" } : Jvm.MethodName)) ∈ lw_all := lw_g (lw_at lw_m5 76 rfl) rfl
theorem q1194 : (Jvm.Cond.fieldLink "jdk/internal/util/ArraysSupport" (36 : Nat) "jdk/internal/util/ArraysSupport" "BIG_ENDIAN" "Z") ∈ lw_all := lw_g (lw_at lw_m5 128 rfl) rfl
theorem q1195 : (Jvm.Cond.laysStatic "jdk/internal/util/ArraysSupport" "BIG_ENDIAN" "Z") ∈ lw_tbl := lw_at lw_m5 129 rfl
theorem q1196 : (Jvm.Cond.methodLink "jdk/internal/util/ArraysSupport" (40 : Nat) ({ cls := "java/lang/Long", name := "numberOfLeadingZeros", desc := "(J)I" } : Jvm.MethodName)) ∈ lw_all := lw_g (lw_at lw_m5 130 rfl) rfl
theorem q1200 : (Jvm.Cond.fieldLink "jdk/internal/util/ArraysSupport" (46 : Nat) "jdk/internal/util/ArraysSupport" "LOG2_BYTE_BIT_SIZE" "I") ∈ lw_all := lw_g (lw_at lw_m5 134 rfl) rfl
theorem q1201 : (Jvm.Cond.laysStatic "jdk/internal/util/ArraysSupport" "LOG2_BYTE_BIT_SIZE" "I") ∈ lw_tbl := lw_at lw_m5 135 rfl
theorem q1202 : (Jvm.Cond.methodLink "jdk/internal/util/ArraysSupport" (49 : Nat) ({ cls := "java/lang/Long", name := "numberOfTrailingZeros", desc := "(J)I" } : Jvm.MethodName)) ∈ lw_all := lw_g (lw_at lw_m5 136 rfl) rfl
theorem q1208 : (Jvm.Cond.fieldLink "jdk/internal/util/ArraysSupport" (51 : Nat) "jdk/internal/util/ArraysSupport" "LOG2_ARRAY_INT_INDEX_SCALE" "I") ∈ lw_all := lw_g (lw_at lw_m5 142 rfl) rfl
theorem q1209 : (Jvm.Cond.laysStatic "jdk/internal/util/ArraysSupport" "LOG2_ARRAY_INT_INDEX_SCALE" "I") ∈ lw_tbl := lw_at lw_m5 143 rfl
theorem q1210 : (Jvm.Cond.methodLink "jdk/internal/util/ArraysSupport" (54 : Nat) ({ cls := "jdk/internal/misc/Unsafe", name := "getIntUnaligned", desc := "(Ljava/lang/Object;J)I" } : Jvm.MethodName)) ∈ lw_all := lw_g (lw_at lw_m5 144 rfl) rfl
theorem q1227 : (Jvm.Cond.methodLink "jdk/internal/util/ArraysSupport" (58 : Nat) ({ cls := "java/lang/Integer", name := "numberOfLeadingZeros", desc := "(I)I" } : Jvm.MethodName)) ∈ lw_all := lw_g (lw_at lw_m5 161 rfl) rfl
theorem q1228 : (Jvm.Cond.methodLink "jdk/internal/util/ArraysSupport" (11 : Nat) ({ cls := "java/lang/Integer", name := "numberOfTrailingZeros", desc := "(I)I" } : Jvm.MethodName)) ∈ lw_all := lw_g (lw_at lw_m5 162 rfl) rfl
/-! java/lang/Math -/
set_option maxRecDepth 100000
def RJ17 : String := "java/lang/Math"
abbrev cJ17_max : ByteArray := prog_38_method_65_code
def yJ17_max : MethodName := ⟨RJ17, "max", "(II)I"⟩
def dkwJ17_max_0 : List UInt8 := [26, 27, 161, 0, 7, 26, 167, 0, 4, 27, 172]
abbrev dktJ17_max_0 : List UInt8 := dkwJ17_max_0 ++ []
theorem dksJ17_max_0 : cJ17_max.data.toList.drop 0 = dktJ17_max_0 := by decide +kernel
theorem dJ17_max_0 : decode cJ17_max 0 = .ok (.iload_n 0, 1) := dk_26 (dk_at dksJ17_max_0 0 rfl rfl)
theorem dJ17_max_1 : decode cJ17_max 1 = .ok (.iload_n 1, 1) := dk_27 (dk_at dksJ17_max_0 1 rfl rfl)
theorem dJ17_max_2 : decode cJ17_max 2 = .ok (.if_icmp .lt 7, 3) := dk_161 0 7 (dk_at dksJ17_max_0 2 rfl rfl)
theorem dJ17_max_5 : decode cJ17_max 5 = .ok (.iload_n 0, 1) := dk_26 (dk_at dksJ17_max_0 5 rfl rfl)
theorem dJ17_max_6 : decode cJ17_max 6 = .ok (.goto 4, 3) := dk_167 0 4 (dk_at dksJ17_max_0 6 rfl rfl)
theorem dJ17_max_9 : decode cJ17_max 9 = .ok (.iload_n 1, 1) := dk_27 (dk_at dksJ17_max_0 9 rfl rfl)
theorem dJ17_max_10 : decode cJ17_max 10 = .ok (.ireturn, 1) := dk_172 (dk_at dksJ17_max_0 10 rfl rfl)
abbrev cJ17_min : ByteArray := prog_38_method_69_code
def yJ17_min : MethodName := ⟨RJ17, "min", "(II)I"⟩
def dkwJ17_min_0 : List UInt8 := [26, 27, 163, 0, 7, 26, 167, 0, 4, 27, 172]
abbrev dktJ17_min_0 : List UInt8 := dkwJ17_min_0 ++ []
theorem dksJ17_min_0 : cJ17_min.data.toList.drop 0 = dktJ17_min_0 := by decide +kernel
theorem dJ17_min_0 : decode cJ17_min 0 = .ok (.iload_n 0, 1) := dk_26 (dk_at dksJ17_min_0 0 rfl rfl)
theorem dJ17_min_1 : decode cJ17_min 1 = .ok (.iload_n 1, 1) := dk_27 (dk_at dksJ17_min_0 1 rfl rfl)
theorem dJ17_min_2 : decode cJ17_min 2 = .ok (.if_icmp .gt 7, 3) := dk_163 0 7 (dk_at dksJ17_min_0 2 rfl rfl)
theorem dJ17_min_5 : decode cJ17_min 5 = .ok (.iload_n 0, 1) := dk_26 (dk_at dksJ17_min_0 5 rfl rfl)
theorem dJ17_min_6 : decode cJ17_min 6 = .ok (.goto 4, 3) := dk_167 0 4 (dk_at dksJ17_min_0 6 rfl rfl)
theorem dJ17_min_9 : decode cJ17_min 9 = .ok (.iload_n 1, 1) := dk_27 (dk_at dksJ17_min_0 9 rfl rfl)
theorem dJ17_min_10 : decode cJ17_min 10 = .ok (.ireturn, 1) := dk_172 (dk_at dksJ17_min_0 10 rfl rfl)
theorem q127 : (Jvm.Cond.initialized "java/lang/Math") ∈ lw_all := lw_g (lw_at lw_m1 21 rfl) rfl
theorem q589 : (Jvm.Cond.static ({ cls := "java/lang/Math", name := "max", desc := "(II)I" } : Jvm.MethodName)) ∈ lw_all := lw_g (lw_at lw_m3 3 rfl) rfl
theorem q590 : (Jvm.Cond.code ({ cls := "java/lang/Math", name := "max", desc := "(II)I" } : Jvm.MethodName) prog_38_method_65_code (2 : Nat) (Option.some Jvm.ClassFile.FieldType.int)) ∈ lw_all := lw_g (lw_at lw_m3 4 rfl) rfl
theorem q648 : (Jvm.Cond.static ({ cls := "java/lang/Math", name := "min", desc := "(II)I" } : Jvm.MethodName)) ∈ lw_all := lw_g (lw_at lw_m3 62 rfl) rfl
theorem q649 : (Jvm.Cond.code ({ cls := "java/lang/Math", name := "min", desc := "(II)I" } : Jvm.MethodName) prog_38_method_69_code (2 : Nat) (Option.some Jvm.ClassFile.FieldType.int)) ∈ lw_all := lw_g (lw_at lw_m3 63 rfl) rfl
/-! java/util/Arrays -/
set_option maxRecDepth 100000
def RJ18 : String := "java/util/Arrays"
abbrev cJ18_copyOf : ByteArray := prog_56_method_119_code
def yJ18_copyOf : MethodName := ⟨RJ18, "copyOf", "([Ljava/lang/Object;I)[Ljava/lang/Object;"⟩
def dkwJ18_copyOf_0 : List UInt8 := [42, 27, 42, 182, 0, 86, 184, 1, 44, 176]
abbrev dktJ18_copyOf_0 : List UInt8 := dkwJ18_copyOf_0 ++ []
theorem dksJ18_copyOf_0 : cJ18_copyOf.data.toList.drop 0 = dktJ18_copyOf_0 := by decide +kernel
theorem dJ18_copyOf_0 : decode cJ18_copyOf 0 = .ok (.aload_n 0, 1) := dk_42 (dk_at dksJ18_copyOf_0 0 rfl rfl)
theorem dJ18_copyOf_1 : decode cJ18_copyOf 1 = .ok (.iload_n 1, 1) := dk_27 (dk_at dksJ18_copyOf_0 1 rfl rfl)
theorem dJ18_copyOf_2 : decode cJ18_copyOf 2 = .ok (.aload_n 0, 1) := dk_42 (dk_at dksJ18_copyOf_0 2 rfl rfl)
theorem dJ18_copyOf_3 : decode cJ18_copyOf 3 = .ok (.invokevirtual 86, 3) := dk_182 0 86 (dk_at dksJ18_copyOf_0 3 rfl rfl)
theorem dJ18_copyOf_6 : decode cJ18_copyOf 6 = .ok (.invokestatic 300, 3) := dk_184 1 44 (dk_at dksJ18_copyOf_0 6 rfl rfl)
theorem dJ18_copyOf_9 : decode cJ18_copyOf 9 = .ok (.areturn, 1) := dk_176 (dk_at dksJ18_copyOf_0 9 rfl rfl)
abbrev cJ18_copyOf_2 : ByteArray := prog_56_method_120_code
def yJ18_copyOf_2 : MethodName := ⟨RJ18, "copyOf", "([Ljava/lang/Object;ILjava/lang/Class;)[Ljava/lang/Object;"⟩
def dkwJ18_copyOf_2_1 : List UInt8 := [78, 42, 3, 45, 3, 42, 190, 27, 184, 1, 48, 184, 0, 150, 45, 176]
abbrev dktJ18_copyOf_2_1 : List UInt8 := dkwJ18_copyOf_2_1 ++ []
def dkwJ18_copyOf_2_0 : List UInt8 := [44, 18, 110, 166, 0, 10, 27, 189, 0, 2, 167, 0, 14, 44, 182, 0, 90, 27, 184, 0, 95, 192, 0, 110]
abbrev dktJ18_copyOf_2_0 : List UInt8 := dkwJ18_copyOf_2_0 ++ dktJ18_copyOf_2_1
theorem dksJ18_copyOf_2_0 : cJ18_copyOf_2.data.toList.drop 0 = dktJ18_copyOf_2_0 := by decide +kernel
theorem dksJ18_copyOf_2_1 : cJ18_copyOf_2.data.toList.drop 24 = dktJ18_copyOf_2_1 := dk_seg dksJ18_copyOf_2_0 24 rfl rfl
theorem dJ18_copyOf_2_0 : decode cJ18_copyOf_2 0 = .ok (.aload_n 2, 1) := dk_44 (dk_at dksJ18_copyOf_2_0 0 rfl rfl)
theorem dJ18_copyOf_2_1 : decode cJ18_copyOf_2 1 = .ok (.ldc 110, 2) := dk_18 110 (dk_at dksJ18_copyOf_2_0 1 rfl rfl)
theorem dJ18_copyOf_2_3 : decode cJ18_copyOf_2 3 = .ok (.if_acmp .ne 10, 3) := dk_166 0 10 (dk_at dksJ18_copyOf_2_0 3 rfl rfl)
theorem dJ18_copyOf_2_6 : decode cJ18_copyOf_2 6 = .ok (.iload_n 1, 1) := dk_27 (dk_at dksJ18_copyOf_2_0 6 rfl rfl)
theorem dJ18_copyOf_2_7 : decode cJ18_copyOf_2 7 = .ok (.anewarray 2, 3) := dk_189 0 2 (dk_at dksJ18_copyOf_2_0 7 rfl rfl)
theorem dJ18_copyOf_2_10 : decode cJ18_copyOf_2 10 = .ok (.goto 14, 3) := dk_167 0 14 (dk_at dksJ18_copyOf_2_0 10 rfl rfl)
theorem dJ18_copyOf_2_13 : decode cJ18_copyOf_2 13 = .ok (.aload_n 2, 1) := dk_44 (dk_at dksJ18_copyOf_2_0 13 rfl rfl)
theorem dJ18_copyOf_2_14 : decode cJ18_copyOf_2 14 = .ok (.invokevirtual 90, 3) := dk_182 0 90 (dk_at dksJ18_copyOf_2_0 14 rfl rfl)
theorem dJ18_copyOf_2_17 : decode cJ18_copyOf_2 17 = .ok (.iload_n 1, 1) := dk_27 (dk_at dksJ18_copyOf_2_0 17 rfl rfl)
theorem dJ18_copyOf_2_18 : decode cJ18_copyOf_2 18 = .ok (.invokestatic 95, 3) := dk_184 0 95 (dk_at dksJ18_copyOf_2_0 18 rfl rfl)
theorem dJ18_copyOf_2_21 : decode cJ18_copyOf_2 21 = .ok (.checkcast 110, 3) := dk_192 0 110 (dk_at dksJ18_copyOf_2_0 21 rfl rfl)
theorem dJ18_copyOf_2_24 : decode cJ18_copyOf_2 24 = .ok (.astore_n 3, 1) := dk_78 (dk_at dksJ18_copyOf_2_1 0 rfl rfl)
theorem dJ18_copyOf_2_25 : decode cJ18_copyOf_2 25 = .ok (.aload_n 0, 1) := dk_42 (dk_at dksJ18_copyOf_2_1 1 rfl rfl)
theorem dJ18_copyOf_2_26 : decode cJ18_copyOf_2 26 = .ok (.iconst 0, 1) := dk_3 (dk_at dksJ18_copyOf_2_1 2 rfl rfl)
theorem dJ18_copyOf_2_27 : decode cJ18_copyOf_2 27 = .ok (.aload_n 3, 1) := dk_45 (dk_at dksJ18_copyOf_2_1 3 rfl rfl)
theorem dJ18_copyOf_2_28 : decode cJ18_copyOf_2 28 = .ok (.iconst 0, 1) := dk_3 (dk_at dksJ18_copyOf_2_1 4 rfl rfl)
theorem dJ18_copyOf_2_29 : decode cJ18_copyOf_2 29 = .ok (.aload_n 0, 1) := dk_42 (dk_at dksJ18_copyOf_2_1 5 rfl rfl)
theorem dJ18_copyOf_2_30 : decode cJ18_copyOf_2 30 = .ok (.arraylength, 1) := dk_190 (dk_at dksJ18_copyOf_2_1 6 rfl rfl)
theorem dJ18_copyOf_2_31 : decode cJ18_copyOf_2 31 = .ok (.iload_n 1, 1) := dk_27 (dk_at dksJ18_copyOf_2_1 7 rfl rfl)
theorem dJ18_copyOf_2_32 : decode cJ18_copyOf_2 32 = .ok (.invokestatic 304, 3) := dk_184 1 48 (dk_at dksJ18_copyOf_2_1 8 rfl rfl)
theorem dJ18_copyOf_2_35 : decode cJ18_copyOf_2 35 = .ok (.invokestatic 150, 3) := dk_184 0 150 (dk_at dksJ18_copyOf_2_1 11 rfl rfl)
theorem dJ18_copyOf_2_38 : decode cJ18_copyOf_2 38 = .ok (.aload_n 3, 1) := dk_45 (dk_at dksJ18_copyOf_2_1 14 rfl rfl)
theorem dJ18_copyOf_2_39 : decode cJ18_copyOf_2 39 = .ok (.areturn, 1) := dk_176 (dk_at dksJ18_copyOf_2_1 15 rfl rfl)
abbrev cJ18_copyOf_3 : ByteArray := prog_56_method_121_code
def yJ18_copyOf_3 : MethodName := ⟨RJ18, "copyOf", "([BI)[B"⟩
def dkwJ18_copyOf_3_1 : List UInt8 := [27, 184, 1, 48, 184, 0, 150, 44, 176]
abbrev dktJ18_copyOf_3_1 : List UInt8 := dkwJ18_copyOf_3_1 ++ []
def dkwJ18_copyOf_3_0 : List UInt8 := [27, 42, 190, 160, 0, 11, 42, 182, 1, 54, 192, 1, 55, 176, 27, 188, 8, 77, 42, 3, 44, 3, 42, 190]
abbrev dktJ18_copyOf_3_0 : List UInt8 := dkwJ18_copyOf_3_0 ++ dktJ18_copyOf_3_1
theorem dksJ18_copyOf_3_0 : cJ18_copyOf_3.data.toList.drop 0 = dktJ18_copyOf_3_0 := by decide +kernel
theorem dksJ18_copyOf_3_1 : cJ18_copyOf_3.data.toList.drop 24 = dktJ18_copyOf_3_1 := dk_seg dksJ18_copyOf_3_0 24 rfl rfl
theorem dJ18_copyOf_3_0 : decode cJ18_copyOf_3 0 = .ok (.iload_n 1, 1) := dk_27 (dk_at dksJ18_copyOf_3_0 0 rfl rfl)
theorem dJ18_copyOf_3_1 : decode cJ18_copyOf_3 1 = .ok (.aload_n 0, 1) := dk_42 (dk_at dksJ18_copyOf_3_0 1 rfl rfl)
theorem dJ18_copyOf_3_2 : decode cJ18_copyOf_3 2 = .ok (.arraylength, 1) := dk_190 (dk_at dksJ18_copyOf_3_0 2 rfl rfl)
theorem dJ18_copyOf_3_3 : decode cJ18_copyOf_3 3 = .ok (.if_icmp .ne 11, 3) := dk_160 0 11 (dk_at dksJ18_copyOf_3_0 3 rfl rfl)
theorem dJ18_copyOf_3_6 : decode cJ18_copyOf_3 6 = .ok (.aload_n 0, 1) := dk_42 (dk_at dksJ18_copyOf_3_0 6 rfl rfl)
theorem dJ18_copyOf_3_7 : decode cJ18_copyOf_3 7 = .ok (.invokevirtual 310, 3) := dk_182 1 54 (dk_at dksJ18_copyOf_3_0 7 rfl rfl)
theorem dJ18_copyOf_3_10 : decode cJ18_copyOf_3 10 = .ok (.checkcast 311, 3) := dk_192 1 55 (dk_at dksJ18_copyOf_3_0 10 rfl rfl)
theorem dJ18_copyOf_3_13 : decode cJ18_copyOf_3 13 = .ok (.areturn, 1) := dk_176 (dk_at dksJ18_copyOf_3_0 13 rfl rfl)
theorem dJ18_copyOf_3_14 : decode cJ18_copyOf_3 14 = .ok (.iload_n 1, 1) := dk_27 (dk_at dksJ18_copyOf_3_0 14 rfl rfl)
theorem dJ18_copyOf_3_15 : decode cJ18_copyOf_3 15 = .ok (.newarray .byte, 2) := dk_188_8 (dk_at dksJ18_copyOf_3_0 15 rfl rfl)
theorem dJ18_copyOf_3_17 : decode cJ18_copyOf_3 17 = .ok (.astore_n 2, 1) := dk_77 (dk_at dksJ18_copyOf_3_0 17 rfl rfl)
theorem dJ18_copyOf_3_18 : decode cJ18_copyOf_3 18 = .ok (.aload_n 0, 1) := dk_42 (dk_at dksJ18_copyOf_3_0 18 rfl rfl)
theorem dJ18_copyOf_3_19 : decode cJ18_copyOf_3 19 = .ok (.iconst 0, 1) := dk_3 (dk_at dksJ18_copyOf_3_0 19 rfl rfl)
theorem dJ18_copyOf_3_20 : decode cJ18_copyOf_3 20 = .ok (.aload_n 2, 1) := dk_44 (dk_at dksJ18_copyOf_3_0 20 rfl rfl)
theorem dJ18_copyOf_3_21 : decode cJ18_copyOf_3 21 = .ok (.iconst 0, 1) := dk_3 (dk_at dksJ18_copyOf_3_0 21 rfl rfl)
theorem dJ18_copyOf_3_22 : decode cJ18_copyOf_3 22 = .ok (.aload_n 0, 1) := dk_42 (dk_at dksJ18_copyOf_3_0 22 rfl rfl)
theorem dJ18_copyOf_3_23 : decode cJ18_copyOf_3 23 = .ok (.arraylength, 1) := dk_190 (dk_at dksJ18_copyOf_3_0 23 rfl rfl)
theorem dJ18_copyOf_3_24 : decode cJ18_copyOf_3 24 = .ok (.iload_n 1, 1) := dk_27 (dk_at dksJ18_copyOf_3_1 0 rfl rfl)
theorem dJ18_copyOf_3_25 : decode cJ18_copyOf_3 25 = .ok (.invokestatic 304, 3) := dk_184 1 48 (dk_at dksJ18_copyOf_3_1 1 rfl rfl)
theorem dJ18_copyOf_3_28 : decode cJ18_copyOf_3 28 = .ok (.invokestatic 150, 3) := dk_184 0 150 (dk_at dksJ18_copyOf_3_1 4 rfl rfl)
theorem dJ18_copyOf_3_31 : decode cJ18_copyOf_3 31 = .ok (.aload_n 2, 1) := dk_44 (dk_at dksJ18_copyOf_3_1 7 rfl rfl)
theorem dJ18_copyOf_3_32 : decode cJ18_copyOf_3 32 = .ok (.areturn, 1) := dk_176 (dk_at dksJ18_copyOf_3_1 8 rfl rfl)
abbrev cJ18_copyOfRange : ByteArray := prog_56_method_132_code
def yJ18_copyOfRange : MethodName := ⟨RJ18, "copyOfRange", "([BII)[B"⟩
def dkwJ18_copyOfRange_1 : List UInt8 := [176]
abbrev dktJ18_copyOfRange_1 : List UInt8 := dkwJ18_copyOfRange_1 ++ []
def dkwJ18_copyOfRange_0 : List UInt8 := [27, 154, 0, 9, 28, 42, 190, 159, 0, 10, 42, 27, 28, 184, 1, 83, 176, 42, 182, 1, 54, 192, 1, 55]
abbrev dktJ18_copyOfRange_0 : List UInt8 := dkwJ18_copyOfRange_0 ++ dktJ18_copyOfRange_1
theorem dksJ18_copyOfRange_0 : cJ18_copyOfRange.data.toList.drop 0 = dktJ18_copyOfRange_0 := by decide +kernel
theorem dksJ18_copyOfRange_1 : cJ18_copyOfRange.data.toList.drop 24 = dktJ18_copyOfRange_1 := dk_seg dksJ18_copyOfRange_0 24 rfl rfl
theorem dJ18_copyOfRange_0 : decode cJ18_copyOfRange 0 = .ok (.iload_n 1, 1) := dk_27 (dk_at dksJ18_copyOfRange_0 0 rfl rfl)
theorem dJ18_copyOfRange_1 : decode cJ18_copyOfRange 1 = .ok (.ifCond .ne 9, 3) := dk_154 0 9 (dk_at dksJ18_copyOfRange_0 1 rfl rfl)
theorem dJ18_copyOfRange_4 : decode cJ18_copyOfRange 4 = .ok (.iload_n 2, 1) := dk_28 (dk_at dksJ18_copyOfRange_0 4 rfl rfl)
theorem dJ18_copyOfRange_5 : decode cJ18_copyOfRange 5 = .ok (.aload_n 0, 1) := dk_42 (dk_at dksJ18_copyOfRange_0 5 rfl rfl)
theorem dJ18_copyOfRange_6 : decode cJ18_copyOfRange 6 = .ok (.arraylength, 1) := dk_190 (dk_at dksJ18_copyOfRange_0 6 rfl rfl)
theorem dJ18_copyOfRange_7 : decode cJ18_copyOfRange 7 = .ok (.if_icmp .eq 10, 3) := dk_159 0 10 (dk_at dksJ18_copyOfRange_0 7 rfl rfl)
theorem dJ18_copyOfRange_10 : decode cJ18_copyOfRange 10 = .ok (.aload_n 0, 1) := dk_42 (dk_at dksJ18_copyOfRange_0 10 rfl rfl)
theorem dJ18_copyOfRange_11 : decode cJ18_copyOfRange 11 = .ok (.iload_n 1, 1) := dk_27 (dk_at dksJ18_copyOfRange_0 11 rfl rfl)
theorem dJ18_copyOfRange_12 : decode cJ18_copyOfRange 12 = .ok (.iload_n 2, 1) := dk_28 (dk_at dksJ18_copyOfRange_0 12 rfl rfl)
theorem dJ18_copyOfRange_13 : decode cJ18_copyOfRange 13 = .ok (.invokestatic 339, 3) := dk_184 1 83 (dk_at dksJ18_copyOfRange_0 13 rfl rfl)
theorem dJ18_copyOfRange_16 : decode cJ18_copyOfRange 16 = .ok (.areturn, 1) := dk_176 (dk_at dksJ18_copyOfRange_0 16 rfl rfl)
theorem dJ18_copyOfRange_17 : decode cJ18_copyOfRange 17 = .ok (.aload_n 0, 1) := dk_42 (dk_at dksJ18_copyOfRange_0 17 rfl rfl)
theorem dJ18_copyOfRange_18 : decode cJ18_copyOfRange 18 = .ok (.invokevirtual 310, 3) := dk_182 1 54 (dk_at dksJ18_copyOfRange_0 18 rfl rfl)
theorem dJ18_copyOfRange_21 : decode cJ18_copyOfRange 21 = .ok (.checkcast 311, 3) := dk_192 1 55 (dk_at dksJ18_copyOfRange_0 21 rfl rfl)
theorem dJ18_copyOfRange_24 : decode cJ18_copyOfRange 24 = .ok (.areturn, 1) := dk_176 (dk_at dksJ18_copyOfRange_1 0 rfl rfl)
abbrev cJ18_copyOfRangeByte : ByteArray := prog_56_method_133_code
def yJ18_copyOfRangeByte : MethodName := ⟨RJ18, "copyOfRangeByte", "([BII)[B"⟩
def dkwJ18_copyOfRangeByte_1 : List UInt8 := [184, 1, 48, 184, 0, 150, 25, 4, 176]
abbrev dktJ18_copyOfRangeByte_1 : List UInt8 := dkwJ18_copyOfRangeByte_1 ++ []
def dkwJ18_copyOfRangeByte_0 : List UInt8 := [27, 28, 184, 1, 87, 28, 27, 100, 62, 29, 188, 8, 58, 4, 42, 27, 25, 4, 3, 42, 190, 27, 100, 29]
abbrev dktJ18_copyOfRangeByte_0 : List UInt8 := dkwJ18_copyOfRangeByte_0 ++ dktJ18_copyOfRangeByte_1
theorem dksJ18_copyOfRangeByte_0 : cJ18_copyOfRangeByte.data.toList.drop 0 = dktJ18_copyOfRangeByte_0 := by decide +kernel
theorem dksJ18_copyOfRangeByte_1 : cJ18_copyOfRangeByte.data.toList.drop 24 = dktJ18_copyOfRangeByte_1 := dk_seg dksJ18_copyOfRangeByte_0 24 rfl rfl
theorem dJ18_copyOfRangeByte_0 : decode cJ18_copyOfRangeByte 0 = .ok (.iload_n 1, 1) := dk_27 (dk_at dksJ18_copyOfRangeByte_0 0 rfl rfl)
theorem dJ18_copyOfRangeByte_1 : decode cJ18_copyOfRangeByte 1 = .ok (.iload_n 2, 1) := dk_28 (dk_at dksJ18_copyOfRangeByte_0 1 rfl rfl)
theorem dJ18_copyOfRangeByte_2 : decode cJ18_copyOfRangeByte 2 = .ok (.invokestatic 343, 3) := dk_184 1 87 (dk_at dksJ18_copyOfRangeByte_0 2 rfl rfl)
theorem dJ18_copyOfRangeByte_5 : decode cJ18_copyOfRangeByte 5 = .ok (.iload_n 2, 1) := dk_28 (dk_at dksJ18_copyOfRangeByte_0 5 rfl rfl)
theorem dJ18_copyOfRangeByte_6 : decode cJ18_copyOfRangeByte 6 = .ok (.iload_n 1, 1) := dk_27 (dk_at dksJ18_copyOfRangeByte_0 6 rfl rfl)
theorem dJ18_copyOfRangeByte_7 : decode cJ18_copyOfRangeByte 7 = .ok (.isub, 1) := dk_100 (dk_at dksJ18_copyOfRangeByte_0 7 rfl rfl)
theorem dJ18_copyOfRangeByte_8 : decode cJ18_copyOfRangeByte 8 = .ok (.istore_n 3, 1) := dk_62 (dk_at dksJ18_copyOfRangeByte_0 8 rfl rfl)
theorem dJ18_copyOfRangeByte_9 : decode cJ18_copyOfRangeByte 9 = .ok (.iload_n 3, 1) := dk_29 (dk_at dksJ18_copyOfRangeByte_0 9 rfl rfl)
theorem dJ18_copyOfRangeByte_10 : decode cJ18_copyOfRangeByte 10 = .ok (.newarray .byte, 2) := dk_188_8 (dk_at dksJ18_copyOfRangeByte_0 10 rfl rfl)
theorem dJ18_copyOfRangeByte_12 : decode cJ18_copyOfRangeByte 12 = .ok (.astore 4, 2) := dk_58 4 (dk_at dksJ18_copyOfRangeByte_0 12 rfl rfl)
theorem dJ18_copyOfRangeByte_14 : decode cJ18_copyOfRangeByte 14 = .ok (.aload_n 0, 1) := dk_42 (dk_at dksJ18_copyOfRangeByte_0 14 rfl rfl)
theorem dJ18_copyOfRangeByte_15 : decode cJ18_copyOfRangeByte 15 = .ok (.iload_n 1, 1) := dk_27 (dk_at dksJ18_copyOfRangeByte_0 15 rfl rfl)
theorem dJ18_copyOfRangeByte_16 : decode cJ18_copyOfRangeByte 16 = .ok (.aload 4, 2) := dk_25 4 (dk_at dksJ18_copyOfRangeByte_0 16 rfl rfl)
theorem dJ18_copyOfRangeByte_18 : decode cJ18_copyOfRangeByte 18 = .ok (.iconst 0, 1) := dk_3 (dk_at dksJ18_copyOfRangeByte_0 18 rfl rfl)
theorem dJ18_copyOfRangeByte_19 : decode cJ18_copyOfRangeByte 19 = .ok (.aload_n 0, 1) := dk_42 (dk_at dksJ18_copyOfRangeByte_0 19 rfl rfl)
theorem dJ18_copyOfRangeByte_20 : decode cJ18_copyOfRangeByte 20 = .ok (.arraylength, 1) := dk_190 (dk_at dksJ18_copyOfRangeByte_0 20 rfl rfl)
theorem dJ18_copyOfRangeByte_21 : decode cJ18_copyOfRangeByte 21 = .ok (.iload_n 1, 1) := dk_27 (dk_at dksJ18_copyOfRangeByte_0 21 rfl rfl)
theorem dJ18_copyOfRangeByte_22 : decode cJ18_copyOfRangeByte 22 = .ok (.isub, 1) := dk_100 (dk_at dksJ18_copyOfRangeByte_0 22 rfl rfl)
theorem dJ18_copyOfRangeByte_23 : decode cJ18_copyOfRangeByte 23 = .ok (.iload_n 3, 1) := dk_29 (dk_at dksJ18_copyOfRangeByte_0 23 rfl rfl)
theorem dJ18_copyOfRangeByte_24 : decode cJ18_copyOfRangeByte 24 = .ok (.invokestatic 304, 3) := dk_184 1 48 (dk_at dksJ18_copyOfRangeByte_1 0 rfl rfl)
theorem dJ18_copyOfRangeByte_27 : decode cJ18_copyOfRangeByte 27 = .ok (.invokestatic 150, 3) := dk_184 0 150 (dk_at dksJ18_copyOfRangeByte_1 3 rfl rfl)
theorem dJ18_copyOfRangeByte_30 : decode cJ18_copyOfRangeByte 30 = .ok (.aload 4, 2) := dk_25 4 (dk_at dksJ18_copyOfRangeByte_1 6 rfl rfl)
theorem dJ18_copyOfRangeByte_32 : decode cJ18_copyOfRangeByte 32 = .ok (.areturn, 1) := dk_176 (dk_at dksJ18_copyOfRangeByte_1 8 rfl rfl)
abbrev cJ18_checkLength : ByteArray := prog_56_method_131_code
def yJ18_checkLength : MethodName := ⟨RJ18, "checkLength", "(II)V"⟩
def dkwJ18_checkLength_1 : List UInt8 := [182, 0, 50, 27, 182, 0, 54, 182, 0, 61, 183, 0, 65, 191, 177]
abbrev dktJ18_checkLength_1 : List UInt8 := dkwJ18_checkLength_1 ++ []
def dkwJ18_checkLength_0 : List UInt8 := [27, 26, 162, 0, 35, 187, 0, 43, 89, 187, 0, 45, 89, 183, 0, 47, 26, 182, 0, 54, 19, 1, 81]
abbrev dktJ18_checkLength_0 : List UInt8 := dkwJ18_checkLength_0 ++ dktJ18_checkLength_1
theorem dksJ18_checkLength_0 : cJ18_checkLength.data.toList.drop 0 = dktJ18_checkLength_0 := by decide +kernel
theorem dksJ18_checkLength_1 : cJ18_checkLength.data.toList.drop 23 = dktJ18_checkLength_1 := dk_seg dksJ18_checkLength_0 23 rfl rfl
theorem dJ18_checkLength_0 : decode cJ18_checkLength 0 = .ok (.iload_n 1, 1) := dk_27 (dk_at dksJ18_checkLength_0 0 rfl rfl)
theorem dJ18_checkLength_1 : decode cJ18_checkLength 1 = .ok (.iload_n 0, 1) := dk_26 (dk_at dksJ18_checkLength_0 1 rfl rfl)
theorem dJ18_checkLength_2 : decode cJ18_checkLength 2 = .ok (.if_icmp .ge 35, 3) := dk_162 0 35 (dk_at dksJ18_checkLength_0 2 rfl rfl)
theorem dJ18_checkLength_5 : decode cJ18_checkLength 5 = .ok (.new 43, 3) := dk_187 0 43 (dk_at dksJ18_checkLength_0 5 rfl rfl)
theorem dJ18_checkLength_8 : decode cJ18_checkLength 8 = .ok (.dup, 1) := dk_89 (dk_at dksJ18_checkLength_0 8 rfl rfl)
theorem dJ18_checkLength_9 : decode cJ18_checkLength 9 = .ok (.new 45, 3) := dk_187 0 45 (dk_at dksJ18_checkLength_0 9 rfl rfl)
theorem dJ18_checkLength_12 : decode cJ18_checkLength 12 = .ok (.dup, 1) := dk_89 (dk_at dksJ18_checkLength_0 12 rfl rfl)
theorem dJ18_checkLength_13 : decode cJ18_checkLength 13 = .ok (.invokespecial 47, 3) := dk_183 0 47 (dk_at dksJ18_checkLength_0 13 rfl rfl)
theorem dJ18_checkLength_16 : decode cJ18_checkLength 16 = .ok (.iload_n 0, 1) := dk_26 (dk_at dksJ18_checkLength_0 16 rfl rfl)
theorem dJ18_checkLength_17 : decode cJ18_checkLength 17 = .ok (.invokevirtual 54, 3) := dk_182 0 54 (dk_at dksJ18_checkLength_0 17 rfl rfl)
theorem dJ18_checkLength_20 : decode cJ18_checkLength 20 = .ok (.ldc_w 337, 3) := dk_19 1 81 (dk_at dksJ18_checkLength_0 20 rfl rfl)
theorem dJ18_checkLength_23 : decode cJ18_checkLength 23 = .ok (.invokevirtual 50, 3) := dk_182 0 50 (dk_at dksJ18_checkLength_1 0 rfl rfl)
theorem dJ18_checkLength_26 : decode cJ18_checkLength 26 = .ok (.iload_n 1, 1) := dk_27 (dk_at dksJ18_checkLength_1 3 rfl rfl)
theorem dJ18_checkLength_27 : decode cJ18_checkLength 27 = .ok (.invokevirtual 54, 3) := dk_182 0 54 (dk_at dksJ18_checkLength_1 4 rfl rfl)
theorem dJ18_checkLength_30 : decode cJ18_checkLength 30 = .ok (.invokevirtual 61, 3) := dk_182 0 61 (dk_at dksJ18_checkLength_1 7 rfl rfl)
theorem dJ18_checkLength_33 : decode cJ18_checkLength 33 = .ok (.invokespecial 65, 3) := dk_183 0 65 (dk_at dksJ18_checkLength_1 10 rfl rfl)
theorem dJ18_checkLength_36 : decode cJ18_checkLength 36 = .ok (.athrow, 1) := dk_191 (dk_at dksJ18_checkLength_1 13 rfl rfl)
theorem dJ18_checkLength_37 : decode cJ18_checkLength 37 = .ok (.return_, 1) := dk_177 (dk_at dksJ18_checkLength_1 14 rfl rfl)
theorem q128 : (Jvm.Cond.initialized "java/util/Arrays") ∈ lw_all := lw_g (lw_at lw_m1 22 rfl) rfl
theorem q596 : (Jvm.Cond.static ({ cls := "java/util/Arrays", name := "copyOf", desc := "([Ljava/lang/Object;I)[Ljava/lang/Object;" } : Jvm.MethodName)) ∈ lw_all := lw_g (lw_at lw_m3 10 rfl) rfl
theorem q597 : (Jvm.Cond.code ({ cls := "java/util/Arrays", name := "copyOf", desc := "([Ljava/lang/Object;I)[Ljava/lang/Object;" } : Jvm.MethodName) prog_56_method_119_code (2 : Nat) (Option.some (Jvm.ClassFile.FieldType.array (Jvm.ClassFile.FieldType.object "java/lang/Object")))) ∈ lw_all := lw_g (lw_at lw_m3 11 rfl) rfl
theorem q598 : (Jvm.Cond.methodLink "java/util/Arrays" (86 : Nat) ({ cls := "java/lang/Object", name := "getClass", desc := "()Ljava/lang/Class;" } : Jvm.MethodName)) ∈ lw_all := lw_g (lw_at lw_m3 12 rfl) rfl
theorem q641 : (Jvm.Cond.methodLink "java/util/Arrays" (300 : Nat) ({ cls := "java/util/Arrays", name := "copyOf", desc := "([Ljava/lang/Object;ILjava/lang/Class;)[Ljava/lang/Object;" } : Jvm.MethodName)) ∈ lw_all := lw_g (lw_at lw_m3 55 rfl) rfl
theorem q642 : (Jvm.Cond.static ({ cls := "java/util/Arrays", name := "copyOf", desc := "([Ljava/lang/Object;ILjava/lang/Class;)[Ljava/lang/Object;" } : Jvm.MethodName)) ∈ lw_all := lw_g (lw_at lw_m3 56 rfl) rfl
theorem q643 : (Jvm.Cond.code ({ cls := "java/util/Arrays", name := "copyOf", desc := "([Ljava/lang/Object;ILjava/lang/Class;)[Ljava/lang/Object;" } : Jvm.MethodName) prog_56_method_120_code (4 : Nat) (Option.some (Jvm.ClassFile.FieldType.array (Jvm.ClassFile.FieldType.object "java/lang/Object")))) ∈ lw_all := lw_g (lw_at lw_m3 57 rfl) rfl
theorem q644 : (Jvm.Cond.classLink "java/util/Arrays" (110 : Nat) "[Ljava/lang/Object;") ∈ lw_all := lw_g (lw_at lw_m3 58 rfl) rfl
theorem q646 : (Jvm.Cond.classLink "java/util/Arrays" (2 : Nat) "java/lang/Object") ∈ lw_all := lw_g (lw_at lw_m3 60 rfl) rfl
theorem q647 : (Jvm.Cond.methodLink "java/util/Arrays" (304 : Nat) ({ cls := "java/lang/Math", name := "min", desc := "(II)I" } : Jvm.MethodName)) ∈ lw_all := lw_g (lw_at lw_m3 61 rfl) rfl
theorem q650 : (Jvm.Cond.methodLink "java/util/Arrays" (150 : Nat) ({ cls := "java/lang/System", name := "arraycopy", desc := "(Ljava/lang/Object;ILjava/lang/Object;II)V" } : Jvm.MethodName)) ∈ lw_all := lw_g (lw_at lw_m3 64 rfl) rfl
theorem q1618 : (Jvm.Cond.static ({ cls := "java/util/Arrays", name := "copyOf", desc := "([BI)[B" } : Jvm.MethodName)) ∈ lw_all := lw_g (lw_at lw_m7 72 rfl) rfl
theorem q1619 : (Jvm.Cond.code ({ cls := "java/util/Arrays", name := "copyOf", desc := "([BI)[B" } : Jvm.MethodName) prog_56_method_121_code (3 : Nat) (Option.some (Jvm.ClassFile.FieldType.array Jvm.ClassFile.FieldType.byte))) ∈ lw_all := lw_g (lw_at lw_m7 73 rfl) rfl
theorem q1620 : (Jvm.Cond.methodLink "java/util/Arrays" (310 : Nat) ({ cls := "[B", name := "clone", desc := "()Ljava/lang/Object;" } : Jvm.MethodName)) ∈ lw_all := lw_g (lw_at lw_m7 74 rfl) rfl
theorem q1626 : (Jvm.Cond.classLink "java/util/Arrays" (311 : Nat) "[B") ∈ lw_all := lw_g (lw_at lw_m7 80 rfl) rfl
theorem q1690 : (Jvm.Cond.static ({ cls := "java/util/Arrays", name := "copyOfRange", desc := "([BII)[B" } : Jvm.MethodName)) ∈ lw_all := lw_g (lw_at lw_m7 144 rfl) rfl
theorem q1691 : (Jvm.Cond.code ({ cls := "java/util/Arrays", name := "copyOfRange", desc := "([BII)[B" } : Jvm.MethodName) prog_56_method_132_code (3 : Nat) (Option.some (Jvm.ClassFile.FieldType.array Jvm.ClassFile.FieldType.byte))) ∈ lw_all := lw_g (lw_at lw_m7 145 rfl) rfl
theorem q1692 : (Jvm.Cond.methodLink "java/util/Arrays" (339 : Nat) ({ cls := "java/util/Arrays", name := "copyOfRangeByte", desc := "([BII)[B" } : Jvm.MethodName)) ∈ lw_all := lw_g (lw_at lw_m7 146 rfl) rfl
theorem q1693 : (Jvm.Cond.static ({ cls := "java/util/Arrays", name := "copyOfRangeByte", desc := "([BII)[B" } : Jvm.MethodName)) ∈ lw_all := lw_g (lw_at lw_m7 147 rfl) rfl
theorem q1694 : (Jvm.Cond.code ({ cls := "java/util/Arrays", name := "copyOfRangeByte", desc := "([BII)[B" } : Jvm.MethodName) prog_56_method_133_code (5 : Nat) (Option.some (Jvm.ClassFile.FieldType.array Jvm.ClassFile.FieldType.byte))) ∈ lw_all := lw_g (lw_at lw_m7 148 rfl) rfl
theorem q1695 : (Jvm.Cond.methodLink "java/util/Arrays" (343 : Nat) ({ cls := "java/util/Arrays", name := "checkLength", desc := "(II)V" } : Jvm.MethodName)) ∈ lw_all := lw_g (lw_at lw_m7 149 rfl) rfl
theorem q1696 : (Jvm.Cond.static ({ cls := "java/util/Arrays", name := "checkLength", desc := "(II)V" } : Jvm.MethodName)) ∈ lw_all := lw_g (lw_at lw_m7 150 rfl) rfl
theorem q1697 : (Jvm.Cond.code ({ cls := "java/util/Arrays", name := "checkLength", desc := "(II)V" } : Jvm.MethodName) prog_56_method_131_code (2 : Nat) (Option.none : Option Jvm.ClassFile.FieldType)) ∈ lw_all := lw_g (lw_at lw_m7 151 rfl) rfl
/-! java/util/Objects -/
set_option maxRecDepth 100000
def RJ19 : String := "java/util/Objects"
abbrev cJ19_checkIndex : ByteArray := prog_75_method_17_code
def yJ19_checkIndex : MethodName := ⟨RJ19, "checkIndex", "(II)I"⟩
def dkwJ19_checkIndex_0 : List UInt8 := [26, 27, 1, 184, 0, 105, 172]
abbrev dktJ19_checkIndex_0 : List UInt8 := dkwJ19_checkIndex_0 ++ []
theorem dksJ19_checkIndex_0 : cJ19_checkIndex.data.toList.drop 0 = dktJ19_checkIndex_0 := by decide +kernel
theorem dJ19_checkIndex_0 : decode cJ19_checkIndex 0 = .ok (.iload_n 0, 1) := dk_26 (dk_at dksJ19_checkIndex_0 0 rfl rfl)
theorem dJ19_checkIndex_1 : decode cJ19_checkIndex 1 = .ok (.iload_n 1, 1) := dk_27 (dk_at dksJ19_checkIndex_0 1 rfl rfl)
theorem dJ19_checkIndex_2 : decode cJ19_checkIndex 2 = .ok (.aconst_null, 1) := dk_1 (dk_at dksJ19_checkIndex_0 2 rfl rfl)
theorem dJ19_checkIndex_3 : decode cJ19_checkIndex 3 = .ok (.invokestatic 105, 3) := dk_184 0 105 (dk_at dksJ19_checkIndex_0 3 rfl rfl)
theorem dJ19_checkIndex_6 : decode cJ19_checkIndex 6 = .ok (.ireturn, 1) := dk_172 (dk_at dksJ19_checkIndex_0 6 rfl rfl)
theorem q131 : (Jvm.Cond.initialized "java/util/Objects") ∈ lw_all := lw_g (lw_at lw_m1 25 rfl) rfl
theorem q739 : (Jvm.Cond.static ({ cls := "java/util/Objects", name := "checkIndex", desc := "(II)I" } : Jvm.MethodName)) ∈ lw_all := lw_g (lw_at lw_m3 153 rfl) rfl
theorem q740 : (Jvm.Cond.code ({ cls := "java/util/Objects", name := "checkIndex", desc := "(II)I" } : Jvm.MethodName) prog_75_method_17_code (2 : Nat) (Option.some Jvm.ClassFile.FieldType.int)) ∈ lw_all := lw_g (lw_at lw_m3 154 rfl) rfl
theorem q741 : (Jvm.Cond.methodLink "java/util/Objects" (105 : Nat) ({ cls := "jdk/internal/util/Preconditions", name := "checkIndex", desc := "(IILjava/util/function/BiFunction;)I" } : Jvm.MethodName)) ∈ lw_all := lw_g (lw_at lw_m3 155 rfl) rfl
/-! java/util/ArrayList -/
set_option maxRecDepth 100000
def RJ2 : String := "java/util/ArrayList"
def TJ2 : u_T := fun k => match k with
  | 0 => ("java/util/AbstractList", "modCount", "I", false)
  | 1 => ("java/util/ArrayList", "elementData", "[Ljava/lang/Object;", false)
  | _ => ("java/util/ArrayList", "size", "I", false)
def tyJ2 : Nat → FieldType := fun k => match k with
  | 0 => .int
  | 1 => .array (.object "java/lang/Object")
  | _ => .int
abbrev wsJ20 : List Cond := u_ws RJ2 TJ2 3
theorem nmJ2 : ∀ a, a < 3 → ∀ b, b < 3 → a ≠ b → (TJ2 a).2.1 ≠ (TJ2 b).2.1 := by decide +kernel
theorem tyJ2_ok : ∀ k, k < 3 → parseFieldDescriptor (TJ2 k).2.2.1 = some (tyJ2 k) := by decide +kernel
abbrev cJ2_init : ByteArray := prog_54_method_2_code
def yJ2_init : MethodName := ⟨RJ2, "<init>", "()V"⟩
def dkwJ2_init_0 : List UInt8 := [42, 183, 0, 1, 42, 178, 0, 39, 181, 0, 9, 177]
abbrev dktJ2_init_0 : List UInt8 := dkwJ2_init_0 ++ []
theorem dksJ2_init_0 : cJ2_init.data.toList.drop 0 = dktJ2_init_0 := by decide +kernel
theorem dJ2_init_0 : decode cJ2_init 0 = .ok (.aload_n 0, 1) := dk_42 (dk_at dksJ2_init_0 0 rfl rfl)
theorem dJ2_init_1 : decode cJ2_init 1 = .ok (.invokespecial 1, 3) := dk_183 0 1 (dk_at dksJ2_init_0 1 rfl rfl)
theorem dJ2_init_4 : decode cJ2_init 4 = .ok (.aload_n 0, 1) := dk_42 (dk_at dksJ2_init_0 4 rfl rfl)
theorem dJ2_init_5 : decode cJ2_init 5 = .ok (.getstatic 39, 3) := dk_178 0 39 (dk_at dksJ2_init_0 5 rfl rfl)
theorem dJ2_init_8 : decode cJ2_init 8 = .ok (.putfield 9, 3) := dk_181 0 9 (dk_at dksJ2_init_0 8 rfl rfl)
theorem dJ2_init_11 : decode cJ2_init 11 = .ok (.return_, 1) := dk_177 (dk_at dksJ2_init_0 11 rfl rfl)
abbrev cJ2_clear : ByteArray := prog_54_method_40_code
def yJ2_clear : MethodName := ⟨RJ2, "clear", "()V"⟩
def dkwJ2_clear_1 : List UInt8 := [181, 0, 48, 62, 29, 28, 162, 0, 13, 43, 29, 1, 83, 132, 3, 1, 167, 255, 244, 177]
abbrev dktJ2_clear_1 : List UInt8 := dkwJ2_clear_1 ++ []
def dkwJ2_clear_0 : List UInt8 := [42, 89, 180, 0, 63, 4, 96, 181, 0, 63, 42, 180, 0, 9, 76, 42, 180, 0, 48, 61, 42, 3, 90]
abbrev dktJ2_clear_0 : List UInt8 := dkwJ2_clear_0 ++ dktJ2_clear_1
theorem dksJ2_clear_0 : cJ2_clear.data.toList.drop 0 = dktJ2_clear_0 := by decide +kernel
theorem dksJ2_clear_1 : cJ2_clear.data.toList.drop 23 = dktJ2_clear_1 := dk_seg dksJ2_clear_0 23 rfl rfl
theorem dJ2_clear_0 : decode cJ2_clear 0 = .ok (.aload_n 0, 1) := dk_42 (dk_at dksJ2_clear_0 0 rfl rfl)
theorem dJ2_clear_1 : decode cJ2_clear 1 = .ok (.dup, 1) := dk_89 (dk_at dksJ2_clear_0 1 rfl rfl)
theorem dJ2_clear_2 : decode cJ2_clear 2 = .ok (.getfield 63, 3) := dk_180 0 63 (dk_at dksJ2_clear_0 2 rfl rfl)
theorem dJ2_clear_5 : decode cJ2_clear 5 = .ok (.iconst 1, 1) := dk_4 (dk_at dksJ2_clear_0 5 rfl rfl)
theorem dJ2_clear_6 : decode cJ2_clear 6 = .ok (.iadd, 1) := dk_96 (dk_at dksJ2_clear_0 6 rfl rfl)
theorem dJ2_clear_7 : decode cJ2_clear 7 = .ok (.putfield 63, 3) := dk_181 0 63 (dk_at dksJ2_clear_0 7 rfl rfl)
theorem dJ2_clear_10 : decode cJ2_clear 10 = .ok (.aload_n 0, 1) := dk_42 (dk_at dksJ2_clear_0 10 rfl rfl)
theorem dJ2_clear_11 : decode cJ2_clear 11 = .ok (.getfield 9, 3) := dk_180 0 9 (dk_at dksJ2_clear_0 11 rfl rfl)
theorem dJ2_clear_14 : decode cJ2_clear 14 = .ok (.astore_n 1, 1) := dk_76 (dk_at dksJ2_clear_0 14 rfl rfl)
theorem dJ2_clear_15 : decode cJ2_clear 15 = .ok (.aload_n 0, 1) := dk_42 (dk_at dksJ2_clear_0 15 rfl rfl)
theorem dJ2_clear_16 : decode cJ2_clear 16 = .ok (.getfield 48, 3) := dk_180 0 48 (dk_at dksJ2_clear_0 16 rfl rfl)
theorem dJ2_clear_19 : decode cJ2_clear 19 = .ok (.istore_n 2, 1) := dk_61 (dk_at dksJ2_clear_0 19 rfl rfl)
theorem dJ2_clear_20 : decode cJ2_clear 20 = .ok (.aload_n 0, 1) := dk_42 (dk_at dksJ2_clear_0 20 rfl rfl)
theorem dJ2_clear_21 : decode cJ2_clear 21 = .ok (.iconst 0, 1) := dk_3 (dk_at dksJ2_clear_0 21 rfl rfl)
theorem dJ2_clear_22 : decode cJ2_clear 22 = .ok (.dup_x1, 1) := dk_90 (dk_at dksJ2_clear_0 22 rfl rfl)
theorem dJ2_clear_23 : decode cJ2_clear 23 = .ok (.putfield 48, 3) := dk_181 0 48 (dk_at dksJ2_clear_1 0 rfl rfl)
theorem dJ2_clear_26 : decode cJ2_clear 26 = .ok (.istore_n 3, 1) := dk_62 (dk_at dksJ2_clear_1 3 rfl rfl)
theorem dJ2_clear_27 : decode cJ2_clear 27 = .ok (.iload_n 3, 1) := dk_29 (dk_at dksJ2_clear_1 4 rfl rfl)
theorem dJ2_clear_28 : decode cJ2_clear 28 = .ok (.iload_n 2, 1) := dk_28 (dk_at dksJ2_clear_1 5 rfl rfl)
theorem dJ2_clear_29 : decode cJ2_clear 29 = .ok (.if_icmp .ge 13, 3) := dk_162 0 13 (dk_at dksJ2_clear_1 6 rfl rfl)
theorem dJ2_clear_32 : decode cJ2_clear 32 = .ok (.aload_n 1, 1) := dk_43 (dk_at dksJ2_clear_1 9 rfl rfl)
theorem dJ2_clear_33 : decode cJ2_clear 33 = .ok (.iload_n 3, 1) := dk_29 (dk_at dksJ2_clear_1 10 rfl rfl)
theorem dJ2_clear_34 : decode cJ2_clear 34 = .ok (.aconst_null, 1) := dk_1 (dk_at dksJ2_clear_1 11 rfl rfl)
theorem dJ2_clear_35 : decode cJ2_clear 35 = .ok (.aastore, 1) := dk_83 (dk_at dksJ2_clear_1 12 rfl rfl)
theorem dJ2_clear_36 : decode cJ2_clear 36 = .ok (.iinc 3 1, 3) := dk_132 3 1 (dk_at dksJ2_clear_1 13 rfl rfl)
theorem dJ2_clear_39 : decode cJ2_clear 39 = .ok (.goto (-12), 3) := dk_167 255 244 (dk_at dksJ2_clear_1 16 rfl rfl)
theorem dJ2_clear_42 : decode cJ2_clear 42 = .ok (.return_, 1) := dk_177 (dk_at dksJ2_clear_1 19 rfl rfl)
abbrev cJ2_iterator : ByteArray := prog_54_method_55_code
def yJ2_iterator : MethodName := ⟨RJ2, "iterator", "()Ljava/util/Iterator;"⟩
def dkwJ2_iterator_0 : List UInt8 := [187, 1, 11, 89, 42, 183, 1, 13, 176]
abbrev dktJ2_iterator_0 : List UInt8 := dkwJ2_iterator_0 ++ []
theorem dksJ2_iterator_0 : cJ2_iterator.data.toList.drop 0 = dktJ2_iterator_0 := by decide +kernel
theorem dJ2_iterator_0 : decode cJ2_iterator 0 = .ok (.new 267, 3) := dk_187 1 11 (dk_at dksJ2_iterator_0 0 rfl rfl)
theorem dJ2_iterator_3 : decode cJ2_iterator 3 = .ok (.dup, 1) := dk_89 (dk_at dksJ2_iterator_0 3 rfl rfl)
theorem dJ2_iterator_4 : decode cJ2_iterator 4 = .ok (.aload_n 0, 1) := dk_42 (dk_at dksJ2_iterator_0 4 rfl rfl)
theorem dJ2_iterator_5 : decode cJ2_iterator 5 = .ok (.invokespecial 269, 3) := dk_183 1 13 (dk_at dksJ2_iterator_0 5 rfl rfl)
theorem dJ2_iterator_8 : decode cJ2_iterator 8 = .ok (.areturn, 1) := dk_176 (dk_at dksJ2_iterator_0 8 rfl rfl)
abbrev cJ2_add : ByteArray := prog_54_method_25_code
def yJ2_add : MethodName := ⟨RJ2, "add", "(Ljava/lang/Object;)Z"⟩
def dkwJ2_add_1 : List UInt8 := [172]
abbrev dktJ2_add_1 : List UInt8 := dkwJ2_add_1 ++ []
def dkwJ2_add_0 : List UInt8 := [42, 89, 180, 0, 63, 4, 96, 181, 0, 63, 42, 43, 42, 180, 0, 9, 42, 180, 0, 48, 182, 0, 131, 4]
abbrev dktJ2_add_0 : List UInt8 := dkwJ2_add_0 ++ dktJ2_add_1
theorem dksJ2_add_0 : cJ2_add.data.toList.drop 0 = dktJ2_add_0 := by decide +kernel
theorem dksJ2_add_1 : cJ2_add.data.toList.drop 24 = dktJ2_add_1 := dk_seg dksJ2_add_0 24 rfl rfl
theorem dJ2_add_0 : decode cJ2_add 0 = .ok (.aload_n 0, 1) := dk_42 (dk_at dksJ2_add_0 0 rfl rfl)
theorem dJ2_add_1 : decode cJ2_add 1 = .ok (.dup, 1) := dk_89 (dk_at dksJ2_add_0 1 rfl rfl)
theorem dJ2_add_2 : decode cJ2_add 2 = .ok (.getfield 63, 3) := dk_180 0 63 (dk_at dksJ2_add_0 2 rfl rfl)
theorem dJ2_add_5 : decode cJ2_add 5 = .ok (.iconst 1, 1) := dk_4 (dk_at dksJ2_add_0 5 rfl rfl)
theorem dJ2_add_6 : decode cJ2_add 6 = .ok (.iadd, 1) := dk_96 (dk_at dksJ2_add_0 6 rfl rfl)
theorem dJ2_add_7 : decode cJ2_add 7 = .ok (.putfield 63, 3) := dk_181 0 63 (dk_at dksJ2_add_0 7 rfl rfl)
theorem dJ2_add_10 : decode cJ2_add 10 = .ok (.aload_n 0, 1) := dk_42 (dk_at dksJ2_add_0 10 rfl rfl)
theorem dJ2_add_11 : decode cJ2_add 11 = .ok (.aload_n 1, 1) := dk_43 (dk_at dksJ2_add_0 11 rfl rfl)
theorem dJ2_add_12 : decode cJ2_add 12 = .ok (.aload_n 0, 1) := dk_42 (dk_at dksJ2_add_0 12 rfl rfl)
theorem dJ2_add_13 : decode cJ2_add 13 = .ok (.getfield 9, 3) := dk_180 0 9 (dk_at dksJ2_add_0 13 rfl rfl)
theorem dJ2_add_16 : decode cJ2_add 16 = .ok (.aload_n 0, 1) := dk_42 (dk_at dksJ2_add_0 16 rfl rfl)
theorem dJ2_add_17 : decode cJ2_add 17 = .ok (.getfield 48, 3) := dk_180 0 48 (dk_at dksJ2_add_0 17 rfl rfl)
theorem dJ2_add_20 : decode cJ2_add 20 = .ok (.invokevirtual 131, 3) := dk_182 0 131 (dk_at dksJ2_add_0 20 rfl rfl)
theorem dJ2_add_23 : decode cJ2_add 23 = .ok (.iconst 1, 1) := dk_4 (dk_at dksJ2_add_0 23 rfl rfl)
theorem dJ2_add_24 : decode cJ2_add 24 = .ok (.ireturn, 1) := dk_172 (dk_at dksJ2_add_1 0 rfl rfl)
abbrev cJ2_add_2 : ByteArray := prog_54_method_24_code
def yJ2_add_2 : MethodName := ⟨RJ2, "add", "(Ljava/lang/Object;[Ljava/lang/Object;I)V"⟩
def dkwJ2_add_2_0 : List UInt8 := [29, 44, 190, 160, 0, 8, 42, 182, 0, 129, 77, 44, 29, 43, 83, 42, 29, 4, 96, 181, 0, 48, 177]
abbrev dktJ2_add_2_0 : List UInt8 := dkwJ2_add_2_0 ++ []
theorem dksJ2_add_2_0 : cJ2_add_2.data.toList.drop 0 = dktJ2_add_2_0 := by decide +kernel
theorem dJ2_add_2_0 : decode cJ2_add_2 0 = .ok (.iload_n 3, 1) := dk_29 (dk_at dksJ2_add_2_0 0 rfl rfl)
theorem dJ2_add_2_1 : decode cJ2_add_2 1 = .ok (.aload_n 2, 1) := dk_44 (dk_at dksJ2_add_2_0 1 rfl rfl)
theorem dJ2_add_2_2 : decode cJ2_add_2 2 = .ok (.arraylength, 1) := dk_190 (dk_at dksJ2_add_2_0 2 rfl rfl)
theorem dJ2_add_2_3 : decode cJ2_add_2 3 = .ok (.if_icmp .ne 8, 3) := dk_160 0 8 (dk_at dksJ2_add_2_0 3 rfl rfl)
theorem dJ2_add_2_6 : decode cJ2_add_2 6 = .ok (.aload_n 0, 1) := dk_42 (dk_at dksJ2_add_2_0 6 rfl rfl)
theorem dJ2_add_2_7 : decode cJ2_add_2 7 = .ok (.invokevirtual 129, 3) := dk_182 0 129 (dk_at dksJ2_add_2_0 7 rfl rfl)
theorem dJ2_add_2_10 : decode cJ2_add_2 10 = .ok (.astore_n 2, 1) := dk_77 (dk_at dksJ2_add_2_0 10 rfl rfl)
theorem dJ2_add_2_11 : decode cJ2_add_2 11 = .ok (.aload_n 2, 1) := dk_44 (dk_at dksJ2_add_2_0 11 rfl rfl)
theorem dJ2_add_2_12 : decode cJ2_add_2 12 = .ok (.iload_n 3, 1) := dk_29 (dk_at dksJ2_add_2_0 12 rfl rfl)
theorem dJ2_add_2_13 : decode cJ2_add_2 13 = .ok (.aload_n 1, 1) := dk_43 (dk_at dksJ2_add_2_0 13 rfl rfl)
theorem dJ2_add_2_14 : decode cJ2_add_2 14 = .ok (.aastore, 1) := dk_83 (dk_at dksJ2_add_2_0 14 rfl rfl)
theorem dJ2_add_2_15 : decode cJ2_add_2 15 = .ok (.aload_n 0, 1) := dk_42 (dk_at dksJ2_add_2_0 15 rfl rfl)
theorem dJ2_add_2_16 : decode cJ2_add_2 16 = .ok (.iload_n 3, 1) := dk_29 (dk_at dksJ2_add_2_0 16 rfl rfl)
theorem dJ2_add_2_17 : decode cJ2_add_2 17 = .ok (.iconst 1, 1) := dk_4 (dk_at dksJ2_add_2_0 17 rfl rfl)
theorem dJ2_add_2_18 : decode cJ2_add_2 18 = .ok (.iadd, 1) := dk_96 (dk_at dksJ2_add_2_0 18 rfl rfl)
theorem dJ2_add_2_19 : decode cJ2_add_2 19 = .ok (.putfield 48, 3) := dk_181 0 48 (dk_at dksJ2_add_2_0 19 rfl rfl)
theorem dJ2_add_2_22 : decode cJ2_add_2 22 = .ok (.return_, 1) := dk_177 (dk_at dksJ2_add_2_0 22 rfl rfl)
abbrev cJ2_grow : ByteArray := prog_54_method_7_code
def yJ2_grow : MethodName := ⟨RJ2, "grow", "()[Ljava/lang/Object;"⟩
def dkwJ2_grow_0 : List UInt8 := [42, 42, 180, 0, 48, 4, 96, 182, 0, 69, 176]
abbrev dktJ2_grow_0 : List UInt8 := dkwJ2_grow_0 ++ []
theorem dksJ2_grow_0 : cJ2_grow.data.toList.drop 0 = dktJ2_grow_0 := by decide +kernel
theorem dJ2_grow_0 : decode cJ2_grow 0 = .ok (.aload_n 0, 1) := dk_42 (dk_at dksJ2_grow_0 0 rfl rfl)
theorem dJ2_grow_1 : decode cJ2_grow 1 = .ok (.aload_n 0, 1) := dk_42 (dk_at dksJ2_grow_0 1 rfl rfl)
theorem dJ2_grow_2 : decode cJ2_grow 2 = .ok (.getfield 48, 3) := dk_180 0 48 (dk_at dksJ2_grow_0 2 rfl rfl)
theorem dJ2_grow_5 : decode cJ2_grow 5 = .ok (.iconst 1, 1) := dk_4 (dk_at dksJ2_grow_0 5 rfl rfl)
theorem dJ2_grow_6 : decode cJ2_grow 6 = .ok (.iadd, 1) := dk_96 (dk_at dksJ2_grow_0 6 rfl rfl)
theorem dJ2_grow_7 : decode cJ2_grow 7 = .ok (.invokevirtual 69, 3) := dk_182 0 69 (dk_at dksJ2_grow_0 7 rfl rfl)
theorem dJ2_grow_10 : decode cJ2_grow 10 = .ok (.areturn, 1) := dk_176 (dk_at dksJ2_grow_0 10 rfl rfl)
abbrev cJ2_grow_2 : ByteArray := prog_54_method_6_code
def yJ2_grow_2 : MethodName := ⟨RJ2, "grow", "(I)[Ljava/lang/Object;"⟩
def dkwJ2_grow_2_2 : List UInt8 := [27, 184, 0, 79, 189, 0, 7, 90, 181, 0, 9, 176]
abbrev dktJ2_grow_2_2 : List UInt8 := dkwJ2_grow_2_2 ++ []
def dkwJ2_grow_2_1 : List UInt8 := [28, 4, 122, 184, 0, 73, 62, 42, 42, 180, 0, 9, 29, 184, 0, 66, 90, 181, 0, 9, 176, 42, 16, 10]
abbrev dktJ2_grow_2_1 : List UInt8 := dkwJ2_grow_2_1 ++ dktJ2_grow_2_2
def dkwJ2_grow_2_0 : List UInt8 := [42, 180, 0, 9, 190, 61, 28, 157, 0, 13, 42, 180, 0, 9, 178, 0, 39, 165, 0, 28, 28, 27, 28, 100]
abbrev dktJ2_grow_2_0 : List UInt8 := dkwJ2_grow_2_0 ++ dktJ2_grow_2_1
theorem dksJ2_grow_2_0 : cJ2_grow_2.data.toList.drop 0 = dktJ2_grow_2_0 := by decide +kernel
theorem dksJ2_grow_2_1 : cJ2_grow_2.data.toList.drop 24 = dktJ2_grow_2_1 := dk_seg dksJ2_grow_2_0 24 rfl rfl
theorem dksJ2_grow_2_2 : cJ2_grow_2.data.toList.drop 48 = dktJ2_grow_2_2 := dk_seg dksJ2_grow_2_1 24 rfl rfl
theorem dJ2_grow_2_0 : decode cJ2_grow_2 0 = .ok (.aload_n 0, 1) := dk_42 (dk_at dksJ2_grow_2_0 0 rfl rfl)
theorem dJ2_grow_2_1 : decode cJ2_grow_2 1 = .ok (.getfield 9, 3) := dk_180 0 9 (dk_at dksJ2_grow_2_0 1 rfl rfl)
theorem dJ2_grow_2_4 : decode cJ2_grow_2 4 = .ok (.arraylength, 1) := dk_190 (dk_at dksJ2_grow_2_0 4 rfl rfl)
theorem dJ2_grow_2_5 : decode cJ2_grow_2 5 = .ok (.istore_n 2, 1) := dk_61 (dk_at dksJ2_grow_2_0 5 rfl rfl)
theorem dJ2_grow_2_6 : decode cJ2_grow_2 6 = .ok (.iload_n 2, 1) := dk_28 (dk_at dksJ2_grow_2_0 6 rfl rfl)
theorem dJ2_grow_2_7 : decode cJ2_grow_2 7 = .ok (.ifCond .gt 13, 3) := dk_157 0 13 (dk_at dksJ2_grow_2_0 7 rfl rfl)
theorem dJ2_grow_2_10 : decode cJ2_grow_2 10 = .ok (.aload_n 0, 1) := dk_42 (dk_at dksJ2_grow_2_0 10 rfl rfl)
theorem dJ2_grow_2_11 : decode cJ2_grow_2 11 = .ok (.getfield 9, 3) := dk_180 0 9 (dk_at dksJ2_grow_2_0 11 rfl rfl)
theorem dJ2_grow_2_14 : decode cJ2_grow_2 14 = .ok (.getstatic 39, 3) := dk_178 0 39 (dk_at dksJ2_grow_2_0 14 rfl rfl)
theorem dJ2_grow_2_17 : decode cJ2_grow_2 17 = .ok (.if_acmp .eq 28, 3) := dk_165 0 28 (dk_at dksJ2_grow_2_0 17 rfl rfl)
theorem dJ2_grow_2_20 : decode cJ2_grow_2 20 = .ok (.iload_n 2, 1) := dk_28 (dk_at dksJ2_grow_2_0 20 rfl rfl)
theorem dJ2_grow_2_21 : decode cJ2_grow_2 21 = .ok (.iload_n 1, 1) := dk_27 (dk_at dksJ2_grow_2_0 21 rfl rfl)
theorem dJ2_grow_2_22 : decode cJ2_grow_2 22 = .ok (.iload_n 2, 1) := dk_28 (dk_at dksJ2_grow_2_0 22 rfl rfl)
theorem dJ2_grow_2_23 : decode cJ2_grow_2 23 = .ok (.isub, 1) := dk_100 (dk_at dksJ2_grow_2_0 23 rfl rfl)
theorem dJ2_grow_2_24 : decode cJ2_grow_2 24 = .ok (.iload_n 2, 1) := dk_28 (dk_at dksJ2_grow_2_1 0 rfl rfl)
theorem dJ2_grow_2_25 : decode cJ2_grow_2 25 = .ok (.iconst 1, 1) := dk_4 (dk_at dksJ2_grow_2_1 1 rfl rfl)
theorem dJ2_grow_2_26 : decode cJ2_grow_2 26 = .ok (.ishr, 1) := dk_122 (dk_at dksJ2_grow_2_1 2 rfl rfl)
theorem dJ2_grow_2_27 : decode cJ2_grow_2 27 = .ok (.invokestatic 73, 3) := dk_184 0 73 (dk_at dksJ2_grow_2_1 3 rfl rfl)
theorem dJ2_grow_2_30 : decode cJ2_grow_2 30 = .ok (.istore_n 3, 1) := dk_62 (dk_at dksJ2_grow_2_1 6 rfl rfl)
theorem dJ2_grow_2_31 : decode cJ2_grow_2 31 = .ok (.aload_n 0, 1) := dk_42 (dk_at dksJ2_grow_2_1 7 rfl rfl)
theorem dJ2_grow_2_32 : decode cJ2_grow_2 32 = .ok (.aload_n 0, 1) := dk_42 (dk_at dksJ2_grow_2_1 8 rfl rfl)
theorem dJ2_grow_2_33 : decode cJ2_grow_2 33 = .ok (.getfield 9, 3) := dk_180 0 9 (dk_at dksJ2_grow_2_1 9 rfl rfl)
theorem dJ2_grow_2_36 : decode cJ2_grow_2 36 = .ok (.iload_n 3, 1) := dk_29 (dk_at dksJ2_grow_2_1 12 rfl rfl)
theorem dJ2_grow_2_37 : decode cJ2_grow_2 37 = .ok (.invokestatic 66, 3) := dk_184 0 66 (dk_at dksJ2_grow_2_1 13 rfl rfl)
theorem dJ2_grow_2_40 : decode cJ2_grow_2 40 = .ok (.dup_x1, 1) := dk_90 (dk_at dksJ2_grow_2_1 16 rfl rfl)
theorem dJ2_grow_2_41 : decode cJ2_grow_2 41 = .ok (.putfield 9, 3) := dk_181 0 9 (dk_at dksJ2_grow_2_1 17 rfl rfl)
theorem dJ2_grow_2_44 : decode cJ2_grow_2 44 = .ok (.areturn, 1) := dk_176 (dk_at dksJ2_grow_2_1 20 rfl rfl)
theorem dJ2_grow_2_45 : decode cJ2_grow_2 45 = .ok (.aload_n 0, 1) := dk_42 (dk_at dksJ2_grow_2_1 21 rfl rfl)
theorem dJ2_grow_2_46 : decode cJ2_grow_2 46 = .ok (.bipush 10, 2) := dk_16 10 (dk_at dksJ2_grow_2_1 22 rfl rfl)
theorem dJ2_grow_2_48 : decode cJ2_grow_2 48 = .ok (.iload_n 1, 1) := dk_27 (dk_at dksJ2_grow_2_2 0 rfl rfl)
theorem dJ2_grow_2_49 : decode cJ2_grow_2 49 = .ok (.invokestatic 79, 3) := dk_184 0 79 (dk_at dksJ2_grow_2_2 1 rfl rfl)
theorem dJ2_grow_2_52 : decode cJ2_grow_2 52 = .ok (.anewarray 7, 3) := dk_189 0 7 (dk_at dksJ2_grow_2_2 4 rfl rfl)
theorem dJ2_grow_2_55 : decode cJ2_grow_2 55 = .ok (.dup_x1, 1) := dk_90 (dk_at dksJ2_grow_2_2 7 rfl rfl)
theorem dJ2_grow_2_56 : decode cJ2_grow_2 56 = .ok (.putfield 9, 3) := dk_181 0 9 (dk_at dksJ2_grow_2_2 8 rfl rfl)
theorem dJ2_grow_2_59 : decode cJ2_grow_2 59 = .ok (.areturn, 1) := dk_176 (dk_at dksJ2_grow_2_2 11 rfl rfl)
abbrev cJ2_size : ByteArray := prog_54_method_8_code
def yJ2_size : MethodName := ⟨RJ2, "size", "()I"⟩
theorem dJ2_size_0 : decode cJ2_size 0 = .ok (.aload_n 0, 1) := by decide +kernel
theorem dJ2_size_1 : decode cJ2_size 1 = .ok (.getfield 48, 3) := by decide +kernel
theorem dJ2_size_4 : decode cJ2_size 4 = .ok (.ireturn, 1) := by decide +kernel
abbrev cJ2_get : ByteArray := prog_54_method_20_code
def yJ2_get : MethodName := ⟨RJ2, "get", "(I)Ljava/lang/Object;"⟩
def dkwJ2_get_0 : List UInt8 := [27, 42, 180, 0, 48, 184, 0, 118, 87, 42, 27, 182, 0, 123, 176]
abbrev dktJ2_get_0 : List UInt8 := dkwJ2_get_0 ++ []
theorem dksJ2_get_0 : cJ2_get.data.toList.drop 0 = dktJ2_get_0 := by decide +kernel
theorem dJ2_get_0 : decode cJ2_get 0 = .ok (.iload_n 1, 1) := dk_27 (dk_at dksJ2_get_0 0 rfl rfl)
theorem dJ2_get_1 : decode cJ2_get 1 = .ok (.aload_n 0, 1) := dk_42 (dk_at dksJ2_get_0 1 rfl rfl)
theorem dJ2_get_2 : decode cJ2_get 2 = .ok (.getfield 48, 3) := dk_180 0 48 (dk_at dksJ2_get_0 2 rfl rfl)
theorem dJ2_get_5 : decode cJ2_get 5 = .ok (.invokestatic 118, 3) := dk_184 0 118 (dk_at dksJ2_get_0 5 rfl rfl)
theorem dJ2_get_8 : decode cJ2_get 8 = .ok (.pop, 1) := dk_87 (dk_at dksJ2_get_0 8 rfl rfl)
theorem dJ2_get_9 : decode cJ2_get 9 = .ok (.aload_n 0, 1) := dk_42 (dk_at dksJ2_get_0 9 rfl rfl)
theorem dJ2_get_10 : decode cJ2_get 10 = .ok (.iload_n 1, 1) := dk_27 (dk_at dksJ2_get_0 10 rfl rfl)
theorem dJ2_get_11 : decode cJ2_get 11 = .ok (.invokevirtual 123, 3) := dk_182 0 123 (dk_at dksJ2_get_0 11 rfl rfl)
theorem dJ2_get_14 : decode cJ2_get 14 = .ok (.areturn, 1) := dk_176 (dk_at dksJ2_get_0 14 rfl rfl)
abbrev cJ2_elementData : ByteArray := prog_54_method_18_code
def yJ2_elementData : MethodName := ⟨RJ2, "elementData", "(I)Ljava/lang/Object;"⟩
def dkwJ2_elementData_0 : List UInt8 := [42, 180, 0, 9, 27, 50, 176]
abbrev dktJ2_elementData_0 : List UInt8 := dkwJ2_elementData_0 ++ []
theorem dksJ2_elementData_0 : cJ2_elementData.data.toList.drop 0 = dktJ2_elementData_0 := by decide +kernel
theorem dJ2_elementData_0 : decode cJ2_elementData 0 = .ok (.aload_n 0, 1) := dk_42 (dk_at dksJ2_elementData_0 0 rfl rfl)
theorem dJ2_elementData_1 : decode cJ2_elementData 1 = .ok (.getfield 9, 3) := dk_180 0 9 (dk_at dksJ2_elementData_0 1 rfl rfl)
theorem dJ2_elementData_4 : decode cJ2_elementData 4 = .ok (.iload_n 1, 1) := dk_27 (dk_at dksJ2_elementData_0 4 rfl rfl)
theorem dJ2_elementData_5 : decode cJ2_elementData 5 = .ok (.aaload, 1) := dk_50 (dk_at dksJ2_elementData_0 5 rfl rfl)
theorem dJ2_elementData_6 : decode cJ2_elementData 6 = .ok (.areturn, 1) := dk_176 (dk_at dksJ2_elementData_0 6 rfl rfl)
theorem q111 : (Jvm.Cond.initialized "java/util/ArrayList") ∈ lw_all := lw_g (lw_at lw_m1 5 rfl) rfl
theorem q186 : (Jvm.Cond.instantiable "java/util/ArrayList" (3 : Nat)) ∈ lw_all := lw_g (lw_at lw_m1 80 rfl) rfl
theorem q188 : (Jvm.Cond.instanceMethod ({ cls := "java/util/ArrayList", name := "<init>", desc := "()V" } : Jvm.MethodName)) ∈ lw_all := lw_g (lw_at lw_m1 82 rfl) rfl
theorem q189 : (Jvm.Cond.code ({ cls := "java/util/ArrayList", name := "<init>", desc := "()V" } : Jvm.MethodName) prog_54_method_2_code (1 : Nat) (Option.none : Option Jvm.ClassFile.FieldType)) ∈ lw_all := lw_g (lw_at lw_m1 83 rfl) rfl
theorem q190 : (Jvm.Cond.methodLink "java/util/ArrayList" (1 : Nat) ({ cls := "java/util/AbstractList", name := "<init>", desc := "()V" } : Jvm.MethodName)) ∈ lw_all := lw_g (lw_at lw_m1 84 rfl) rfl
theorem q197 : (Jvm.Cond.fieldLink "java/util/ArrayList" (39 : Nat) "java/util/ArrayList" "DEFAULTCAPACITY_EMPTY_ELEMENTDATA" "[Ljava/lang/Object;") ∈ lw_all := lw_g (lw_at lw_m1 91 rfl) rfl
theorem q198 : (Jvm.Cond.laysStatic "java/util/ArrayList" "DEFAULTCAPACITY_EMPTY_ELEMENTDATA" "[Ljava/lang/Object;") ∈ lw_tbl := lw_at lw_m1 92 rfl
theorem q199 : (Jvm.Cond.fieldLink "java/util/ArrayList" (9 : Nat) "java/util/ArrayList" "elementData" "[Ljava/lang/Object;") ∈ lw_all := lw_g (lw_at lw_m1 93 rfl) rfl
theorem q202 : (Jvm.Cond.fieldLink "java/util/ArrayList" (48 : Nat) "java/util/ArrayList" "size" "I") ∈ lw_all := lw_g (lw_at lw_m1 96 rfl) rfl
theorem q205 : (Jvm.Cond.sameField "java/util/ArrayList" "java/util/AbstractList" "modCount" "I") ∈ lw_all := lw_g (lw_at lw_m1 99 rfl) rfl
theorem q206 : (Jvm.Cond.fieldLink "java/util/ArrayList" (63 : Nat) "java/util/ArrayList" "modCount" "I") ∈ lw_all := lw_g (lw_at lw_m1 100 rfl) rfl
theorem q207 : (Jvm.Cond.lays "java/util/ArrayList" "java/util/ArrayList" "elementData" "[Ljava/lang/Object;") ∈ lw_all := lw_g (lw_at lw_m1 101 rfl) rfl
theorem q208 : (Jvm.Cond.soleField "java/util/ArrayList" "elementData") ∈ lw_all := lw_g (lw_at lw_m1 102 rfl) rfl
theorem q209 : (Jvm.Cond.lays "java/util/ArrayList" "java/util/ArrayList" "size" "I") ∈ lw_all := lw_g (lw_at lw_m1 103 rfl) rfl
theorem q210 : (Jvm.Cond.soleField "java/util/ArrayList" "size") ∈ lw_all := lw_g (lw_at lw_m1 104 rfl) rfl
theorem q211 : (Jvm.Cond.lays "java/util/ArrayList" "java/util/AbstractList" "modCount" "I") ∈ lw_all := lw_g (lw_at lw_m1 105 rfl) rfl
theorem q213 : (Jvm.Cond.superclass "java/util/ArrayList" "java/util/AbstractList") ∈ lw_all := lw_g (lw_at lw_m1 107 rfl) rfl
theorem q396 : (Jvm.Cond.instanceMethod ({ cls := "java/util/ArrayList", name := "clear", desc := "()V" } : Jvm.MethodName)) ∈ lw_all := lw_g (lw_at lw_m2 50 rfl) rfl
theorem q397 : (Jvm.Cond.selects "java/util/ArrayList" ({ cls := "java/util/ArrayList", name := "clear", desc := "()V" } : Jvm.MethodName) ({ cls := "java/util/ArrayList", name := "clear", desc := "()V" } : Jvm.MethodName)) ∈ lw_all := lw_g (lw_at lw_m2 51 rfl) rfl
theorem q398 : (Jvm.Cond.code ({ cls := "java/util/ArrayList", name := "clear", desc := "()V" } : Jvm.MethodName) prog_54_method_40_code (4 : Nat) (Option.none : Option Jvm.ClassFile.FieldType)) ∈ lw_all := lw_g (lw_at lw_m2 52 rfl) rfl
theorem q415 : (Jvm.Cond.instanceMethod ({ cls := "java/util/ArrayList", name := "iterator", desc := "()Ljava/util/Iterator;" } : Jvm.MethodName)) ∈ lw_all := lw_g (lw_at lw_m2 69 rfl) rfl
theorem q416 : (Jvm.Cond.selects "java/util/ArrayList" ({ cls := "java/util/ArrayList", name := "iterator", desc := "()Ljava/util/Iterator;" } : Jvm.MethodName) ({ cls := "java/util/ArrayList", name := "iterator", desc := "()Ljava/util/Iterator;" } : Jvm.MethodName)) ∈ lw_all := lw_g (lw_at lw_m2 70 rfl) rfl
theorem q417 : (Jvm.Cond.code ({ cls := "java/util/ArrayList", name := "iterator", desc := "()Ljava/util/Iterator;" } : Jvm.MethodName) prog_54_method_55_code (1 : Nat) (Option.some (Jvm.ClassFile.FieldType.object "java/util/Iterator"))) ∈ lw_all := lw_g (lw_at lw_m2 71 rfl) rfl
theorem q418 : (Jvm.Cond.classLink "java/util/ArrayList" (267 : Nat) "java/util/ArrayList$Itr") ∈ lw_all := lw_g (lw_at lw_m2 72 rfl) rfl
theorem q420 : (Jvm.Cond.methodLink "java/util/ArrayList" (269 : Nat) ({ cls := "java/util/ArrayList$Itr", name := "<init>", desc := "(Ljava/util/ArrayList;)V" } : Jvm.MethodName)) ∈ lw_all := lw_g (lw_at lw_m2 74 rfl) rfl
theorem q570 : (Jvm.Cond.instanceMethod ({ cls := "java/util/ArrayList", name := "add", desc := "(Ljava/lang/Object;)Z" } : Jvm.MethodName)) ∈ lw_all := lw_g (lw_at lw_m2 224 rfl) rfl
theorem q571 : (Jvm.Cond.selects "java/util/ArrayList" ({ cls := "java/util/ArrayList", name := "add", desc := "(Ljava/lang/Object;)Z" } : Jvm.MethodName) ({ cls := "java/util/ArrayList", name := "add", desc := "(Ljava/lang/Object;)Z" } : Jvm.MethodName)) ∈ lw_all := lw_g (lw_at lw_m2 225 rfl) rfl
theorem q572 : (Jvm.Cond.code ({ cls := "java/util/ArrayList", name := "add", desc := "(Ljava/lang/Object;)Z" } : Jvm.MethodName) prog_54_method_25_code (2 : Nat) (Option.some Jvm.ClassFile.FieldType.boolean)) ∈ lw_all := lw_g (lw_at lw_m2 226 rfl) rfl
theorem q573 : (Jvm.Cond.methodLink "java/util/ArrayList" (131 : Nat) ({ cls := "java/util/ArrayList", name := "add", desc := "(Ljava/lang/Object;[Ljava/lang/Object;I)V" } : Jvm.MethodName)) ∈ lw_all := lw_g (lw_at lw_m2 227 rfl) rfl
theorem q574 : (Jvm.Cond.privateMethod ({ cls := "java/util/ArrayList", name := "add", desc := "(Ljava/lang/Object;[Ljava/lang/Object;I)V" } : Jvm.MethodName)) ∈ lw_tbl := lw_at lw_m2 228 rfl
theorem q575 : (Jvm.Cond.instanceMethod ({ cls := "java/util/ArrayList", name := "add", desc := "(Ljava/lang/Object;[Ljava/lang/Object;I)V" } : Jvm.MethodName)) ∈ lw_all := lw_g (lw_at lw_m2 229 rfl) rfl
theorem q576 : (Jvm.Cond.code ({ cls := "java/util/ArrayList", name := "add", desc := "(Ljava/lang/Object;[Ljava/lang/Object;I)V" } : Jvm.MethodName) prog_54_method_24_code (4 : Nat) (Option.none : Option Jvm.ClassFile.FieldType)) ∈ lw_all := lw_g (lw_at lw_m2 230 rfl) rfl
theorem q577 : (Jvm.Cond.methodLink "java/util/ArrayList" (129 : Nat) ({ cls := "java/util/ArrayList", name := "grow", desc := "()[Ljava/lang/Object;" } : Jvm.MethodName)) ∈ lw_all := lw_g (lw_at lw_m2 231 rfl) rfl
theorem q578 : (Jvm.Cond.privateMethod ({ cls := "java/util/ArrayList", name := "grow", desc := "()[Ljava/lang/Object;" } : Jvm.MethodName)) ∈ lw_tbl := lw_at lw_m2 232 rfl
theorem q579 : (Jvm.Cond.instanceMethod ({ cls := "java/util/ArrayList", name := "grow", desc := "()[Ljava/lang/Object;" } : Jvm.MethodName)) ∈ lw_all := lw_g (lw_at lw_m2 233 rfl) rfl
theorem q580 : (Jvm.Cond.code ({ cls := "java/util/ArrayList", name := "grow", desc := "()[Ljava/lang/Object;" } : Jvm.MethodName) prog_54_method_7_code (1 : Nat) (Option.some (Jvm.ClassFile.FieldType.array (Jvm.ClassFile.FieldType.object "java/lang/Object")))) ∈ lw_all := lw_g (lw_at lw_m2 234 rfl) rfl
theorem q581 : (Jvm.Cond.methodLink "java/util/ArrayList" (69 : Nat) ({ cls := "java/util/ArrayList", name := "grow", desc := "(I)[Ljava/lang/Object;" } : Jvm.MethodName)) ∈ lw_all := lw_g (lw_at lw_m2 235 rfl) rfl
theorem q582 : (Jvm.Cond.privateMethod ({ cls := "java/util/ArrayList", name := "grow", desc := "(I)[Ljava/lang/Object;" } : Jvm.MethodName)) ∈ lw_tbl := lw_at lw_m2 236 rfl
theorem q583 : (Jvm.Cond.instanceMethod ({ cls := "java/util/ArrayList", name := "grow", desc := "(I)[Ljava/lang/Object;" } : Jvm.MethodName)) ∈ lw_all := lw_g (lw_at lw_m2 237 rfl) rfl
theorem q584 : (Jvm.Cond.code ({ cls := "java/util/ArrayList", name := "grow", desc := "(I)[Ljava/lang/Object;" } : Jvm.MethodName) prog_54_method_6_code (4 : Nat) (Option.some (Jvm.ClassFile.FieldType.array (Jvm.ClassFile.FieldType.object "java/lang/Object")))) ∈ lw_all := lw_g (lw_at lw_m2 238 rfl) rfl
theorem q585 : (Jvm.Cond.methodLink "java/util/ArrayList" (73 : Nat) ({ cls := "jdk/internal/util/ArraysSupport", name := "newLength", desc := "(III)I" } : Jvm.MethodName)) ∈ lw_all := lw_g (lw_at lw_m2 239 rfl) rfl
theorem q595 : (Jvm.Cond.methodLink "java/util/ArrayList" (66 : Nat) ({ cls := "java/util/Arrays", name := "copyOf", desc := "([Ljava/lang/Object;I)[Ljava/lang/Object;" } : Jvm.MethodName)) ∈ lw_all := lw_g (lw_at lw_m3 9 rfl) rfl
theorem q626 : (Jvm.Cond.selects "java/util/ArrayList" ({ cls := "java/lang/Object", name := "getClass", desc := "()Ljava/lang/Class;" } : Jvm.MethodName) ({ cls := "java/lang/Object", name := "getClass", desc := "()Ljava/lang/Class;" } : Jvm.MethodName)) ∈ lw_all := lw_g (lw_at lw_m3 40 rfl) rfl
theorem q653 : (Jvm.Cond.methodLink "java/util/ArrayList" (79 : Nat) ({ cls := "java/lang/Math", name := "max", desc := "(II)I" } : Jvm.MethodName)) ∈ lw_all := lw_g (lw_at lw_m3 67 rfl) rfl
theorem q654 : (Jvm.Cond.classLink "java/util/ArrayList" (7 : Nat) "java/lang/Object") ∈ lw_all := lw_g (lw_at lw_m3 68 rfl) rfl
theorem q731 : (Jvm.Cond.instanceMethod ({ cls := "java/util/ArrayList", name := "size", desc := "()I" } : Jvm.MethodName)) ∈ lw_all := lw_g (lw_at lw_m3 145 rfl) rfl
theorem q732 : (Jvm.Cond.selects "java/util/ArrayList" ({ cls := "java/util/ArrayList", name := "size", desc := "()I" } : Jvm.MethodName) ({ cls := "java/util/ArrayList", name := "size", desc := "()I" } : Jvm.MethodName)) ∈ lw_all := lw_g (lw_at lw_m3 146 rfl) rfl
theorem q733 : (Jvm.Cond.code ({ cls := "java/util/ArrayList", name := "size", desc := "()I" } : Jvm.MethodName) prog_54_method_8_code (1 : Nat) (Option.some Jvm.ClassFile.FieldType.int)) ∈ lw_all := lw_g (lw_at lw_m3 147 rfl) rfl
theorem q735 : (Jvm.Cond.instanceMethod ({ cls := "java/util/ArrayList", name := "get", desc := "(I)Ljava/lang/Object;" } : Jvm.MethodName)) ∈ lw_all := lw_g (lw_at lw_m3 149 rfl) rfl
theorem q736 : (Jvm.Cond.selects "java/util/ArrayList" ({ cls := "java/util/ArrayList", name := "get", desc := "(I)Ljava/lang/Object;" } : Jvm.MethodName) ({ cls := "java/util/ArrayList", name := "get", desc := "(I)Ljava/lang/Object;" } : Jvm.MethodName)) ∈ lw_all := lw_g (lw_at lw_m3 150 rfl) rfl
theorem q737 : (Jvm.Cond.code ({ cls := "java/util/ArrayList", name := "get", desc := "(I)Ljava/lang/Object;" } : Jvm.MethodName) prog_54_method_20_code (2 : Nat) (Option.some (Jvm.ClassFile.FieldType.object "java/lang/Object"))) ∈ lw_all := lw_g (lw_at lw_m3 151 rfl) rfl
theorem q738 : (Jvm.Cond.methodLink "java/util/ArrayList" (118 : Nat) ({ cls := "java/util/Objects", name := "checkIndex", desc := "(II)I" } : Jvm.MethodName)) ∈ lw_all := lw_g (lw_at lw_m3 152 rfl) rfl
theorem q744 : (Jvm.Cond.methodLink "java/util/ArrayList" (123 : Nat) ({ cls := "java/util/ArrayList", name := "elementData", desc := "(I)Ljava/lang/Object;" } : Jvm.MethodName)) ∈ lw_all := lw_g (lw_at lw_m3 158 rfl) rfl
theorem q745 : (Jvm.Cond.instanceMethod ({ cls := "java/util/ArrayList", name := "elementData", desc := "(I)Ljava/lang/Object;" } : Jvm.MethodName)) ∈ lw_all := lw_g (lw_at lw_m3 159 rfl) rfl
theorem q746 : (Jvm.Cond.selects "java/util/ArrayList" ({ cls := "java/util/ArrayList", name := "elementData", desc := "(I)Ljava/lang/Object;" } : Jvm.MethodName) ({ cls := "java/util/ArrayList", name := "elementData", desc := "(I)Ljava/lang/Object;" } : Jvm.MethodName)) ∈ lw_all := lw_g (lw_at lw_m3 160 rfl) rfl
theorem q747 : (Jvm.Cond.code ({ cls := "java/util/ArrayList", name := "elementData", desc := "(I)Ljava/lang/Object;" } : Jvm.MethodName) prog_54_method_18_code (2 : Nat) (Option.some (Jvm.ClassFile.FieldType.object "java/lang/Object"))) ∈ lw_all := lw_g (lw_at lw_m3 161 rfl) rfl
theorem q3586 : (Jvm.Cond.castable "java/util/ArrayList" "java/lang/Object") ∈ lw_tbl := lw_at lw_m15 120 rfl
theorem in_J2 : ∀ w ∈ wsJ20, w ∈ lw_all := lw_in wsJ20 [211, 207, 209] (by decide +kernel) (by decide +kernel)
/-! java/util/LinkedHashMap$LinkedKeySet -/
set_option maxRecDepth 100000
def RJ21 : String := "java/util/LinkedHashMap$LinkedKeySet"
def TJ21 : u_T := fun k => match k with
  | 0 => ("java/util/LinkedHashMap$LinkedKeySet", "reversed", "Z", true)
  | _ => ("java/util/LinkedHashMap$LinkedKeySet", "this$0", "Ljava/util/LinkedHashMap;", true)
def tyJ21 : Nat → FieldType := fun k => match k with
  | 0 => .boolean
  | _ => .object "java/util/LinkedHashMap"
abbrev wsJ210 : List Cond := u_ws RJ21 TJ21 2
theorem nmJ21 : ∀ a, a < 2 → ∀ b, b < 2 → a ≠ b → (TJ21 a).2.1 ≠ (TJ21 b).2.1 := by decide +kernel
theorem tyJ21_ok : ∀ k, k < 2 → parseFieldDescriptor (TJ21 k).2.2.1 = some (tyJ21 k) := by decide +kernel
abbrev cJ21_init : ByteArray := prog_70_method_1_code
def yJ21_init : MethodName := ⟨RJ21, "<init>", "(Ljava/util/LinkedHashMap;Z)V"⟩
def dkwJ21_init_0 : List UInt8 := [42, 43, 181, 0, 1, 42, 183, 0, 7, 42, 28, 181, 0, 13, 177]
abbrev dktJ21_init_0 : List UInt8 := dkwJ21_init_0 ++ []
theorem dksJ21_init_0 : cJ21_init.data.toList.drop 0 = dktJ21_init_0 := by decide +kernel
theorem dJ21_init_0 : decode cJ21_init 0 = .ok (.aload_n 0, 1) := dk_42 (dk_at dksJ21_init_0 0 rfl rfl)
theorem dJ21_init_1 : decode cJ21_init 1 = .ok (.aload_n 1, 1) := dk_43 (dk_at dksJ21_init_0 1 rfl rfl)
theorem dJ21_init_2 : decode cJ21_init 2 = .ok (.putfield 1, 3) := dk_181 0 1 (dk_at dksJ21_init_0 2 rfl rfl)
theorem dJ21_init_5 : decode cJ21_init 5 = .ok (.aload_n 0, 1) := dk_42 (dk_at dksJ21_init_0 5 rfl rfl)
theorem dJ21_init_6 : decode cJ21_init 6 = .ok (.invokespecial 7, 3) := dk_183 0 7 (dk_at dksJ21_init_0 6 rfl rfl)
theorem dJ21_init_9 : decode cJ21_init 9 = .ok (.aload_n 0, 1) := dk_42 (dk_at dksJ21_init_0 9 rfl rfl)
theorem dJ21_init_10 : decode cJ21_init 10 = .ok (.iload_n 2, 1) := dk_28 (dk_at dksJ21_init_0 10 rfl rfl)
theorem dJ21_init_11 : decode cJ21_init 11 = .ok (.putfield 13, 3) := dk_181 0 13 (dk_at dksJ21_init_0 11 rfl rfl)
theorem dJ21_init_14 : decode cJ21_init 14 = .ok (.return_, 1) := dk_177 (dk_at dksJ21_init_0 14 rfl rfl)
abbrev cJ21_iterator : ByteArray := prog_70_method_4_code
def yJ21_iterator : MethodName := ⟨RJ21, "iterator", "()Ljava/util/Iterator;"⟩
def dkwJ21_iterator_0 : List UInt8 := [187, 0, 26, 89, 42, 180, 0, 1, 42, 180, 0, 13, 183, 0, 28, 176]
abbrev dktJ21_iterator_0 : List UInt8 := dkwJ21_iterator_0 ++ []
theorem dksJ21_iterator_0 : cJ21_iterator.data.toList.drop 0 = dktJ21_iterator_0 := by decide +kernel
theorem dJ21_iterator_0 : decode cJ21_iterator 0 = .ok (.new 26, 3) := dk_187 0 26 (dk_at dksJ21_iterator_0 0 rfl rfl)
theorem dJ21_iterator_3 : decode cJ21_iterator 3 = .ok (.dup, 1) := dk_89 (dk_at dksJ21_iterator_0 3 rfl rfl)
theorem dJ21_iterator_4 : decode cJ21_iterator 4 = .ok (.aload_n 0, 1) := dk_42 (dk_at dksJ21_iterator_0 4 rfl rfl)
theorem dJ21_iterator_5 : decode cJ21_iterator 5 = .ok (.getfield 1, 3) := dk_180 0 1 (dk_at dksJ21_iterator_0 5 rfl rfl)
theorem dJ21_iterator_8 : decode cJ21_iterator 8 = .ok (.aload_n 0, 1) := dk_42 (dk_at dksJ21_iterator_0 8 rfl rfl)
theorem dJ21_iterator_9 : decode cJ21_iterator 9 = .ok (.getfield 13, 3) := dk_180 0 13 (dk_at dksJ21_iterator_0 9 rfl rfl)
theorem dJ21_iterator_12 : decode cJ21_iterator 12 = .ok (.invokespecial 28, 3) := dk_183 0 28 (dk_at dksJ21_iterator_0 12 rfl rfl)
theorem dJ21_iterator_15 : decode cJ21_iterator 15 = .ok (.areturn, 1) := dk_176 (dk_at dksJ21_iterator_0 15 rfl rfl)
theorem q133 : (Jvm.Cond.initialized "java/util/LinkedHashMap$LinkedKeySet") ∈ lw_all := lw_g (lw_at lw_m1 27 rfl) rfl
theorem q637 : (Jvm.Cond.selects "java/util/LinkedHashMap$LinkedKeySet" ({ cls := "java/lang/Object", name := "getClass", desc := "()Ljava/lang/Class;" } : Jvm.MethodName) ({ cls := "java/lang/Object", name := "getClass", desc := "()Ljava/lang/Class;" } : Jvm.MethodName)) ∈ lw_all := lw_g (lw_at lw_m3 51 rfl) rfl
theorem q784 : (Jvm.Cond.instantiable "java/util/LinkedHashMap$LinkedKeySet" (2 : Nat)) ∈ lw_all := lw_g (lw_at lw_m3 198 rfl) rfl
theorem q786 : (Jvm.Cond.instanceMethod ({ cls := "java/util/LinkedHashMap$LinkedKeySet", name := "<init>", desc := "(Ljava/util/LinkedHashMap;Z)V" } : Jvm.MethodName)) ∈ lw_all := lw_g (lw_at lw_m3 200 rfl) rfl
theorem q787 : (Jvm.Cond.code ({ cls := "java/util/LinkedHashMap$LinkedKeySet", name := "<init>", desc := "(Ljava/util/LinkedHashMap;Z)V" } : Jvm.MethodName) prog_70_method_1_code (3 : Nat) (Option.none : Option Jvm.ClassFile.FieldType)) ∈ lw_all := lw_g (lw_at lw_m3 201 rfl) rfl
theorem q788 : (Jvm.Cond.methodLink "java/util/LinkedHashMap$LinkedKeySet" (7 : Nat) ({ cls := "java/util/AbstractSet", name := "<init>", desc := "()V" } : Jvm.MethodName)) ∈ lw_all := lw_g (lw_at lw_m3 202 rfl) rfl
theorem q789 : (Jvm.Cond.fieldLink "java/util/LinkedHashMap$LinkedKeySet" (13 : Nat) "java/util/LinkedHashMap$LinkedKeySet" "reversed" "Z") ∈ lw_all := lw_g (lw_at lw_m3 203 rfl) rfl
theorem q790 : (Jvm.Cond.fieldLink "java/util/LinkedHashMap$LinkedKeySet" (1 : Nat) "java/util/LinkedHashMap$LinkedKeySet" "this$0" "Ljava/util/LinkedHashMap;") ∈ lw_all := lw_g (lw_at lw_m3 204 rfl) rfl
theorem q791 : (Jvm.Cond.laysFinal "java/util/LinkedHashMap$LinkedKeySet" "java/util/LinkedHashMap$LinkedKeySet" "reversed" "Z") ∈ lw_all := lw_g (lw_at lw_m3 205 rfl) rfl
theorem q792 : (Jvm.Cond.soleField "java/util/LinkedHashMap$LinkedKeySet" "reversed") ∈ lw_all := lw_g (lw_at lw_m3 206 rfl) rfl
theorem q793 : (Jvm.Cond.laysFinal "java/util/LinkedHashMap$LinkedKeySet" "java/util/LinkedHashMap$LinkedKeySet" "this$0" "Ljava/util/LinkedHashMap;") ∈ lw_all := lw_g (lw_at lw_m3 207 rfl) rfl
theorem q794 : (Jvm.Cond.soleField "java/util/LinkedHashMap$LinkedKeySet" "this$0") ∈ lw_all := lw_g (lw_at lw_m3 208 rfl) rfl
theorem q795 : (Jvm.Cond.superclass "java/util/LinkedHashMap$LinkedKeySet" "java/util/AbstractSet") ∈ lw_all := lw_g (lw_at lw_m3 209 rfl) rfl
theorem q856 : (Jvm.Cond.castable "java/util/LinkedHashMap$LinkedKeySet" "java/util/Set") ∈ lw_tbl := lw_at lw_m4 30 rfl
theorem q857 : (Jvm.Cond.selects "java/util/LinkedHashMap$LinkedKeySet" ({ cls := "java/util/Set", name := "iterator", desc := "()Ljava/util/Iterator;" } : Jvm.MethodName) ({ cls := "java/util/LinkedHashMap$LinkedKeySet", name := "iterator", desc := "()Ljava/util/Iterator;" } : Jvm.MethodName)) ∈ lw_all := lw_g (lw_at lw_m4 31 rfl) rfl
theorem q858 : (Jvm.Cond.unhidden "java/util/LinkedHashMap$LinkedKeySet" "iterator" "()Ljava/util/Iterator;") ∈ lw_tbl := lw_at lw_m4 32 rfl
theorem q859 : (Jvm.Cond.instanceMethod ({ cls := "java/util/LinkedHashMap$LinkedKeySet", name := "iterator", desc := "()Ljava/util/Iterator;" } : Jvm.MethodName)) ∈ lw_all := lw_g (lw_at lw_m4 33 rfl) rfl
theorem q860 : (Jvm.Cond.publicMethod ({ cls := "java/util/LinkedHashMap$LinkedKeySet", name := "iterator", desc := "()Ljava/util/Iterator;" } : Jvm.MethodName)) ∈ lw_tbl := lw_at lw_m4 34 rfl
theorem q861 : (Jvm.Cond.code ({ cls := "java/util/LinkedHashMap$LinkedKeySet", name := "iterator", desc := "()Ljava/util/Iterator;" } : Jvm.MethodName) prog_70_method_4_code (1 : Nat) (Option.some (Jvm.ClassFile.FieldType.object "java/util/Iterator"))) ∈ lw_all := lw_g (lw_at lw_m4 35 rfl) rfl
theorem q862 : (Jvm.Cond.classLink "java/util/LinkedHashMap$LinkedKeySet" (26 : Nat) "java/util/LinkedHashMap$LinkedKeyIterator") ∈ lw_all := lw_g (lw_at lw_m4 36 rfl) rfl
theorem q864 : (Jvm.Cond.methodLink "java/util/LinkedHashMap$LinkedKeySet" (28 : Nat) ({ cls := "java/util/LinkedHashMap$LinkedKeyIterator", name := "<init>", desc := "(Ljava/util/LinkedHashMap;Z)V" } : Jvm.MethodName)) ∈ lw_all := lw_g (lw_at lw_m4 38 rfl) rfl
theorem q3576 : (Jvm.Cond.castable "java/util/LinkedHashMap$LinkedKeySet" "java/util/SequencedSet") ∈ lw_tbl := lw_at lw_m15 110 rfl
theorem q3593 : (Jvm.Cond.castable "java/util/LinkedHashMap$LinkedKeySet" "java/lang/Object") ∈ lw_tbl := lw_at lw_m15 127 rfl
theorem in_J21 : ∀ w ∈ wsJ210, w ∈ lw_all := lw_in wsJ210 [791, 793] (by decide +kernel) (by decide +kernel)
/-! java/util/HashMap$HashIterator -/
set_option maxRecDepth 100000
def RJ22 : String := "java/util/HashMap$HashIterator"
abbrev cJ22_hasNext : ByteArray := prog_59_method_2_code
def yJ22_hasNext : MethodName := ⟨RJ22, "hasNext", "()Z"⟩
def dkwJ22_hasNext_0 : List UInt8 := [42, 180, 0, 26, 198, 0, 7, 4, 167, 0, 4, 3, 172]
abbrev dktJ22_hasNext_0 : List UInt8 := dkwJ22_hasNext_0 ++ []
theorem dksJ22_hasNext_0 : cJ22_hasNext.data.toList.drop 0 = dktJ22_hasNext_0 := by decide +kernel
theorem dJ22_hasNext_0 : decode cJ22_hasNext 0 = .ok (.aload_n 0, 1) := dk_42 (dk_at dksJ22_hasNext_0 0 rfl rfl)
theorem dJ22_hasNext_1 : decode cJ22_hasNext 1 = .ok (.getfield 26, 3) := dk_180 0 26 (dk_at dksJ22_hasNext_0 1 rfl rfl)
theorem dJ22_hasNext_4 : decode cJ22_hasNext 4 = .ok (.ifnull 7, 3) := dk_198 0 7 (dk_at dksJ22_hasNext_0 4 rfl rfl)
theorem dJ22_hasNext_7 : decode cJ22_hasNext 7 = .ok (.iconst 1, 1) := dk_4 (dk_at dksJ22_hasNext_0 7 rfl rfl)
theorem dJ22_hasNext_8 : decode cJ22_hasNext 8 = .ok (.goto 4, 3) := dk_167 0 4 (dk_at dksJ22_hasNext_0 8 rfl rfl)
theorem dJ22_hasNext_11 : decode cJ22_hasNext 11 = .ok (.iconst 0, 1) := dk_3 (dk_at dksJ22_hasNext_0 11 rfl rfl)
theorem dJ22_hasNext_12 : decode cJ22_hasNext 12 = .ok (.ireturn, 1) := dk_172 (dk_at dksJ22_hasNext_0 12 rfl rfl)
abbrev cJ22_nextNode : ByteArray := prog_59_method_3_code
def yJ22_nextNode : MethodName := ⟨RJ22, "nextNode", "()Ljava/util/HashMap$Node;"⟩
def dkwJ22_nextNode_4 : List UInt8 := [181, 0, 26, 198, 255, 229, 44, 176]
abbrev dktJ22_nextNode_4 : List UInt8 := dkwJ22_nextNode_4 ++ []
def dkwJ22_nextNode_3 : List UInt8 := [180, 0, 33, 43, 190, 162, 0, 24, 42, 43, 42, 89, 180, 0, 33, 90, 4, 96, 181, 0, 33, 50, 90]
abbrev dktJ22_nextNode_3 : List UInt8 := dkwJ22_nextNode_3 ++ dktJ22_nextNode_4
def dkwJ22_nextNode_2 : List UInt8 := [180, 0, 45, 90, 181, 0, 26, 199, 0, 45, 42, 180, 0, 1, 180, 0, 22, 89, 76, 198, 0, 33, 42]
abbrev dktJ22_nextNode_2 : List UInt8 := dkwJ22_nextNode_2 ++ dktJ22_nextNode_3
def dkwJ22_nextNode_1 : List UInt8 := [183, 0, 41, 191, 44, 199, 0, 11, 187, 0, 42, 89, 183, 0, 44, 191, 42, 42, 44, 90, 181, 0, 30]
abbrev dktJ22_nextNode_1 : List UInt8 := dkwJ22_nextNode_1 ++ dktJ22_nextNode_2
def dkwJ22_nextNode_0 : List UInt8 := [42, 180, 0, 26, 77, 42, 180, 0, 1, 180, 0, 13, 42, 180, 0, 19, 159, 0, 11, 187, 0, 39, 89]
abbrev dktJ22_nextNode_0 : List UInt8 := dkwJ22_nextNode_0 ++ dktJ22_nextNode_1
theorem dksJ22_nextNode_0 : cJ22_nextNode.data.toList.drop 0 = dktJ22_nextNode_0 := by decide +kernel
theorem dksJ22_nextNode_1 : cJ22_nextNode.data.toList.drop 23 = dktJ22_nextNode_1 := dk_seg dksJ22_nextNode_0 23 rfl rfl
theorem dksJ22_nextNode_2 : cJ22_nextNode.data.toList.drop 46 = dktJ22_nextNode_2 := dk_seg dksJ22_nextNode_1 23 rfl rfl
theorem dksJ22_nextNode_3 : cJ22_nextNode.data.toList.drop 69 = dktJ22_nextNode_3 := dk_seg dksJ22_nextNode_2 23 rfl rfl
theorem dksJ22_nextNode_4 : cJ22_nextNode.data.toList.drop 92 = dktJ22_nextNode_4 := dk_seg dksJ22_nextNode_3 23 rfl rfl
theorem dJ22_nextNode_0 : decode cJ22_nextNode 0 = .ok (.aload_n 0, 1) := dk_42 (dk_at dksJ22_nextNode_0 0 rfl rfl)
theorem dJ22_nextNode_1 : decode cJ22_nextNode 1 = .ok (.getfield 26, 3) := dk_180 0 26 (dk_at dksJ22_nextNode_0 1 rfl rfl)
theorem dJ22_nextNode_4 : decode cJ22_nextNode 4 = .ok (.astore_n 2, 1) := dk_77 (dk_at dksJ22_nextNode_0 4 rfl rfl)
theorem dJ22_nextNode_5 : decode cJ22_nextNode 5 = .ok (.aload_n 0, 1) := dk_42 (dk_at dksJ22_nextNode_0 5 rfl rfl)
theorem dJ22_nextNode_6 : decode cJ22_nextNode 6 = .ok (.getfield 1, 3) := dk_180 0 1 (dk_at dksJ22_nextNode_0 6 rfl rfl)
theorem dJ22_nextNode_9 : decode cJ22_nextNode 9 = .ok (.getfield 13, 3) := dk_180 0 13 (dk_at dksJ22_nextNode_0 9 rfl rfl)
theorem dJ22_nextNode_12 : decode cJ22_nextNode 12 = .ok (.aload_n 0, 1) := dk_42 (dk_at dksJ22_nextNode_0 12 rfl rfl)
theorem dJ22_nextNode_13 : decode cJ22_nextNode 13 = .ok (.getfield 19, 3) := dk_180 0 19 (dk_at dksJ22_nextNode_0 13 rfl rfl)
theorem dJ22_nextNode_16 : decode cJ22_nextNode 16 = .ok (.if_icmp .eq 11, 3) := dk_159 0 11 (dk_at dksJ22_nextNode_0 16 rfl rfl)
theorem dJ22_nextNode_19 : decode cJ22_nextNode 19 = .ok (.new 39, 3) := dk_187 0 39 (dk_at dksJ22_nextNode_0 19 rfl rfl)
theorem dJ22_nextNode_22 : decode cJ22_nextNode 22 = .ok (.dup, 1) := dk_89 (dk_at dksJ22_nextNode_0 22 rfl rfl)
theorem dJ22_nextNode_23 : decode cJ22_nextNode 23 = .ok (.invokespecial 41, 3) := dk_183 0 41 (dk_at dksJ22_nextNode_1 0 rfl rfl)
theorem dJ22_nextNode_26 : decode cJ22_nextNode 26 = .ok (.athrow, 1) := dk_191 (dk_at dksJ22_nextNode_1 3 rfl rfl)
theorem dJ22_nextNode_27 : decode cJ22_nextNode 27 = .ok (.aload_n 2, 1) := dk_44 (dk_at dksJ22_nextNode_1 4 rfl rfl)
theorem dJ22_nextNode_28 : decode cJ22_nextNode 28 = .ok (.ifnonnull 11, 3) := dk_199 0 11 (dk_at dksJ22_nextNode_1 5 rfl rfl)
theorem dJ22_nextNode_31 : decode cJ22_nextNode 31 = .ok (.new 42, 3) := dk_187 0 42 (dk_at dksJ22_nextNode_1 8 rfl rfl)
theorem dJ22_nextNode_34 : decode cJ22_nextNode 34 = .ok (.dup, 1) := dk_89 (dk_at dksJ22_nextNode_1 11 rfl rfl)
theorem dJ22_nextNode_35 : decode cJ22_nextNode 35 = .ok (.invokespecial 44, 3) := dk_183 0 44 (dk_at dksJ22_nextNode_1 12 rfl rfl)
theorem dJ22_nextNode_38 : decode cJ22_nextNode 38 = .ok (.athrow, 1) := dk_191 (dk_at dksJ22_nextNode_1 15 rfl rfl)
theorem dJ22_nextNode_39 : decode cJ22_nextNode 39 = .ok (.aload_n 0, 1) := dk_42 (dk_at dksJ22_nextNode_1 16 rfl rfl)
theorem dJ22_nextNode_40 : decode cJ22_nextNode 40 = .ok (.aload_n 0, 1) := dk_42 (dk_at dksJ22_nextNode_1 17 rfl rfl)
theorem dJ22_nextNode_41 : decode cJ22_nextNode 41 = .ok (.aload_n 2, 1) := dk_44 (dk_at dksJ22_nextNode_1 18 rfl rfl)
theorem dJ22_nextNode_42 : decode cJ22_nextNode 42 = .ok (.dup_x1, 1) := dk_90 (dk_at dksJ22_nextNode_1 19 rfl rfl)
theorem dJ22_nextNode_43 : decode cJ22_nextNode 43 = .ok (.putfield 30, 3) := dk_181 0 30 (dk_at dksJ22_nextNode_1 20 rfl rfl)
theorem dJ22_nextNode_46 : decode cJ22_nextNode 46 = .ok (.getfield 45, 3) := dk_180 0 45 (dk_at dksJ22_nextNode_2 0 rfl rfl)
theorem dJ22_nextNode_49 : decode cJ22_nextNode 49 = .ok (.dup_x1, 1) := dk_90 (dk_at dksJ22_nextNode_2 3 rfl rfl)
theorem dJ22_nextNode_50 : decode cJ22_nextNode 50 = .ok (.putfield 26, 3) := dk_181 0 26 (dk_at dksJ22_nextNode_2 4 rfl rfl)
theorem dJ22_nextNode_53 : decode cJ22_nextNode 53 = .ok (.ifnonnull 45, 3) := dk_199 0 45 (dk_at dksJ22_nextNode_2 7 rfl rfl)
theorem dJ22_nextNode_56 : decode cJ22_nextNode 56 = .ok (.aload_n 0, 1) := dk_42 (dk_at dksJ22_nextNode_2 10 rfl rfl)
theorem dJ22_nextNode_57 : decode cJ22_nextNode 57 = .ok (.getfield 1, 3) := dk_180 0 1 (dk_at dksJ22_nextNode_2 11 rfl rfl)
theorem dJ22_nextNode_60 : decode cJ22_nextNode 60 = .ok (.getfield 22, 3) := dk_180 0 22 (dk_at dksJ22_nextNode_2 14 rfl rfl)
theorem dJ22_nextNode_63 : decode cJ22_nextNode 63 = .ok (.dup, 1) := dk_89 (dk_at dksJ22_nextNode_2 17 rfl rfl)
theorem dJ22_nextNode_64 : decode cJ22_nextNode 64 = .ok (.astore_n 1, 1) := dk_76 (dk_at dksJ22_nextNode_2 18 rfl rfl)
theorem dJ22_nextNode_65 : decode cJ22_nextNode 65 = .ok (.ifnull 33, 3) := dk_198 0 33 (dk_at dksJ22_nextNode_2 19 rfl rfl)
theorem dJ22_nextNode_68 : decode cJ22_nextNode 68 = .ok (.aload_n 0, 1) := dk_42 (dk_at dksJ22_nextNode_2 22 rfl rfl)
theorem dJ22_nextNode_69 : decode cJ22_nextNode 69 = .ok (.getfield 33, 3) := dk_180 0 33 (dk_at dksJ22_nextNode_3 0 rfl rfl)
theorem dJ22_nextNode_72 : decode cJ22_nextNode 72 = .ok (.aload_n 1, 1) := dk_43 (dk_at dksJ22_nextNode_3 3 rfl rfl)
theorem dJ22_nextNode_73 : decode cJ22_nextNode 73 = .ok (.arraylength, 1) := dk_190 (dk_at dksJ22_nextNode_3 4 rfl rfl)
theorem dJ22_nextNode_74 : decode cJ22_nextNode 74 = .ok (.if_icmp .ge 24, 3) := dk_162 0 24 (dk_at dksJ22_nextNode_3 5 rfl rfl)
theorem dJ22_nextNode_77 : decode cJ22_nextNode 77 = .ok (.aload_n 0, 1) := dk_42 (dk_at dksJ22_nextNode_3 8 rfl rfl)
theorem dJ22_nextNode_78 : decode cJ22_nextNode 78 = .ok (.aload_n 1, 1) := dk_43 (dk_at dksJ22_nextNode_3 9 rfl rfl)
theorem dJ22_nextNode_79 : decode cJ22_nextNode 79 = .ok (.aload_n 0, 1) := dk_42 (dk_at dksJ22_nextNode_3 10 rfl rfl)
theorem dJ22_nextNode_80 : decode cJ22_nextNode 80 = .ok (.dup, 1) := dk_89 (dk_at dksJ22_nextNode_3 11 rfl rfl)
theorem dJ22_nextNode_81 : decode cJ22_nextNode 81 = .ok (.getfield 33, 3) := dk_180 0 33 (dk_at dksJ22_nextNode_3 12 rfl rfl)
theorem dJ22_nextNode_84 : decode cJ22_nextNode 84 = .ok (.dup_x1, 1) := dk_90 (dk_at dksJ22_nextNode_3 15 rfl rfl)
theorem dJ22_nextNode_85 : decode cJ22_nextNode 85 = .ok (.iconst 1, 1) := dk_4 (dk_at dksJ22_nextNode_3 16 rfl rfl)
theorem dJ22_nextNode_86 : decode cJ22_nextNode 86 = .ok (.iadd, 1) := dk_96 (dk_at dksJ22_nextNode_3 17 rfl rfl)
theorem dJ22_nextNode_87 : decode cJ22_nextNode 87 = .ok (.putfield 33, 3) := dk_181 0 33 (dk_at dksJ22_nextNode_3 18 rfl rfl)
theorem dJ22_nextNode_90 : decode cJ22_nextNode 90 = .ok (.aaload, 1) := dk_50 (dk_at dksJ22_nextNode_3 21 rfl rfl)
theorem dJ22_nextNode_91 : decode cJ22_nextNode 91 = .ok (.dup_x1, 1) := dk_90 (dk_at dksJ22_nextNode_3 22 rfl rfl)
theorem dJ22_nextNode_92 : decode cJ22_nextNode 92 = .ok (.putfield 26, 3) := dk_181 0 26 (dk_at dksJ22_nextNode_4 0 rfl rfl)
theorem dJ22_nextNode_95 : decode cJ22_nextNode 95 = .ok (.ifnull (-27), 3) := dk_198 255 229 (dk_at dksJ22_nextNode_4 3 rfl rfl)
theorem dJ22_nextNode_98 : decode cJ22_nextNode 98 = .ok (.aload_n 2, 1) := dk_44 (dk_at dksJ22_nextNode_4 6 rfl rfl)
theorem dJ22_nextNode_99 : decode cJ22_nextNode 99 = .ok (.areturn, 1) := dk_176 (dk_at dksJ22_nextNode_4 7 rfl rfl)
abbrev cJ22_init : ByteArray := prog_59_method_1_code
def yJ22_init : MethodName := ⟨RJ22, "<init>", "(Ljava/util/HashMap;)V"⟩
def dkwJ22_init_3 : List UInt8 := [181, 0, 26, 198, 255, 229, 177]
abbrev dktJ22_init_3 : List UInt8 := dkwJ22_init_3 ++ []
def dkwJ22_init_2 : List UInt8 := [42, 180, 0, 33, 44, 190, 162, 0, 24, 42, 44, 42, 89, 180, 0, 33, 90, 4, 96, 181, 0, 33, 50, 90]
abbrev dktJ22_init_2 : List UInt8 := dkwJ22_init_2 ++ dktJ22_init_3
def dkwJ22_init_1 : List UInt8 := [1, 90, 181, 0, 26, 181, 0, 30, 42, 3, 181, 0, 33, 44, 198, 0, 40, 43, 180, 0, 36, 158, 0, 33]
abbrev dktJ22_init_1 : List UInt8 := dkwJ22_init_1 ++ dktJ22_init_2
def dkwJ22_init_0 : List UInt8 := [42, 43, 181, 0, 1, 42, 183, 0, 7, 42, 43, 180, 0, 13, 181, 0, 19, 43, 180, 0, 22, 77, 42, 42]
abbrev dktJ22_init_0 : List UInt8 := dkwJ22_init_0 ++ dktJ22_init_1
theorem dksJ22_init_0 : cJ22_init.data.toList.drop 0 = dktJ22_init_0 := by decide +kernel
theorem dksJ22_init_1 : cJ22_init.data.toList.drop 24 = dktJ22_init_1 := dk_seg dksJ22_init_0 24 rfl rfl
theorem dksJ22_init_2 : cJ22_init.data.toList.drop 48 = dktJ22_init_2 := dk_seg dksJ22_init_1 24 rfl rfl
theorem dksJ22_init_3 : cJ22_init.data.toList.drop 72 = dktJ22_init_3 := dk_seg dksJ22_init_2 24 rfl rfl
theorem dJ22_init_0 : decode cJ22_init 0 = .ok (.aload_n 0, 1) := dk_42 (dk_at dksJ22_init_0 0 rfl rfl)
theorem dJ22_init_1 : decode cJ22_init 1 = .ok (.aload_n 1, 1) := dk_43 (dk_at dksJ22_init_0 1 rfl rfl)
theorem dJ22_init_2 : decode cJ22_init 2 = .ok (.putfield 1, 3) := dk_181 0 1 (dk_at dksJ22_init_0 2 rfl rfl)
theorem dJ22_init_5 : decode cJ22_init 5 = .ok (.aload_n 0, 1) := dk_42 (dk_at dksJ22_init_0 5 rfl rfl)
theorem dJ22_init_6 : decode cJ22_init 6 = .ok (.invokespecial 7, 3) := dk_183 0 7 (dk_at dksJ22_init_0 6 rfl rfl)
theorem dJ22_init_9 : decode cJ22_init 9 = .ok (.aload_n 0, 1) := dk_42 (dk_at dksJ22_init_0 9 rfl rfl)
theorem dJ22_init_10 : decode cJ22_init 10 = .ok (.aload_n 1, 1) := dk_43 (dk_at dksJ22_init_0 10 rfl rfl)
theorem dJ22_init_11 : decode cJ22_init 11 = .ok (.getfield 13, 3) := dk_180 0 13 (dk_at dksJ22_init_0 11 rfl rfl)
theorem dJ22_init_14 : decode cJ22_init 14 = .ok (.putfield 19, 3) := dk_181 0 19 (dk_at dksJ22_init_0 14 rfl rfl)
theorem dJ22_init_17 : decode cJ22_init 17 = .ok (.aload_n 1, 1) := dk_43 (dk_at dksJ22_init_0 17 rfl rfl)
theorem dJ22_init_18 : decode cJ22_init 18 = .ok (.getfield 22, 3) := dk_180 0 22 (dk_at dksJ22_init_0 18 rfl rfl)
theorem dJ22_init_21 : decode cJ22_init 21 = .ok (.astore_n 2, 1) := dk_77 (dk_at dksJ22_init_0 21 rfl rfl)
theorem dJ22_init_22 : decode cJ22_init 22 = .ok (.aload_n 0, 1) := dk_42 (dk_at dksJ22_init_0 22 rfl rfl)
theorem dJ22_init_23 : decode cJ22_init 23 = .ok (.aload_n 0, 1) := dk_42 (dk_at dksJ22_init_0 23 rfl rfl)
theorem dJ22_init_24 : decode cJ22_init 24 = .ok (.aconst_null, 1) := dk_1 (dk_at dksJ22_init_1 0 rfl rfl)
theorem dJ22_init_25 : decode cJ22_init 25 = .ok (.dup_x1, 1) := dk_90 (dk_at dksJ22_init_1 1 rfl rfl)
theorem dJ22_init_26 : decode cJ22_init 26 = .ok (.putfield 26, 3) := dk_181 0 26 (dk_at dksJ22_init_1 2 rfl rfl)
theorem dJ22_init_29 : decode cJ22_init 29 = .ok (.putfield 30, 3) := dk_181 0 30 (dk_at dksJ22_init_1 5 rfl rfl)
theorem dJ22_init_32 : decode cJ22_init 32 = .ok (.aload_n 0, 1) := dk_42 (dk_at dksJ22_init_1 8 rfl rfl)
theorem dJ22_init_33 : decode cJ22_init 33 = .ok (.iconst 0, 1) := dk_3 (dk_at dksJ22_init_1 9 rfl rfl)
theorem dJ22_init_34 : decode cJ22_init 34 = .ok (.putfield 33, 3) := dk_181 0 33 (dk_at dksJ22_init_1 10 rfl rfl)
theorem dJ22_init_37 : decode cJ22_init 37 = .ok (.aload_n 2, 1) := dk_44 (dk_at dksJ22_init_1 13 rfl rfl)
theorem dJ22_init_38 : decode cJ22_init 38 = .ok (.ifnull 40, 3) := dk_198 0 40 (dk_at dksJ22_init_1 14 rfl rfl)
theorem dJ22_init_41 : decode cJ22_init 41 = .ok (.aload_n 1, 1) := dk_43 (dk_at dksJ22_init_1 17 rfl rfl)
theorem dJ22_init_42 : decode cJ22_init 42 = .ok (.getfield 36, 3) := dk_180 0 36 (dk_at dksJ22_init_1 18 rfl rfl)
theorem dJ22_init_45 : decode cJ22_init 45 = .ok (.ifCond .le 33, 3) := dk_158 0 33 (dk_at dksJ22_init_1 21 rfl rfl)
theorem dJ22_init_48 : decode cJ22_init 48 = .ok (.aload_n 0, 1) := dk_42 (dk_at dksJ22_init_2 0 rfl rfl)
theorem dJ22_init_49 : decode cJ22_init 49 = .ok (.getfield 33, 3) := dk_180 0 33 (dk_at dksJ22_init_2 1 rfl rfl)
theorem dJ22_init_52 : decode cJ22_init 52 = .ok (.aload_n 2, 1) := dk_44 (dk_at dksJ22_init_2 4 rfl rfl)
theorem dJ22_init_53 : decode cJ22_init 53 = .ok (.arraylength, 1) := dk_190 (dk_at dksJ22_init_2 5 rfl rfl)
theorem dJ22_init_54 : decode cJ22_init 54 = .ok (.if_icmp .ge 24, 3) := dk_162 0 24 (dk_at dksJ22_init_2 6 rfl rfl)
theorem dJ22_init_57 : decode cJ22_init 57 = .ok (.aload_n 0, 1) := dk_42 (dk_at dksJ22_init_2 9 rfl rfl)
theorem dJ22_init_58 : decode cJ22_init 58 = .ok (.aload_n 2, 1) := dk_44 (dk_at dksJ22_init_2 10 rfl rfl)
theorem dJ22_init_59 : decode cJ22_init 59 = .ok (.aload_n 0, 1) := dk_42 (dk_at dksJ22_init_2 11 rfl rfl)
theorem dJ22_init_60 : decode cJ22_init 60 = .ok (.dup, 1) := dk_89 (dk_at dksJ22_init_2 12 rfl rfl)
theorem dJ22_init_61 : decode cJ22_init 61 = .ok (.getfield 33, 3) := dk_180 0 33 (dk_at dksJ22_init_2 13 rfl rfl)
theorem dJ22_init_64 : decode cJ22_init 64 = .ok (.dup_x1, 1) := dk_90 (dk_at dksJ22_init_2 16 rfl rfl)
theorem dJ22_init_65 : decode cJ22_init 65 = .ok (.iconst 1, 1) := dk_4 (dk_at dksJ22_init_2 17 rfl rfl)
theorem dJ22_init_66 : decode cJ22_init 66 = .ok (.iadd, 1) := dk_96 (dk_at dksJ22_init_2 18 rfl rfl)
theorem dJ22_init_67 : decode cJ22_init 67 = .ok (.putfield 33, 3) := dk_181 0 33 (dk_at dksJ22_init_2 19 rfl rfl)
theorem dJ22_init_70 : decode cJ22_init 70 = .ok (.aaload, 1) := dk_50 (dk_at dksJ22_init_2 22 rfl rfl)
theorem dJ22_init_71 : decode cJ22_init 71 = .ok (.dup_x1, 1) := dk_90 (dk_at dksJ22_init_2 23 rfl rfl)
theorem dJ22_init_72 : decode cJ22_init 72 = .ok (.putfield 26, 3) := dk_181 0 26 (dk_at dksJ22_init_3 0 rfl rfl)
theorem dJ22_init_75 : decode cJ22_init 75 = .ok (.ifnull (-27), 3) := dk_198 255 229 (dk_at dksJ22_init_3 3 rfl rfl)
theorem dJ22_init_78 : decode cJ22_init 78 = .ok (.return_, 1) := dk_177 (dk_at dksJ22_init_3 6 rfl rfl)
theorem q134 : (Jvm.Cond.initialized "java/util/HashMap$HashIterator") ∈ lw_all := lw_g (lw_at lw_m1 28 rfl) rfl
theorem q225 : (Jvm.Cond.fieldLink "java/util/HashMap$HashIterator" (22 : Nat) "java/util/HashMap" "table" "[Ljava/util/HashMap$Node;") ∈ lw_all := lw_g (lw_at lw_m1 119 rfl) rfl
theorem q227 : (Jvm.Cond.fieldLink "java/util/HashMap$HashIterator" (36 : Nat) "java/util/HashMap" "size" "I") ∈ lw_all := lw_g (lw_at lw_m1 121 rfl) rfl
theorem q229 : (Jvm.Cond.fieldLink "java/util/HashMap$HashIterator" (13 : Nat) "java/util/HashMap" "modCount" "I") ∈ lw_all := lw_g (lw_at lw_m1 123 rfl) rfl
theorem q450 : (Jvm.Cond.instanceMethod ({ cls := "java/util/HashMap$HashIterator", name := "hasNext", desc := "()Z" } : Jvm.MethodName)) ∈ lw_all := lw_g (lw_at lw_m2 104 rfl) rfl
theorem q451 : (Jvm.Cond.publicMethod ({ cls := "java/util/HashMap$HashIterator", name := "hasNext", desc := "()Z" } : Jvm.MethodName)) ∈ lw_tbl := lw_at lw_m2 105 rfl
theorem q452 : (Jvm.Cond.code ({ cls := "java/util/HashMap$HashIterator", name := "hasNext", desc := "()Z" } : Jvm.MethodName) prog_59_method_2_code (1 : Nat) (Option.some Jvm.ClassFile.FieldType.boolean)) ∈ lw_all := lw_g (lw_at lw_m2 106 rfl) rfl
theorem q542 : (Jvm.Cond.declares ({ cls := "java/util/HashMap$HashIterator", name := "nextNode", desc := "()Ljava/util/HashMap$Node;" } : Jvm.MethodName)) ∈ lw_tbl := lw_at lw_m2 196 rfl
theorem q544 : (Jvm.Cond.instanceMethod ({ cls := "java/util/HashMap$HashIterator", name := "nextNode", desc := "()Ljava/util/HashMap$Node;" } : Jvm.MethodName)) ∈ lw_all := lw_g (lw_at lw_m2 198 rfl) rfl
theorem q545 : (Jvm.Cond.code ({ cls := "java/util/HashMap$HashIterator", name := "nextNode", desc := "()Ljava/util/HashMap$Node;" } : Jvm.MethodName) prog_59_method_3_code (3 : Nat) (Option.some (Jvm.ClassFile.FieldType.object "java/util/HashMap$Node"))) ∈ lw_all := lw_g (lw_at lw_m2 199 rfl) rfl
theorem q546 : (Jvm.Cond.classLink "java/util/HashMap$HashIterator" (42 : Nat) "java/util/NoSuchElementException") ∈ lw_all := lw_g (lw_at lw_m2 200 rfl) rfl
theorem q547 : (Jvm.Cond.methodLink "java/util/HashMap$HashIterator" (44 : Nat) ({ cls := "java/util/NoSuchElementException", name := "<init>", desc := "()V" } : Jvm.MethodName)) ∈ lw_all := lw_g (lw_at lw_m2 201 rfl) rfl
theorem q813 : (Jvm.Cond.instanceMethod ({ cls := "java/util/HashMap$HashIterator", name := "<init>", desc := "(Ljava/util/HashMap;)V" } : Jvm.MethodName)) ∈ lw_all := lw_g (lw_at lw_m3 227 rfl) rfl
theorem q814 : (Jvm.Cond.code ({ cls := "java/util/HashMap$HashIterator", name := "<init>", desc := "(Ljava/util/HashMap;)V" } : Jvm.MethodName) prog_59_method_1_code (3 : Nat) (Option.none : Option Jvm.ClassFile.FieldType)) ∈ lw_all := lw_g (lw_at lw_m3 228 rfl) rfl
theorem q815 : (Jvm.Cond.methodLink "java/util/HashMap$HashIterator" (7 : Nat) ({ cls := "java/lang/Object", name := "<init>", desc := "()V" } : Jvm.MethodName)) ∈ lw_all := lw_g (lw_at lw_m3 229 rfl) rfl
theorem q816 : (Jvm.Cond.fieldLink "java/util/HashMap$HashIterator" (26 : Nat) "java/util/HashMap$HashIterator" "next" "Ljava/util/HashMap$Node;") ∈ lw_all := lw_g (lw_at lw_m3 230 rfl) rfl
theorem q817 : (Jvm.Cond.fieldLink "java/util/HashMap$HashIterator" (30 : Nat) "java/util/HashMap$HashIterator" "current" "Ljava/util/HashMap$Node;") ∈ lw_all := lw_g (lw_at lw_m3 231 rfl) rfl
theorem q818 : (Jvm.Cond.fieldLink "java/util/HashMap$HashIterator" (19 : Nat) "java/util/HashMap$HashIterator" "expectedModCount" "I") ∈ lw_all := lw_g (lw_at lw_m3 232 rfl) rfl
theorem q819 : (Jvm.Cond.fieldLink "java/util/HashMap$HashIterator" (33 : Nat) "java/util/HashMap$HashIterator" "index" "I") ∈ lw_all := lw_g (lw_at lw_m3 233 rfl) rfl
theorem q820 : (Jvm.Cond.fieldLink "java/util/HashMap$HashIterator" (1 : Nat) "java/util/HashMap$HashIterator" "this$0" "Ljava/util/HashMap;") ∈ lw_all := lw_g (lw_at lw_m3 234 rfl) rfl
theorem q822 : (Jvm.Cond.soleField "java/util/HashMap$HashIterator" "next") ∈ lw_all := lw_g (lw_at lw_m3 236 rfl) rfl
theorem q824 : (Jvm.Cond.soleField "java/util/HashMap$HashIterator" "current") ∈ lw_all := lw_g (lw_at lw_m3 238 rfl) rfl
theorem q826 : (Jvm.Cond.soleField "java/util/HashMap$HashIterator" "expectedModCount") ∈ lw_all := lw_g (lw_at lw_m4 0 rfl) rfl
theorem q828 : (Jvm.Cond.soleField "java/util/HashMap$HashIterator" "index") ∈ lw_all := lw_g (lw_at lw_m4 2 rfl) rfl
theorem q830 : (Jvm.Cond.soleField "java/util/HashMap$HashIterator" "this$0") ∈ lw_all := lw_g (lw_at lw_m4 4 rfl) rfl
theorem q1924 : (Jvm.Cond.fieldLink "java/util/HashMap$HashIterator" (45 : Nat) "java/util/HashMap$Node" "next" "Ljava/util/HashMap$Node;") ∈ lw_all := lw_g (lw_at lw_m8 138 rfl) rfl
/-! java/util/HashMap$KeyIterator -/
set_option maxRecDepth 100000
def RJ23 : String := "java/util/HashMap$KeyIterator"
def TJ23 : u_T := fun k => match k with
  | 0 => ("java/util/HashMap$HashIterator", "next", "Ljava/util/HashMap$Node;", false)
  | 1 => ("java/util/HashMap$HashIterator", "current", "Ljava/util/HashMap$Node;", false)
  | 2 => ("java/util/HashMap$HashIterator", "expectedModCount", "I", false)
  | 3 => ("java/util/HashMap$HashIterator", "index", "I", false)
  | _ => ("java/util/HashMap$HashIterator", "this$0", "Ljava/util/HashMap;", true)
def tyJ23 : Nat → FieldType := fun k => match k with
  | 0 => .object "java/util/HashMap$Node"
  | 1 => .object "java/util/HashMap$Node"
  | 2 => .int
  | 3 => .int
  | _ => .object "java/util/HashMap"
abbrev wsJ230 : List Cond := u_ws RJ23 TJ23 5
theorem nmJ23 : ∀ a, a < 5 → ∀ b, b < 5 → a ≠ b → (TJ23 a).2.1 ≠ (TJ23 b).2.1 := by decide +kernel
theorem tyJ23_ok : ∀ k, k < 5 → parseFieldDescriptor (TJ23 k).2.2.1 = some (tyJ23 k) := by decide +kernel
abbrev cJ23_next : ByteArray := prog_60_method_2_code
def yJ23_next : MethodName := ⟨RJ23, "next", "()Ljava/lang/Object;"⟩
def dkwJ23_next_0 : List UInt8 := [42, 182, 0, 7, 180, 0, 13, 176]
abbrev dktJ23_next_0 : List UInt8 := dkwJ23_next_0 ++ []
theorem dksJ23_next_0 : cJ23_next.data.toList.drop 0 = dktJ23_next_0 := by decide +kernel
theorem dJ23_next_0 : decode cJ23_next 0 = .ok (.aload_n 0, 1) := dk_42 (dk_at dksJ23_next_0 0 rfl rfl)
theorem dJ23_next_1 : decode cJ23_next 1 = .ok (.invokevirtual 7, 3) := dk_182 0 7 (dk_at dksJ23_next_0 1 rfl rfl)
theorem dJ23_next_4 : decode cJ23_next 4 = .ok (.getfield 13, 3) := dk_180 0 13 (dk_at dksJ23_next_0 4 rfl rfl)
theorem dJ23_next_7 : decode cJ23_next 7 = .ok (.areturn, 1) := dk_176 (dk_at dksJ23_next_0 7 rfl rfl)
abbrev cJ23_init : ByteArray := prog_60_method_1_code
def yJ23_init : MethodName := ⟨RJ23, "<init>", "(Ljava/util/HashMap;)V"⟩
def dkwJ23_init_0 : List UInt8 := [42, 43, 183, 0, 1, 177]
abbrev dktJ23_init_0 : List UInt8 := dkwJ23_init_0 ++ []
theorem dksJ23_init_0 : cJ23_init.data.toList.drop 0 = dktJ23_init_0 := by decide +kernel
theorem dJ23_init_0 : decode cJ23_init 0 = .ok (.aload_n 0, 1) := dk_42 (dk_at dksJ23_init_0 0 rfl rfl)
theorem dJ23_init_1 : decode cJ23_init 1 = .ok (.aload_n 1, 1) := dk_43 (dk_at dksJ23_init_0 1 rfl rfl)
theorem dJ23_init_2 : decode cJ23_init 2 = .ok (.invokespecial 1, 3) := dk_183 0 1 (dk_at dksJ23_init_0 2 rfl rfl)
theorem dJ23_init_5 : decode cJ23_init 5 = .ok (.return_, 1) := dk_177 (dk_at dksJ23_init_0 5 rfl rfl)
theorem q135 : (Jvm.Cond.initialized "java/util/HashMap$KeyIterator") ∈ lw_all := lw_g (lw_at lw_m1 29 rfl) rfl
theorem q447 : (Jvm.Cond.castable "java/util/HashMap$KeyIterator" "java/util/Iterator") ∈ lw_tbl := lw_at lw_m2 101 rfl
theorem q448 : (Jvm.Cond.selects "java/util/HashMap$KeyIterator" ({ cls := "java/util/Iterator", name := "hasNext", desc := "()Z" } : Jvm.MethodName) ({ cls := "java/util/HashMap$HashIterator", name := "hasNext", desc := "()Z" } : Jvm.MethodName)) ∈ lw_all := lw_g (lw_at lw_m2 102 rfl) rfl
theorem q449 : (Jvm.Cond.unhidden "java/util/HashMap$KeyIterator" "hasNext" "()Z") ∈ lw_tbl := lw_at lw_m2 103 rfl
theorem q535 : (Jvm.Cond.selects "java/util/HashMap$KeyIterator" ({ cls := "java/util/Iterator", name := "next", desc := "()Ljava/lang/Object;" } : Jvm.MethodName) ({ cls := "java/util/HashMap$KeyIterator", name := "next", desc := "()Ljava/lang/Object;" } : Jvm.MethodName)) ∈ lw_all := lw_g (lw_at lw_m2 189 rfl) rfl
theorem q536 : (Jvm.Cond.unhidden "java/util/HashMap$KeyIterator" "next" "()Ljava/lang/Object;") ∈ lw_tbl := lw_at lw_m2 190 rfl
theorem q537 : (Jvm.Cond.instanceMethod ({ cls := "java/util/HashMap$KeyIterator", name := "next", desc := "()Ljava/lang/Object;" } : Jvm.MethodName)) ∈ lw_all := lw_g (lw_at lw_m2 191 rfl) rfl
theorem q538 : (Jvm.Cond.publicMethod ({ cls := "java/util/HashMap$KeyIterator", name := "next", desc := "()Ljava/lang/Object;" } : Jvm.MethodName)) ∈ lw_tbl := lw_at lw_m2 192 rfl
theorem q539 : (Jvm.Cond.code ({ cls := "java/util/HashMap$KeyIterator", name := "next", desc := "()Ljava/lang/Object;" } : Jvm.MethodName) prog_60_method_2_code (1 : Nat) (Option.some (Jvm.ClassFile.FieldType.object "java/lang/Object"))) ∈ lw_all := lw_g (lw_at lw_m2 193 rfl) rfl
theorem q540 : (Jvm.Cond.methodLink "java/util/HashMap$KeyIterator" (7 : Nat) ({ cls := "java/util/HashMap$KeyIterator", name := "nextNode", desc := "()Ljava/util/HashMap$Node;" } : Jvm.MethodName)) ∈ lw_all := lw_g (lw_at lw_m2 194 rfl) rfl
theorem q541 : (Jvm.Cond.sameMethod "java/util/HashMap$KeyIterator" "java/util/HashMap$HashIterator" "nextNode" "()Ljava/util/HashMap$Node;") ∈ lw_all := lw_g (lw_at lw_m2 195 rfl) rfl
theorem q543 : (Jvm.Cond.selects "java/util/HashMap$KeyIterator" ({ cls := "java/util/HashMap$KeyIterator", name := "nextNode", desc := "()Ljava/util/HashMap$Node;" } : Jvm.MethodName) ({ cls := "java/util/HashMap$HashIterator", name := "nextNode", desc := "()Ljava/util/HashMap$Node;" } : Jvm.MethodName)) ∈ lw_all := lw_g (lw_at lw_m2 197 rfl) rfl
theorem q629 : (Jvm.Cond.selects "java/util/HashMap$KeyIterator" ({ cls := "java/lang/Object", name := "getClass", desc := "()Ljava/lang/Class;" } : Jvm.MethodName) ({ cls := "java/lang/Object", name := "getClass", desc := "()Ljava/lang/Class;" } : Jvm.MethodName)) ∈ lw_all := lw_g (lw_at lw_m3 43 rfl) rfl
theorem q808 : (Jvm.Cond.instantiable "java/util/HashMap$KeyIterator" (5 : Nat)) ∈ lw_all := lw_g (lw_at lw_m3 222 rfl) rfl
theorem q810 : (Jvm.Cond.instanceMethod ({ cls := "java/util/HashMap$KeyIterator", name := "<init>", desc := "(Ljava/util/HashMap;)V" } : Jvm.MethodName)) ∈ lw_all := lw_g (lw_at lw_m3 224 rfl) rfl
theorem q811 : (Jvm.Cond.code ({ cls := "java/util/HashMap$KeyIterator", name := "<init>", desc := "(Ljava/util/HashMap;)V" } : Jvm.MethodName) prog_60_method_1_code (2 : Nat) (Option.none : Option Jvm.ClassFile.FieldType)) ∈ lw_all := lw_g (lw_at lw_m3 225 rfl) rfl
theorem q812 : (Jvm.Cond.methodLink "java/util/HashMap$KeyIterator" (1 : Nat) ({ cls := "java/util/HashMap$HashIterator", name := "<init>", desc := "(Ljava/util/HashMap;)V" } : Jvm.MethodName)) ∈ lw_all := lw_g (lw_at lw_m3 226 rfl) rfl
theorem q821 : (Jvm.Cond.lays "java/util/HashMap$KeyIterator" "java/util/HashMap$HashIterator" "next" "Ljava/util/HashMap$Node;") ∈ lw_all := lw_g (lw_at lw_m3 235 rfl) rfl
theorem q823 : (Jvm.Cond.lays "java/util/HashMap$KeyIterator" "java/util/HashMap$HashIterator" "current" "Ljava/util/HashMap$Node;") ∈ lw_all := lw_g (lw_at lw_m3 237 rfl) rfl
theorem q825 : (Jvm.Cond.lays "java/util/HashMap$KeyIterator" "java/util/HashMap$HashIterator" "expectedModCount" "I") ∈ lw_all := lw_g (lw_at lw_m3 239 rfl) rfl
theorem q827 : (Jvm.Cond.lays "java/util/HashMap$KeyIterator" "java/util/HashMap$HashIterator" "index" "I") ∈ lw_all := lw_g (lw_at lw_m4 1 rfl) rfl
theorem q829 : (Jvm.Cond.laysFinal "java/util/HashMap$KeyIterator" "java/util/HashMap$HashIterator" "this$0" "Ljava/util/HashMap;") ∈ lw_all := lw_g (lw_at lw_m4 3 rfl) rfl
theorem q831 : (Jvm.Cond.superclass "java/util/HashMap$KeyIterator" "java/util/HashMap$HashIterator") ∈ lw_all := lw_g (lw_at lw_m4 5 rfl) rfl
theorem q1912 : (Jvm.Cond.fieldLink "java/util/HashMap$KeyIterator" (13 : Nat) "java/util/HashMap$Node" "key" "Ljava/lang/Object;") ∈ lw_all := lw_g (lw_at lw_m8 126 rfl) rfl
theorem q3595 : (Jvm.Cond.castable "java/util/HashMap$KeyIterator" "java/lang/Object") ∈ lw_tbl := lw_at lw_m15 129 rfl
theorem in_J23 : ∀ w ∈ wsJ230, w ∈ lw_all := lw_in wsJ230 [821, 823, 825, 827, 829] (by decide +kernel) (by decide +kernel)
/-! java/util/HashMap$KeySet -/
set_option maxRecDepth 100000
def RJ24 : String := "java/util/HashMap$KeySet"
def TJ24 : u_T := fun k => match k with
  | _ => ("java/util/HashMap$KeySet", "this$0", "Ljava/util/HashMap;", true)
def tyJ24 : Nat → FieldType := fun k => match k with
  | _ => .object "java/util/HashMap"
abbrev wsJ240 : List Cond := u_ws RJ24 TJ24 1
theorem nmJ24 : ∀ a, a < 1 → ∀ b, b < 1 → a ≠ b → (TJ24 a).2.1 ≠ (TJ24 b).2.1 := by decide +kernel
theorem tyJ24_ok : ∀ k, k < 1 → parseFieldDescriptor (TJ24 k).2.2.1 = some (tyJ24 k) := by decide +kernel
abbrev cJ24_iterator : ByteArray := prog_61_method_4_code
def yJ24_iterator : MethodName := ⟨RJ24, "iterator", "()Ljava/util/Iterator;"⟩
def dkwJ24_iterator_0 : List UInt8 := [187, 0, 22, 89, 42, 180, 0, 1, 183, 0, 24, 176]
abbrev dktJ24_iterator_0 : List UInt8 := dkwJ24_iterator_0 ++ []
theorem dksJ24_iterator_0 : cJ24_iterator.data.toList.drop 0 = dktJ24_iterator_0 := by decide +kernel
theorem dJ24_iterator_0 : decode cJ24_iterator 0 = .ok (.new 22, 3) := dk_187 0 22 (dk_at dksJ24_iterator_0 0 rfl rfl)
theorem dJ24_iterator_3 : decode cJ24_iterator 3 = .ok (.dup, 1) := dk_89 (dk_at dksJ24_iterator_0 3 rfl rfl)
theorem dJ24_iterator_4 : decode cJ24_iterator 4 = .ok (.aload_n 0, 1) := dk_42 (dk_at dksJ24_iterator_0 4 rfl rfl)
theorem dJ24_iterator_5 : decode cJ24_iterator 5 = .ok (.getfield 1, 3) := dk_180 0 1 (dk_at dksJ24_iterator_0 5 rfl rfl)
theorem dJ24_iterator_8 : decode cJ24_iterator 8 = .ok (.invokespecial 24, 3) := dk_183 0 24 (dk_at dksJ24_iterator_0 8 rfl rfl)
theorem dJ24_iterator_11 : decode cJ24_iterator 11 = .ok (.areturn, 1) := dk_176 (dk_at dksJ24_iterator_0 11 rfl rfl)
abbrev cJ24_init : ByteArray := prog_61_method_1_code
def yJ24_init : MethodName := ⟨RJ24, "<init>", "(Ljava/util/HashMap;)V"⟩
def dkwJ24_init_0 : List UInt8 := [42, 43, 181, 0, 1, 42, 183, 0, 7, 177]
abbrev dktJ24_init_0 : List UInt8 := dkwJ24_init_0 ++ []
theorem dksJ24_init_0 : cJ24_init.data.toList.drop 0 = dktJ24_init_0 := by decide +kernel
theorem dJ24_init_0 : decode cJ24_init 0 = .ok (.aload_n 0, 1) := dk_42 (dk_at dksJ24_init_0 0 rfl rfl)
theorem dJ24_init_1 : decode cJ24_init 1 = .ok (.aload_n 1, 1) := dk_43 (dk_at dksJ24_init_0 1 rfl rfl)
theorem dJ24_init_2 : decode cJ24_init 2 = .ok (.putfield 1, 3) := dk_181 0 1 (dk_at dksJ24_init_0 2 rfl rfl)
theorem dJ24_init_5 : decode cJ24_init 5 = .ok (.aload_n 0, 1) := dk_42 (dk_at dksJ24_init_0 5 rfl rfl)
theorem dJ24_init_6 : decode cJ24_init 6 = .ok (.invokespecial 7, 3) := dk_183 0 7 (dk_at dksJ24_init_0 6 rfl rfl)
theorem dJ24_init_9 : decode cJ24_init 9 = .ok (.return_, 1) := dk_177 (dk_at dksJ24_init_0 9 rfl rfl)
theorem q136 : (Jvm.Cond.initialized "java/util/HashMap$KeySet") ∈ lw_all := lw_g (lw_at lw_m1 30 rfl) rfl
theorem q630 : (Jvm.Cond.selects "java/util/HashMap$KeySet" ({ cls := "java/lang/Object", name := "getClass", desc := "()Ljava/lang/Class;" } : Jvm.MethodName) ({ cls := "java/lang/Object", name := "getClass", desc := "()Ljava/lang/Class;" } : Jvm.MethodName)) ∈ lw_all := lw_g (lw_at lw_m3 44 rfl) rfl
theorem q801 : (Jvm.Cond.castable "java/util/HashMap$KeySet" "java/util/Set") ∈ lw_tbl := lw_at lw_m3 215 rfl
theorem q802 : (Jvm.Cond.selects "java/util/HashMap$KeySet" ({ cls := "java/util/Set", name := "iterator", desc := "()Ljava/util/Iterator;" } : Jvm.MethodName) ({ cls := "java/util/HashMap$KeySet", name := "iterator", desc := "()Ljava/util/Iterator;" } : Jvm.MethodName)) ∈ lw_all := lw_g (lw_at lw_m3 216 rfl) rfl
theorem q803 : (Jvm.Cond.unhidden "java/util/HashMap$KeySet" "iterator" "()Ljava/util/Iterator;") ∈ lw_tbl := lw_at lw_m3 217 rfl
theorem q804 : (Jvm.Cond.instanceMethod ({ cls := "java/util/HashMap$KeySet", name := "iterator", desc := "()Ljava/util/Iterator;" } : Jvm.MethodName)) ∈ lw_all := lw_g (lw_at lw_m3 218 rfl) rfl
theorem q805 : (Jvm.Cond.publicMethod ({ cls := "java/util/HashMap$KeySet", name := "iterator", desc := "()Ljava/util/Iterator;" } : Jvm.MethodName)) ∈ lw_tbl := lw_at lw_m3 219 rfl
theorem q806 : (Jvm.Cond.code ({ cls := "java/util/HashMap$KeySet", name := "iterator", desc := "()Ljava/util/Iterator;" } : Jvm.MethodName) prog_61_method_4_code (1 : Nat) (Option.some (Jvm.ClassFile.FieldType.object "java/util/Iterator"))) ∈ lw_all := lw_g (lw_at lw_m3 220 rfl) rfl
theorem q807 : (Jvm.Cond.classLink "java/util/HashMap$KeySet" (22 : Nat) "java/util/HashMap$KeyIterator") ∈ lw_all := lw_g (lw_at lw_m3 221 rfl) rfl
theorem q809 : (Jvm.Cond.methodLink "java/util/HashMap$KeySet" (24 : Nat) ({ cls := "java/util/HashMap$KeyIterator", name := "<init>", desc := "(Ljava/util/HashMap;)V" } : Jvm.MethodName)) ∈ lw_all := lw_g (lw_at lw_m3 223 rfl) rfl
theorem q845 : (Jvm.Cond.instantiable "java/util/HashMap$KeySet" (1 : Nat)) ∈ lw_all := lw_g (lw_at lw_m4 19 rfl) rfl
theorem q847 : (Jvm.Cond.instanceMethod ({ cls := "java/util/HashMap$KeySet", name := "<init>", desc := "(Ljava/util/HashMap;)V" } : Jvm.MethodName)) ∈ lw_all := lw_g (lw_at lw_m4 21 rfl) rfl
theorem q848 : (Jvm.Cond.code ({ cls := "java/util/HashMap$KeySet", name := "<init>", desc := "(Ljava/util/HashMap;)V" } : Jvm.MethodName) prog_61_method_1_code (2 : Nat) (Option.none : Option Jvm.ClassFile.FieldType)) ∈ lw_all := lw_g (lw_at lw_m4 22 rfl) rfl
theorem q849 : (Jvm.Cond.methodLink "java/util/HashMap$KeySet" (7 : Nat) ({ cls := "java/util/AbstractSet", name := "<init>", desc := "()V" } : Jvm.MethodName)) ∈ lw_all := lw_g (lw_at lw_m4 23 rfl) rfl
theorem q850 : (Jvm.Cond.fieldLink "java/util/HashMap$KeySet" (1 : Nat) "java/util/HashMap$KeySet" "this$0" "Ljava/util/HashMap;") ∈ lw_all := lw_g (lw_at lw_m4 24 rfl) rfl
theorem q851 : (Jvm.Cond.laysFinal "java/util/HashMap$KeySet" "java/util/HashMap$KeySet" "this$0" "Ljava/util/HashMap;") ∈ lw_all := lw_g (lw_at lw_m4 25 rfl) rfl
theorem q852 : (Jvm.Cond.soleField "java/util/HashMap$KeySet" "this$0") ∈ lw_all := lw_g (lw_at lw_m4 26 rfl) rfl
theorem q853 : (Jvm.Cond.superclass "java/util/HashMap$KeySet" "java/util/AbstractSet") ∈ lw_all := lw_g (lw_at lw_m4 27 rfl) rfl
theorem q3594 : (Jvm.Cond.castable "java/util/HashMap$KeySet" "java/lang/Object") ∈ lw_tbl := lw_at lw_m15 128 rfl
theorem in_J24 : ∀ w ∈ wsJ240, w ∈ lw_all := lw_in wsJ240 [851] (by decide +kernel) (by decide +kernel)
/-! java/util/LinkedHashMap$LinkedHashIterator -/
set_option maxRecDepth 100000
def RJ25 : String := "java/util/LinkedHashMap$LinkedHashIterator"
abbrev cJ25_hasNext : ByteArray := prog_68_method_2_code
def yJ25_hasNext : MethodName := ⟨RJ25, "hasNext", "()Z"⟩
def dkwJ25_hasNext_0 : List UInt8 := [42, 180, 0, 26, 198, 0, 7, 4, 167, 0, 4, 3, 172]
abbrev dktJ25_hasNext_0 : List UInt8 := dkwJ25_hasNext_0 ++ []
theorem dksJ25_hasNext_0 : cJ25_hasNext.data.toList.drop 0 = dktJ25_hasNext_0 := by decide +kernel
theorem dJ25_hasNext_0 : decode cJ25_hasNext 0 = .ok (.aload_n 0, 1) := dk_42 (dk_at dksJ25_hasNext_0 0 rfl rfl)
theorem dJ25_hasNext_1 : decode cJ25_hasNext 1 = .ok (.getfield 26, 3) := dk_180 0 26 (dk_at dksJ25_hasNext_0 1 rfl rfl)
theorem dJ25_hasNext_4 : decode cJ25_hasNext 4 = .ok (.ifnull 7, 3) := dk_198 0 7 (dk_at dksJ25_hasNext_0 4 rfl rfl)
theorem dJ25_hasNext_7 : decode cJ25_hasNext 7 = .ok (.iconst 1, 1) := dk_4 (dk_at dksJ25_hasNext_0 7 rfl rfl)
theorem dJ25_hasNext_8 : decode cJ25_hasNext 8 = .ok (.goto 4, 3) := dk_167 0 4 (dk_at dksJ25_hasNext_0 8 rfl rfl)
theorem dJ25_hasNext_11 : decode cJ25_hasNext 11 = .ok (.iconst 0, 1) := dk_3 (dk_at dksJ25_hasNext_0 11 rfl rfl)
theorem dJ25_hasNext_12 : decode cJ25_hasNext 12 = .ok (.ireturn, 1) := dk_172 (dk_at dksJ25_hasNext_0 12 rfl rfl)
abbrev cJ25_nextNode : ByteArray := prog_68_method_3_code
def yJ25_nextNode : MethodName := ⟨RJ25, "nextNode", "()Ljava/util/LinkedHashMap$Entry;"⟩
def dkwJ25_nextNode_2 : List UInt8 := [180, 0, 13, 153, 0, 10, 43, 180, 0, 45, 167, 0, 7, 43, 180, 0, 50, 181, 0, 26, 43, 176]
abbrev dktJ25_nextNode_2 : List UInt8 := dkwJ25_nextNode_2 ++ []
def dkwJ25_nextNode_1 : List UInt8 := [183, 0, 41, 191, 43, 199, 0, 11, 187, 0, 42, 89, 183, 0, 44, 191, 42, 43, 181, 0, 36, 42, 42]
abbrev dktJ25_nextNode_1 : List UInt8 := dkwJ25_nextNode_1 ++ dktJ25_nextNode_2
def dkwJ25_nextNode_0 : List UInt8 := [42, 180, 0, 26, 76, 42, 180, 0, 1, 180, 0, 29, 42, 180, 0, 33, 159, 0, 11, 187, 0, 39, 89]
abbrev dktJ25_nextNode_0 : List UInt8 := dkwJ25_nextNode_0 ++ dktJ25_nextNode_1
theorem dksJ25_nextNode_0 : cJ25_nextNode.data.toList.drop 0 = dktJ25_nextNode_0 := by decide +kernel
theorem dksJ25_nextNode_1 : cJ25_nextNode.data.toList.drop 23 = dktJ25_nextNode_1 := dk_seg dksJ25_nextNode_0 23 rfl rfl
theorem dksJ25_nextNode_2 : cJ25_nextNode.data.toList.drop 46 = dktJ25_nextNode_2 := dk_seg dksJ25_nextNode_1 23 rfl rfl
theorem dJ25_nextNode_0 : decode cJ25_nextNode 0 = .ok (.aload_n 0, 1) := dk_42 (dk_at dksJ25_nextNode_0 0 rfl rfl)
theorem dJ25_nextNode_1 : decode cJ25_nextNode 1 = .ok (.getfield 26, 3) := dk_180 0 26 (dk_at dksJ25_nextNode_0 1 rfl rfl)
theorem dJ25_nextNode_4 : decode cJ25_nextNode 4 = .ok (.astore_n 1, 1) := dk_76 (dk_at dksJ25_nextNode_0 4 rfl rfl)
theorem dJ25_nextNode_5 : decode cJ25_nextNode 5 = .ok (.aload_n 0, 1) := dk_42 (dk_at dksJ25_nextNode_0 5 rfl rfl)
theorem dJ25_nextNode_6 : decode cJ25_nextNode 6 = .ok (.getfield 1, 3) := dk_180 0 1 (dk_at dksJ25_nextNode_0 6 rfl rfl)
theorem dJ25_nextNode_9 : decode cJ25_nextNode 9 = .ok (.getfield 29, 3) := dk_180 0 29 (dk_at dksJ25_nextNode_0 9 rfl rfl)
theorem dJ25_nextNode_12 : decode cJ25_nextNode 12 = .ok (.aload_n 0, 1) := dk_42 (dk_at dksJ25_nextNode_0 12 rfl rfl)
theorem dJ25_nextNode_13 : decode cJ25_nextNode 13 = .ok (.getfield 33, 3) := dk_180 0 33 (dk_at dksJ25_nextNode_0 13 rfl rfl)
theorem dJ25_nextNode_16 : decode cJ25_nextNode 16 = .ok (.if_icmp .eq 11, 3) := dk_159 0 11 (dk_at dksJ25_nextNode_0 16 rfl rfl)
theorem dJ25_nextNode_19 : decode cJ25_nextNode 19 = .ok (.new 39, 3) := dk_187 0 39 (dk_at dksJ25_nextNode_0 19 rfl rfl)
theorem dJ25_nextNode_22 : decode cJ25_nextNode 22 = .ok (.dup, 1) := dk_89 (dk_at dksJ25_nextNode_0 22 rfl rfl)
theorem dJ25_nextNode_23 : decode cJ25_nextNode 23 = .ok (.invokespecial 41, 3) := dk_183 0 41 (dk_at dksJ25_nextNode_1 0 rfl rfl)
theorem dJ25_nextNode_26 : decode cJ25_nextNode 26 = .ok (.athrow, 1) := dk_191 (dk_at dksJ25_nextNode_1 3 rfl rfl)
theorem dJ25_nextNode_27 : decode cJ25_nextNode 27 = .ok (.aload_n 1, 1) := dk_43 (dk_at dksJ25_nextNode_1 4 rfl rfl)
theorem dJ25_nextNode_28 : decode cJ25_nextNode 28 = .ok (.ifnonnull 11, 3) := dk_199 0 11 (dk_at dksJ25_nextNode_1 5 rfl rfl)
theorem dJ25_nextNode_31 : decode cJ25_nextNode 31 = .ok (.new 42, 3) := dk_187 0 42 (dk_at dksJ25_nextNode_1 8 rfl rfl)
theorem dJ25_nextNode_34 : decode cJ25_nextNode 34 = .ok (.dup, 1) := dk_89 (dk_at dksJ25_nextNode_1 11 rfl rfl)
theorem dJ25_nextNode_35 : decode cJ25_nextNode 35 = .ok (.invokespecial 44, 3) := dk_183 0 44 (dk_at dksJ25_nextNode_1 12 rfl rfl)
theorem dJ25_nextNode_38 : decode cJ25_nextNode 38 = .ok (.athrow, 1) := dk_191 (dk_at dksJ25_nextNode_1 15 rfl rfl)
theorem dJ25_nextNode_39 : decode cJ25_nextNode 39 = .ok (.aload_n 0, 1) := dk_42 (dk_at dksJ25_nextNode_1 16 rfl rfl)
theorem dJ25_nextNode_40 : decode cJ25_nextNode 40 = .ok (.aload_n 1, 1) := dk_43 (dk_at dksJ25_nextNode_1 17 rfl rfl)
theorem dJ25_nextNode_41 : decode cJ25_nextNode 41 = .ok (.putfield 36, 3) := dk_181 0 36 (dk_at dksJ25_nextNode_1 18 rfl rfl)
theorem dJ25_nextNode_44 : decode cJ25_nextNode 44 = .ok (.aload_n 0, 1) := dk_42 (dk_at dksJ25_nextNode_1 21 rfl rfl)
theorem dJ25_nextNode_45 : decode cJ25_nextNode 45 = .ok (.aload_n 0, 1) := dk_42 (dk_at dksJ25_nextNode_1 22 rfl rfl)
theorem dJ25_nextNode_46 : decode cJ25_nextNode 46 = .ok (.getfield 13, 3) := dk_180 0 13 (dk_at dksJ25_nextNode_2 0 rfl rfl)
theorem dJ25_nextNode_49 : decode cJ25_nextNode 49 = .ok (.ifCond .eq 10, 3) := dk_153 0 10 (dk_at dksJ25_nextNode_2 3 rfl rfl)
theorem dJ25_nextNode_52 : decode cJ25_nextNode 52 = .ok (.aload_n 1, 1) := dk_43 (dk_at dksJ25_nextNode_2 6 rfl rfl)
theorem dJ25_nextNode_53 : decode cJ25_nextNode 53 = .ok (.getfield 45, 3) := dk_180 0 45 (dk_at dksJ25_nextNode_2 7 rfl rfl)
theorem dJ25_nextNode_56 : decode cJ25_nextNode 56 = .ok (.goto 7, 3) := dk_167 0 7 (dk_at dksJ25_nextNode_2 10 rfl rfl)
theorem dJ25_nextNode_59 : decode cJ25_nextNode 59 = .ok (.aload_n 1, 1) := dk_43 (dk_at dksJ25_nextNode_2 13 rfl rfl)
theorem dJ25_nextNode_60 : decode cJ25_nextNode 60 = .ok (.getfield 50, 3) := dk_180 0 50 (dk_at dksJ25_nextNode_2 14 rfl rfl)
theorem dJ25_nextNode_63 : decode cJ25_nextNode 63 = .ok (.putfield 26, 3) := dk_181 0 26 (dk_at dksJ25_nextNode_2 17 rfl rfl)
theorem dJ25_nextNode_66 : decode cJ25_nextNode 66 = .ok (.aload_n 1, 1) := dk_43 (dk_at dksJ25_nextNode_2 20 rfl rfl)
theorem dJ25_nextNode_67 : decode cJ25_nextNode 67 = .ok (.areturn, 1) := dk_176 (dk_at dksJ25_nextNode_2 21 rfl rfl)
abbrev cJ25_init : ByteArray := prog_68_method_1_code
def yJ25_init : MethodName := ⟨RJ25, "<init>", "(Ljava/util/LinkedHashMap;Z)V"⟩
def dkwJ25_init_1 : List UInt8 := [167, 0, 7, 43, 180, 0, 23, 181, 0, 26, 42, 43, 180, 0, 29, 181, 0, 33, 42, 1, 181, 0, 36, 177]
abbrev dktJ25_init_1 : List UInt8 := dkwJ25_init_1 ++ []
def dkwJ25_init_0 : List UInt8 := [42, 43, 181, 0, 1, 42, 183, 0, 7, 42, 28, 181, 0, 13, 42, 28, 153, 0, 10, 43, 180, 0, 17]
abbrev dktJ25_init_0 : List UInt8 := dkwJ25_init_0 ++ dktJ25_init_1
theorem dksJ25_init_0 : cJ25_init.data.toList.drop 0 = dktJ25_init_0 := by decide +kernel
theorem dksJ25_init_1 : cJ25_init.data.toList.drop 23 = dktJ25_init_1 := dk_seg dksJ25_init_0 23 rfl rfl
theorem dJ25_init_0 : decode cJ25_init 0 = .ok (.aload_n 0, 1) := dk_42 (dk_at dksJ25_init_0 0 rfl rfl)
theorem dJ25_init_1 : decode cJ25_init 1 = .ok (.aload_n 1, 1) := dk_43 (dk_at dksJ25_init_0 1 rfl rfl)
theorem dJ25_init_2 : decode cJ25_init 2 = .ok (.putfield 1, 3) := dk_181 0 1 (dk_at dksJ25_init_0 2 rfl rfl)
theorem dJ25_init_5 : decode cJ25_init 5 = .ok (.aload_n 0, 1) := dk_42 (dk_at dksJ25_init_0 5 rfl rfl)
theorem dJ25_init_6 : decode cJ25_init 6 = .ok (.invokespecial 7, 3) := dk_183 0 7 (dk_at dksJ25_init_0 6 rfl rfl)
theorem dJ25_init_9 : decode cJ25_init 9 = .ok (.aload_n 0, 1) := dk_42 (dk_at dksJ25_init_0 9 rfl rfl)
theorem dJ25_init_10 : decode cJ25_init 10 = .ok (.iload_n 2, 1) := dk_28 (dk_at dksJ25_init_0 10 rfl rfl)
theorem dJ25_init_11 : decode cJ25_init 11 = .ok (.putfield 13, 3) := dk_181 0 13 (dk_at dksJ25_init_0 11 rfl rfl)
theorem dJ25_init_14 : decode cJ25_init 14 = .ok (.aload_n 0, 1) := dk_42 (dk_at dksJ25_init_0 14 rfl rfl)
theorem dJ25_init_15 : decode cJ25_init 15 = .ok (.iload_n 2, 1) := dk_28 (dk_at dksJ25_init_0 15 rfl rfl)
theorem dJ25_init_16 : decode cJ25_init 16 = .ok (.ifCond .eq 10, 3) := dk_153 0 10 (dk_at dksJ25_init_0 16 rfl rfl)
theorem dJ25_init_19 : decode cJ25_init 19 = .ok (.aload_n 1, 1) := dk_43 (dk_at dksJ25_init_0 19 rfl rfl)
theorem dJ25_init_20 : decode cJ25_init 20 = .ok (.getfield 17, 3) := dk_180 0 17 (dk_at dksJ25_init_0 20 rfl rfl)
theorem dJ25_init_23 : decode cJ25_init 23 = .ok (.goto 7, 3) := dk_167 0 7 (dk_at dksJ25_init_1 0 rfl rfl)
theorem dJ25_init_26 : decode cJ25_init 26 = .ok (.aload_n 1, 1) := dk_43 (dk_at dksJ25_init_1 3 rfl rfl)
theorem dJ25_init_27 : decode cJ25_init 27 = .ok (.getfield 23, 3) := dk_180 0 23 (dk_at dksJ25_init_1 4 rfl rfl)
theorem dJ25_init_30 : decode cJ25_init 30 = .ok (.putfield 26, 3) := dk_181 0 26 (dk_at dksJ25_init_1 7 rfl rfl)
theorem dJ25_init_33 : decode cJ25_init 33 = .ok (.aload_n 0, 1) := dk_42 (dk_at dksJ25_init_1 10 rfl rfl)
theorem dJ25_init_34 : decode cJ25_init 34 = .ok (.aload_n 1, 1) := dk_43 (dk_at dksJ25_init_1 11 rfl rfl)
theorem dJ25_init_35 : decode cJ25_init 35 = .ok (.getfield 29, 3) := dk_180 0 29 (dk_at dksJ25_init_1 12 rfl rfl)
theorem dJ25_init_38 : decode cJ25_init 38 = .ok (.putfield 33, 3) := dk_181 0 33 (dk_at dksJ25_init_1 15 rfl rfl)
theorem dJ25_init_41 : decode cJ25_init 41 = .ok (.aload_n 0, 1) := dk_42 (dk_at dksJ25_init_1 18 rfl rfl)
theorem dJ25_init_42 : decode cJ25_init 42 = .ok (.aconst_null, 1) := dk_1 (dk_at dksJ25_init_1 19 rfl rfl)
theorem dJ25_init_43 : decode cJ25_init 43 = .ok (.putfield 36, 3) := dk_181 0 36 (dk_at dksJ25_init_1 20 rfl rfl)
theorem dJ25_init_46 : decode cJ25_init 46 = .ok (.return_, 1) := dk_177 (dk_at dksJ25_init_1 23 rfl rfl)
theorem q137 : (Jvm.Cond.initialized "java/util/LinkedHashMap$LinkedHashIterator") ∈ lw_all := lw_g (lw_at lw_m1 31 rfl) rfl
theorem q230 : (Jvm.Cond.fieldLink "java/util/LinkedHashMap$LinkedHashIterator" (29 : Nat) "java/util/LinkedHashMap" "modCount" "I") ∈ lw_all := lw_g (lw_at lw_m1 124 rfl) rfl
theorem q334 : (Jvm.Cond.fieldLink "java/util/LinkedHashMap$LinkedHashIterator" (23 : Nat) "java/util/LinkedHashMap" "head" "Ljava/util/LinkedHashMap$Entry;") ∈ lw_all := lw_g (lw_at lw_m1 228 rfl) rfl
theorem q335 : (Jvm.Cond.fieldLink "java/util/LinkedHashMap$LinkedHashIterator" (17 : Nat) "java/util/LinkedHashMap" "tail" "Ljava/util/LinkedHashMap$Entry;") ∈ lw_all := lw_g (lw_at lw_m1 229 rfl) rfl
theorem q456 : (Jvm.Cond.instanceMethod ({ cls := "java/util/LinkedHashMap$LinkedHashIterator", name := "hasNext", desc := "()Z" } : Jvm.MethodName)) ∈ lw_all := lw_g (lw_at lw_m2 110 rfl) rfl
theorem q457 : (Jvm.Cond.publicMethod ({ cls := "java/util/LinkedHashMap$LinkedHashIterator", name := "hasNext", desc := "()Z" } : Jvm.MethodName)) ∈ lw_tbl := lw_at lw_m2 111 rfl
theorem q458 : (Jvm.Cond.code ({ cls := "java/util/LinkedHashMap$LinkedHashIterator", name := "hasNext", desc := "()Z" } : Jvm.MethodName) prog_68_method_2_code (1 : Nat) (Option.some Jvm.ClassFile.FieldType.boolean)) ∈ lw_all := lw_g (lw_at lw_m2 112 rfl) rfl
theorem q555 : (Jvm.Cond.declares ({ cls := "java/util/LinkedHashMap$LinkedHashIterator", name := "nextNode", desc := "()Ljava/util/LinkedHashMap$Entry;" } : Jvm.MethodName)) ∈ lw_tbl := lw_at lw_m2 209 rfl
theorem q557 : (Jvm.Cond.instanceMethod ({ cls := "java/util/LinkedHashMap$LinkedHashIterator", name := "nextNode", desc := "()Ljava/util/LinkedHashMap$Entry;" } : Jvm.MethodName)) ∈ lw_all := lw_g (lw_at lw_m2 211 rfl) rfl
theorem q558 : (Jvm.Cond.code ({ cls := "java/util/LinkedHashMap$LinkedHashIterator", name := "nextNode", desc := "()Ljava/util/LinkedHashMap$Entry;" } : Jvm.MethodName) prog_68_method_3_code (2 : Nat) (Option.some (Jvm.ClassFile.FieldType.object "java/util/LinkedHashMap$Entry"))) ∈ lw_all := lw_g (lw_at lw_m2 212 rfl) rfl
theorem q559 : (Jvm.Cond.classLink "java/util/LinkedHashMap$LinkedHashIterator" (42 : Nat) "java/util/NoSuchElementException") ∈ lw_all := lw_g (lw_at lw_m2 213 rfl) rfl
theorem q560 : (Jvm.Cond.methodLink "java/util/LinkedHashMap$LinkedHashIterator" (44 : Nat) ({ cls := "java/util/NoSuchElementException", name := "<init>", desc := "()V" } : Jvm.MethodName)) ∈ lw_all := lw_g (lw_at lw_m2 214 rfl) rfl
theorem q868 : (Jvm.Cond.instanceMethod ({ cls := "java/util/LinkedHashMap$LinkedHashIterator", name := "<init>", desc := "(Ljava/util/LinkedHashMap;Z)V" } : Jvm.MethodName)) ∈ lw_all := lw_g (lw_at lw_m4 42 rfl) rfl
theorem q869 : (Jvm.Cond.code ({ cls := "java/util/LinkedHashMap$LinkedHashIterator", name := "<init>", desc := "(Ljava/util/LinkedHashMap;Z)V" } : Jvm.MethodName) prog_68_method_1_code (3 : Nat) (Option.none : Option Jvm.ClassFile.FieldType)) ∈ lw_all := lw_g (lw_at lw_m4 43 rfl) rfl
theorem q870 : (Jvm.Cond.methodLink "java/util/LinkedHashMap$LinkedHashIterator" (7 : Nat) ({ cls := "java/lang/Object", name := "<init>", desc := "()V" } : Jvm.MethodName)) ∈ lw_all := lw_g (lw_at lw_m4 44 rfl) rfl
theorem q871 : (Jvm.Cond.fieldLink "java/util/LinkedHashMap$LinkedHashIterator" (26 : Nat) "java/util/LinkedHashMap$LinkedHashIterator" "next" "Ljava/util/LinkedHashMap$Entry;") ∈ lw_all := lw_g (lw_at lw_m4 45 rfl) rfl
theorem q872 : (Jvm.Cond.fieldLink "java/util/LinkedHashMap$LinkedHashIterator" (36 : Nat) "java/util/LinkedHashMap$LinkedHashIterator" "current" "Ljava/util/LinkedHashMap$Entry;") ∈ lw_all := lw_g (lw_at lw_m4 46 rfl) rfl
theorem q873 : (Jvm.Cond.fieldLink "java/util/LinkedHashMap$LinkedHashIterator" (33 : Nat) "java/util/LinkedHashMap$LinkedHashIterator" "expectedModCount" "I") ∈ lw_all := lw_g (lw_at lw_m4 47 rfl) rfl
theorem q874 : (Jvm.Cond.fieldLink "java/util/LinkedHashMap$LinkedHashIterator" (13 : Nat) "java/util/LinkedHashMap$LinkedHashIterator" "reversed" "Z") ∈ lw_all := lw_g (lw_at lw_m4 48 rfl) rfl
theorem q875 : (Jvm.Cond.fieldLink "java/util/LinkedHashMap$LinkedHashIterator" (1 : Nat) "java/util/LinkedHashMap$LinkedHashIterator" "this$0" "Ljava/util/LinkedHashMap;") ∈ lw_all := lw_g (lw_at lw_m4 49 rfl) rfl
theorem q877 : (Jvm.Cond.soleField "java/util/LinkedHashMap$LinkedHashIterator" "next") ∈ lw_all := lw_g (lw_at lw_m4 51 rfl) rfl
theorem q879 : (Jvm.Cond.soleField "java/util/LinkedHashMap$LinkedHashIterator" "current") ∈ lw_all := lw_g (lw_at lw_m4 53 rfl) rfl
theorem q881 : (Jvm.Cond.soleField "java/util/LinkedHashMap$LinkedHashIterator" "expectedModCount") ∈ lw_all := lw_g (lw_at lw_m4 55 rfl) rfl
theorem q883 : (Jvm.Cond.soleField "java/util/LinkedHashMap$LinkedHashIterator" "reversed") ∈ lw_all := lw_g (lw_at lw_m4 57 rfl) rfl
theorem q885 : (Jvm.Cond.soleField "java/util/LinkedHashMap$LinkedHashIterator" "this$0") ∈ lw_all := lw_g (lw_at lw_m4 59 rfl) rfl
theorem q1902 : (Jvm.Cond.fieldLink "java/util/LinkedHashMap$LinkedHashIterator" (45 : Nat) "java/util/LinkedHashMap$Entry" "before" "Ljava/util/LinkedHashMap$Entry;") ∈ lw_all := lw_g (lw_at lw_m8 116 rfl) rfl
theorem q1904 : (Jvm.Cond.fieldLink "java/util/LinkedHashMap$LinkedHashIterator" (50 : Nat) "java/util/LinkedHashMap$Entry" "after" "Ljava/util/LinkedHashMap$Entry;") ∈ lw_all := lw_g (lw_at lw_m8 118 rfl) rfl
/-! java/util/LinkedHashMap$LinkedKeyIterator -/
set_option maxRecDepth 100000
def RJ26 : String := "java/util/LinkedHashMap$LinkedKeyIterator"
def TJ26 : u_T := fun k => match k with
  | 0 => ("java/util/LinkedHashMap$LinkedHashIterator", "next", "Ljava/util/LinkedHashMap$Entry;", false)
  | 1 => ("java/util/LinkedHashMap$LinkedHashIterator", "current", "Ljava/util/LinkedHashMap$Entry;", false)
  | 2 => ("java/util/LinkedHashMap$LinkedHashIterator", "expectedModCount", "I", false)
  | 3 => ("java/util/LinkedHashMap$LinkedHashIterator", "reversed", "Z", false)
  | _ => ("java/util/LinkedHashMap$LinkedHashIterator", "this$0", "Ljava/util/LinkedHashMap;", true)
def tyJ26 : Nat → FieldType := fun k => match k with
  | 0 => .object "java/util/LinkedHashMap$Entry"
  | 1 => .object "java/util/LinkedHashMap$Entry"
  | 2 => .int
  | 3 => .boolean
  | _ => .object "java/util/LinkedHashMap"
abbrev wsJ260 : List Cond := u_ws RJ26 TJ26 5
theorem nmJ26 : ∀ a, a < 5 → ∀ b, b < 5 → a ≠ b → (TJ26 a).2.1 ≠ (TJ26 b).2.1 := by decide +kernel
theorem tyJ26_ok : ∀ k, k < 5 → parseFieldDescriptor (TJ26 k).2.2.1 = some (tyJ26 k) := by decide +kernel
abbrev cJ26_next : ByteArray := prog_69_method_2_code
def yJ26_next : MethodName := ⟨RJ26, "next", "()Ljava/lang/Object;"⟩
def dkwJ26_next_0 : List UInt8 := [42, 182, 0, 7, 182, 0, 13, 176]
abbrev dktJ26_next_0 : List UInt8 := dkwJ26_next_0 ++ []
theorem dksJ26_next_0 : cJ26_next.data.toList.drop 0 = dktJ26_next_0 := by decide +kernel
theorem dJ26_next_0 : decode cJ26_next 0 = .ok (.aload_n 0, 1) := dk_42 (dk_at dksJ26_next_0 0 rfl rfl)
theorem dJ26_next_1 : decode cJ26_next 1 = .ok (.invokevirtual 7, 3) := dk_182 0 7 (dk_at dksJ26_next_0 1 rfl rfl)
theorem dJ26_next_4 : decode cJ26_next 4 = .ok (.invokevirtual 13, 3) := dk_182 0 13 (dk_at dksJ26_next_0 4 rfl rfl)
theorem dJ26_next_7 : decode cJ26_next 7 = .ok (.areturn, 1) := dk_176 (dk_at dksJ26_next_0 7 rfl rfl)
abbrev cJ26_init : ByteArray := prog_69_method_1_code
def yJ26_init : MethodName := ⟨RJ26, "<init>", "(Ljava/util/LinkedHashMap;Z)V"⟩
def dkwJ26_init_0 : List UInt8 := [42, 43, 28, 183, 0, 1, 177]
abbrev dktJ26_init_0 : List UInt8 := dkwJ26_init_0 ++ []
theorem dksJ26_init_0 : cJ26_init.data.toList.drop 0 = dktJ26_init_0 := by decide +kernel
theorem dJ26_init_0 : decode cJ26_init 0 = .ok (.aload_n 0, 1) := dk_42 (dk_at dksJ26_init_0 0 rfl rfl)
theorem dJ26_init_1 : decode cJ26_init 1 = .ok (.aload_n 1, 1) := dk_43 (dk_at dksJ26_init_0 1 rfl rfl)
theorem dJ26_init_2 : decode cJ26_init 2 = .ok (.iload_n 2, 1) := dk_28 (dk_at dksJ26_init_0 2 rfl rfl)
theorem dJ26_init_3 : decode cJ26_init 3 = .ok (.invokespecial 1, 3) := dk_183 0 1 (dk_at dksJ26_init_0 3 rfl rfl)
theorem dJ26_init_6 : decode cJ26_init 6 = .ok (.return_, 1) := dk_177 (dk_at dksJ26_init_0 6 rfl rfl)
theorem q138 : (Jvm.Cond.initialized "java/util/LinkedHashMap$LinkedKeyIterator") ∈ lw_all := lw_g (lw_at lw_m1 32 rfl) rfl
theorem q453 : (Jvm.Cond.castable "java/util/LinkedHashMap$LinkedKeyIterator" "java/util/Iterator") ∈ lw_tbl := lw_at lw_m2 107 rfl
theorem q454 : (Jvm.Cond.selects "java/util/LinkedHashMap$LinkedKeyIterator" ({ cls := "java/util/Iterator", name := "hasNext", desc := "()Z" } : Jvm.MethodName) ({ cls := "java/util/LinkedHashMap$LinkedHashIterator", name := "hasNext", desc := "()Z" } : Jvm.MethodName)) ∈ lw_all := lw_g (lw_at lw_m2 108 rfl) rfl
theorem q455 : (Jvm.Cond.unhidden "java/util/LinkedHashMap$LinkedKeyIterator" "hasNext" "()Z") ∈ lw_tbl := lw_at lw_m2 109 rfl
theorem q548 : (Jvm.Cond.selects "java/util/LinkedHashMap$LinkedKeyIterator" ({ cls := "java/util/Iterator", name := "next", desc := "()Ljava/lang/Object;" } : Jvm.MethodName) ({ cls := "java/util/LinkedHashMap$LinkedKeyIterator", name := "next", desc := "()Ljava/lang/Object;" } : Jvm.MethodName)) ∈ lw_all := lw_g (lw_at lw_m2 202 rfl) rfl
theorem q549 : (Jvm.Cond.unhidden "java/util/LinkedHashMap$LinkedKeyIterator" "next" "()Ljava/lang/Object;") ∈ lw_tbl := lw_at lw_m2 203 rfl
theorem q550 : (Jvm.Cond.instanceMethod ({ cls := "java/util/LinkedHashMap$LinkedKeyIterator", name := "next", desc := "()Ljava/lang/Object;" } : Jvm.MethodName)) ∈ lw_all := lw_g (lw_at lw_m2 204 rfl) rfl
theorem q551 : (Jvm.Cond.publicMethod ({ cls := "java/util/LinkedHashMap$LinkedKeyIterator", name := "next", desc := "()Ljava/lang/Object;" } : Jvm.MethodName)) ∈ lw_tbl := lw_at lw_m2 205 rfl
theorem q552 : (Jvm.Cond.code ({ cls := "java/util/LinkedHashMap$LinkedKeyIterator", name := "next", desc := "()Ljava/lang/Object;" } : Jvm.MethodName) prog_69_method_2_code (1 : Nat) (Option.some (Jvm.ClassFile.FieldType.object "java/lang/Object"))) ∈ lw_all := lw_g (lw_at lw_m2 206 rfl) rfl
theorem q553 : (Jvm.Cond.methodLink "java/util/LinkedHashMap$LinkedKeyIterator" (7 : Nat) ({ cls := "java/util/LinkedHashMap$LinkedKeyIterator", name := "nextNode", desc := "()Ljava/util/LinkedHashMap$Entry;" } : Jvm.MethodName)) ∈ lw_all := lw_g (lw_at lw_m2 207 rfl) rfl
theorem q554 : (Jvm.Cond.sameMethod "java/util/LinkedHashMap$LinkedKeyIterator" "java/util/LinkedHashMap$LinkedHashIterator" "nextNode" "()Ljava/util/LinkedHashMap$Entry;") ∈ lw_all := lw_g (lw_at lw_m2 208 rfl) rfl
theorem q556 : (Jvm.Cond.selects "java/util/LinkedHashMap$LinkedKeyIterator" ({ cls := "java/util/LinkedHashMap$LinkedKeyIterator", name := "nextNode", desc := "()Ljava/util/LinkedHashMap$Entry;" } : Jvm.MethodName) ({ cls := "java/util/LinkedHashMap$LinkedHashIterator", name := "nextNode", desc := "()Ljava/util/LinkedHashMap$Entry;" } : Jvm.MethodName)) ∈ lw_all := lw_g (lw_at lw_m2 210 rfl) rfl
theorem q561 : (Jvm.Cond.methodLink "java/util/LinkedHashMap$LinkedKeyIterator" (13 : Nat) ({ cls := "java/util/LinkedHashMap$Entry", name := "getKey", desc := "()Ljava/lang/Object;" } : Jvm.MethodName)) ∈ lw_all := lw_g (lw_at lw_m2 215 rfl) rfl
theorem q636 : (Jvm.Cond.selects "java/util/LinkedHashMap$LinkedKeyIterator" ({ cls := "java/lang/Object", name := "getClass", desc := "()Ljava/lang/Class;" } : Jvm.MethodName) ({ cls := "java/lang/Object", name := "getClass", desc := "()Ljava/lang/Class;" } : Jvm.MethodName)) ∈ lw_all := lw_g (lw_at lw_m3 50 rfl) rfl
theorem q863 : (Jvm.Cond.instantiable "java/util/LinkedHashMap$LinkedKeyIterator" (5 : Nat)) ∈ lw_all := lw_g (lw_at lw_m4 37 rfl) rfl
theorem q865 : (Jvm.Cond.instanceMethod ({ cls := "java/util/LinkedHashMap$LinkedKeyIterator", name := "<init>", desc := "(Ljava/util/LinkedHashMap;Z)V" } : Jvm.MethodName)) ∈ lw_all := lw_g (lw_at lw_m4 39 rfl) rfl
theorem q866 : (Jvm.Cond.code ({ cls := "java/util/LinkedHashMap$LinkedKeyIterator", name := "<init>", desc := "(Ljava/util/LinkedHashMap;Z)V" } : Jvm.MethodName) prog_69_method_1_code (3 : Nat) (Option.none : Option Jvm.ClassFile.FieldType)) ∈ lw_all := lw_g (lw_at lw_m4 40 rfl) rfl
theorem q867 : (Jvm.Cond.methodLink "java/util/LinkedHashMap$LinkedKeyIterator" (1 : Nat) ({ cls := "java/util/LinkedHashMap$LinkedHashIterator", name := "<init>", desc := "(Ljava/util/LinkedHashMap;Z)V" } : Jvm.MethodName)) ∈ lw_all := lw_g (lw_at lw_m4 41 rfl) rfl
theorem q876 : (Jvm.Cond.lays "java/util/LinkedHashMap$LinkedKeyIterator" "java/util/LinkedHashMap$LinkedHashIterator" "next" "Ljava/util/LinkedHashMap$Entry;") ∈ lw_all := lw_g (lw_at lw_m4 50 rfl) rfl
theorem q878 : (Jvm.Cond.lays "java/util/LinkedHashMap$LinkedKeyIterator" "java/util/LinkedHashMap$LinkedHashIterator" "current" "Ljava/util/LinkedHashMap$Entry;") ∈ lw_all := lw_g (lw_at lw_m4 52 rfl) rfl
theorem q880 : (Jvm.Cond.lays "java/util/LinkedHashMap$LinkedKeyIterator" "java/util/LinkedHashMap$LinkedHashIterator" "expectedModCount" "I") ∈ lw_all := lw_g (lw_at lw_m4 54 rfl) rfl
theorem q882 : (Jvm.Cond.lays "java/util/LinkedHashMap$LinkedKeyIterator" "java/util/LinkedHashMap$LinkedHashIterator" "reversed" "Z") ∈ lw_all := lw_g (lw_at lw_m4 56 rfl) rfl
theorem q884 : (Jvm.Cond.laysFinal "java/util/LinkedHashMap$LinkedKeyIterator" "java/util/LinkedHashMap$LinkedHashIterator" "this$0" "Ljava/util/LinkedHashMap;") ∈ lw_all := lw_g (lw_at lw_m4 58 rfl) rfl
theorem q886 : (Jvm.Cond.superclass "java/util/LinkedHashMap$LinkedKeyIterator" "java/util/LinkedHashMap$LinkedHashIterator") ∈ lw_all := lw_g (lw_at lw_m4 60 rfl) rfl
theorem q3596 : (Jvm.Cond.castable "java/util/LinkedHashMap$LinkedKeyIterator" "java/lang/Object") ∈ lw_tbl := lw_at lw_m15 130 rfl
theorem in_J26 : ∀ w ∈ wsJ260, w ∈ lw_all := lw_in wsJ260 [876, 878, 880, 882, 884] (by decide +kernel) (by decide +kernel)
/-! java/lang/String -/
set_option maxRecDepth 100000
def RJ27 : String := "java/lang/String"
def TJ27 : u_T := fun k => match k with
  | 0 => ("java/lang/String", "value", "[B", true)
  | 1 => ("java/lang/String", "coder", "B", true)
  | 2 => ("java/lang/String", "hash", "I", false)
  | _ => ("java/lang/String", "hashIsZero", "Z", false)
def tyJ27 : Nat → FieldType := fun k => match k with
  | 0 => .array .byte
  | 1 => .byte
  | 2 => .int
  | _ => .boolean
abbrev wsJ270 : List Cond := u_ws RJ27 TJ27 4
theorem nmJ27 : ∀ a, a < 4 → ∀ b, b < 4 → a ≠ b → (TJ27 a).2.1 ≠ (TJ27 b).2.1 := by decide +kernel
theorem tyJ27_ok : ∀ k, k < 4 → parseFieldDescriptor (TJ27 k).2.2.1 = some (tyJ27 k) := by decide +kernel
abbrev cJ27_hashCode : ByteArray := prog_41_method_78_code
def yJ27_hashCode : MethodName := ⟨RJ27, "hashCode", "()I"⟩
def dkwJ27_hashCode_2 : List UInt8 := [181, 0, 23, 167, 0, 8, 42, 27, 181, 0, 19, 27, 172]
abbrev dktJ27_hashCode_2 : List UInt8 := dkwJ27_hashCode_2 ++ []
def dkwJ27_hashCode_1 : List UInt8 := [180, 0, 9, 184, 2, 116, 167, 0, 10, 42, 180, 0, 9, 184, 2, 120, 60, 27, 154, 0, 11, 42, 4]
abbrev dktJ27_hashCode_1 : List UInt8 := dkwJ27_hashCode_1 ++ dktJ27_hashCode_2
def dkwJ27_hashCode_0 : List UInt8 := [42, 180, 0, 19, 60, 27, 154, 0, 52, 42, 180, 0, 23, 154, 0, 45, 42, 182, 1, 236, 153, 0, 13, 42]
abbrev dktJ27_hashCode_0 : List UInt8 := dkwJ27_hashCode_0 ++ dktJ27_hashCode_1
theorem dksJ27_hashCode_0 : cJ27_hashCode.data.toList.drop 0 = dktJ27_hashCode_0 := by decide +kernel
theorem dksJ27_hashCode_1 : cJ27_hashCode.data.toList.drop 24 = dktJ27_hashCode_1 := dk_seg dksJ27_hashCode_0 24 rfl rfl
theorem dksJ27_hashCode_2 : cJ27_hashCode.data.toList.drop 47 = dktJ27_hashCode_2 := dk_seg dksJ27_hashCode_1 23 rfl rfl
theorem dJ27_hashCode_0 : decode cJ27_hashCode 0 = .ok (.aload_n 0, 1) := dk_42 (dk_at dksJ27_hashCode_0 0 rfl rfl)
theorem dJ27_hashCode_1 : decode cJ27_hashCode 1 = .ok (.getfield 19, 3) := dk_180 0 19 (dk_at dksJ27_hashCode_0 1 rfl rfl)
theorem dJ27_hashCode_4 : decode cJ27_hashCode 4 = .ok (.istore_n 1, 1) := dk_60 (dk_at dksJ27_hashCode_0 4 rfl rfl)
theorem dJ27_hashCode_5 : decode cJ27_hashCode 5 = .ok (.iload_n 1, 1) := dk_27 (dk_at dksJ27_hashCode_0 5 rfl rfl)
theorem dJ27_hashCode_6 : decode cJ27_hashCode 6 = .ok (.ifCond .ne 52, 3) := dk_154 0 52 (dk_at dksJ27_hashCode_0 6 rfl rfl)
theorem dJ27_hashCode_9 : decode cJ27_hashCode 9 = .ok (.aload_n 0, 1) := dk_42 (dk_at dksJ27_hashCode_0 9 rfl rfl)
theorem dJ27_hashCode_10 : decode cJ27_hashCode 10 = .ok (.getfield 23, 3) := dk_180 0 23 (dk_at dksJ27_hashCode_0 10 rfl rfl)
theorem dJ27_hashCode_13 : decode cJ27_hashCode 13 = .ok (.ifCond .ne 45, 3) := dk_154 0 45 (dk_at dksJ27_hashCode_0 13 rfl rfl)
theorem dJ27_hashCode_16 : decode cJ27_hashCode 16 = .ok (.aload_n 0, 1) := dk_42 (dk_at dksJ27_hashCode_0 16 rfl rfl)
theorem dJ27_hashCode_17 : decode cJ27_hashCode 17 = .ok (.invokevirtual 492, 3) := dk_182 1 236 (dk_at dksJ27_hashCode_0 17 rfl rfl)
theorem dJ27_hashCode_20 : decode cJ27_hashCode 20 = .ok (.ifCond .eq 13, 3) := dk_153 0 13 (dk_at dksJ27_hashCode_0 20 rfl rfl)
theorem dJ27_hashCode_23 : decode cJ27_hashCode 23 = .ok (.aload_n 0, 1) := dk_42 (dk_at dksJ27_hashCode_0 23 rfl rfl)
theorem dJ27_hashCode_24 : decode cJ27_hashCode 24 = .ok (.getfield 9, 3) := dk_180 0 9 (dk_at dksJ27_hashCode_1 0 rfl rfl)
theorem dJ27_hashCode_27 : decode cJ27_hashCode 27 = .ok (.invokestatic 628, 3) := dk_184 2 116 (dk_at dksJ27_hashCode_1 3 rfl rfl)
theorem dJ27_hashCode_30 : decode cJ27_hashCode 30 = .ok (.goto 10, 3) := dk_167 0 10 (dk_at dksJ27_hashCode_1 6 rfl rfl)
theorem dJ27_hashCode_33 : decode cJ27_hashCode 33 = .ok (.aload_n 0, 1) := dk_42 (dk_at dksJ27_hashCode_1 9 rfl rfl)
theorem dJ27_hashCode_34 : decode cJ27_hashCode 34 = .ok (.getfield 9, 3) := dk_180 0 9 (dk_at dksJ27_hashCode_1 10 rfl rfl)
theorem dJ27_hashCode_37 : decode cJ27_hashCode 37 = .ok (.invokestatic 632, 3) := dk_184 2 120 (dk_at dksJ27_hashCode_1 13 rfl rfl)
theorem dJ27_hashCode_40 : decode cJ27_hashCode 40 = .ok (.istore_n 1, 1) := dk_60 (dk_at dksJ27_hashCode_1 16 rfl rfl)
theorem dJ27_hashCode_41 : decode cJ27_hashCode 41 = .ok (.iload_n 1, 1) := dk_27 (dk_at dksJ27_hashCode_1 17 rfl rfl)
theorem dJ27_hashCode_42 : decode cJ27_hashCode 42 = .ok (.ifCond .ne 11, 3) := dk_154 0 11 (dk_at dksJ27_hashCode_1 18 rfl rfl)
theorem dJ27_hashCode_45 : decode cJ27_hashCode 45 = .ok (.aload_n 0, 1) := dk_42 (dk_at dksJ27_hashCode_1 21 rfl rfl)
theorem dJ27_hashCode_46 : decode cJ27_hashCode 46 = .ok (.iconst 1, 1) := dk_4 (dk_at dksJ27_hashCode_1 22 rfl rfl)
theorem dJ27_hashCode_47 : decode cJ27_hashCode 47 = .ok (.putfield 23, 3) := dk_181 0 23 (dk_at dksJ27_hashCode_2 0 rfl rfl)
theorem dJ27_hashCode_50 : decode cJ27_hashCode 50 = .ok (.goto 8, 3) := dk_167 0 8 (dk_at dksJ27_hashCode_2 3 rfl rfl)
theorem dJ27_hashCode_53 : decode cJ27_hashCode 53 = .ok (.aload_n 0, 1) := dk_42 (dk_at dksJ27_hashCode_2 6 rfl rfl)
theorem dJ27_hashCode_54 : decode cJ27_hashCode 54 = .ok (.iload_n 1, 1) := dk_27 (dk_at dksJ27_hashCode_2 7 rfl rfl)
theorem dJ27_hashCode_55 : decode cJ27_hashCode 55 = .ok (.putfield 19, 3) := dk_181 0 19 (dk_at dksJ27_hashCode_2 8 rfl rfl)
theorem dJ27_hashCode_58 : decode cJ27_hashCode 58 = .ok (.iload_n 1, 1) := dk_27 (dk_at dksJ27_hashCode_2 11 rfl rfl)
theorem dJ27_hashCode_59 : decode cJ27_hashCode 59 = .ok (.ireturn, 1) := dk_172 (dk_at dksJ27_hashCode_2 12 rfl rfl)
abbrev cJ27_isLatin1 : ByteArray := prog_41_method_154_code
def yJ27_isLatin1 : MethodName := ⟨RJ27, "isLatin1", "()Z"⟩
def dkwJ27_isLatin1_0 : List UInt8 := [178, 0, 38, 153, 0, 14, 42, 180, 0, 15, 154, 0, 7, 4, 167, 0, 4, 3, 172]
abbrev dktJ27_isLatin1_0 : List UInt8 := dkwJ27_isLatin1_0 ++ []
theorem dksJ27_isLatin1_0 : cJ27_isLatin1.data.toList.drop 0 = dktJ27_isLatin1_0 := by decide +kernel
theorem dJ27_isLatin1_0 : decode cJ27_isLatin1 0 = .ok (.getstatic 38, 3) := dk_178 0 38 (dk_at dksJ27_isLatin1_0 0 rfl rfl)
theorem dJ27_isLatin1_3 : decode cJ27_isLatin1 3 = .ok (.ifCond .eq 14, 3) := dk_153 0 14 (dk_at dksJ27_isLatin1_0 3 rfl rfl)
theorem dJ27_isLatin1_6 : decode cJ27_isLatin1 6 = .ok (.aload_n 0, 1) := dk_42 (dk_at dksJ27_isLatin1_0 6 rfl rfl)
theorem dJ27_isLatin1_7 : decode cJ27_isLatin1 7 = .ok (.getfield 15, 3) := dk_180 0 15 (dk_at dksJ27_isLatin1_0 7 rfl rfl)
theorem dJ27_isLatin1_10 : decode cJ27_isLatin1 10 = .ok (.ifCond .ne 7, 3) := dk_154 0 7 (dk_at dksJ27_isLatin1_0 10 rfl rfl)
theorem dJ27_isLatin1_13 : decode cJ27_isLatin1 13 = .ok (.iconst 1, 1) := dk_4 (dk_at dksJ27_isLatin1_0 13 rfl rfl)
theorem dJ27_isLatin1_14 : decode cJ27_isLatin1 14 = .ok (.goto 4, 3) := dk_167 0 4 (dk_at dksJ27_isLatin1_0 14 rfl rfl)
theorem dJ27_isLatin1_17 : decode cJ27_isLatin1 17 = .ok (.iconst 0, 1) := dk_3 (dk_at dksJ27_isLatin1_0 17 rfl rfl)
theorem dJ27_isLatin1_18 : decode cJ27_isLatin1 18 = .ok (.ireturn, 1) := dk_172 (dk_at dksJ27_isLatin1_0 18 rfl rfl)
abbrev cJ27_equals : ByteArray := prog_41_method_66_code
def yJ27_equals : MethodName := ⟨RJ27, "equals", "(Ljava/lang/Object;)Z"⟩
def dkwJ27_equals_2 : List UInt8 := [184, 2, 29, 153, 0, 7, 4, 167, 0, 4, 3, 172]
abbrev dktJ27_equals_2 : List UInt8 := dkwJ27_equals_2 ++ []
def dkwJ27_equals_1 : List UInt8 := [153, 0, 14, 42, 180, 0, 15, 44, 180, 0, 15, 160, 0, 21, 42, 180, 0, 9, 44, 180, 0, 9]
abbrev dktJ27_equals_1 : List UInt8 := dkwJ27_equals_1 ++ dktJ27_equals_2
def dkwJ27_equals_0 : List UInt8 := [42, 43, 166, 0, 5, 4, 172, 43, 193, 0, 10, 153, 0, 43, 43, 192, 0, 10, 77, 178, 0, 38]
abbrev dktJ27_equals_0 : List UInt8 := dkwJ27_equals_0 ++ dktJ27_equals_1
theorem dksJ27_equals_0 : cJ27_equals.data.toList.drop 0 = dktJ27_equals_0 := by decide +kernel
theorem dksJ27_equals_1 : cJ27_equals.data.toList.drop 22 = dktJ27_equals_1 := dk_seg dksJ27_equals_0 22 rfl rfl
theorem dksJ27_equals_2 : cJ27_equals.data.toList.drop 44 = dktJ27_equals_2 := dk_seg dksJ27_equals_1 22 rfl rfl
theorem dJ27_equals_0 : decode cJ27_equals 0 = .ok (.aload_n 0, 1) := dk_42 (dk_at dksJ27_equals_0 0 rfl rfl)
theorem dJ27_equals_1 : decode cJ27_equals 1 = .ok (.aload_n 1, 1) := dk_43 (dk_at dksJ27_equals_0 1 rfl rfl)
theorem dJ27_equals_2 : decode cJ27_equals 2 = .ok (.if_acmp .ne 5, 3) := dk_166 0 5 (dk_at dksJ27_equals_0 2 rfl rfl)
theorem dJ27_equals_5 : decode cJ27_equals 5 = .ok (.iconst 1, 1) := dk_4 (dk_at dksJ27_equals_0 5 rfl rfl)
theorem dJ27_equals_6 : decode cJ27_equals 6 = .ok (.ireturn, 1) := dk_172 (dk_at dksJ27_equals_0 6 rfl rfl)
theorem dJ27_equals_7 : decode cJ27_equals 7 = .ok (.aload_n 1, 1) := dk_43 (dk_at dksJ27_equals_0 7 rfl rfl)
theorem dJ27_equals_8 : decode cJ27_equals 8 = .ok (.instanceof 10, 3) := dk_193 0 10 (dk_at dksJ27_equals_0 8 rfl rfl)
theorem dJ27_equals_11 : decode cJ27_equals 11 = .ok (.ifCond .eq 43, 3) := dk_153 0 43 (dk_at dksJ27_equals_0 11 rfl rfl)
theorem dJ27_equals_14 : decode cJ27_equals 14 = .ok (.aload_n 1, 1) := dk_43 (dk_at dksJ27_equals_0 14 rfl rfl)
theorem dJ27_equals_15 : decode cJ27_equals 15 = .ok (.checkcast 10, 3) := dk_192 0 10 (dk_at dksJ27_equals_0 15 rfl rfl)
theorem dJ27_equals_18 : decode cJ27_equals 18 = .ok (.astore_n 2, 1) := dk_77 (dk_at dksJ27_equals_0 18 rfl rfl)
theorem dJ27_equals_19 : decode cJ27_equals 19 = .ok (.getstatic 38, 3) := dk_178 0 38 (dk_at dksJ27_equals_0 19 rfl rfl)
theorem dJ27_equals_22 : decode cJ27_equals 22 = .ok (.ifCond .eq 14, 3) := dk_153 0 14 (dk_at dksJ27_equals_1 0 rfl rfl)
theorem dJ27_equals_25 : decode cJ27_equals 25 = .ok (.aload_n 0, 1) := dk_42 (dk_at dksJ27_equals_1 3 rfl rfl)
theorem dJ27_equals_26 : decode cJ27_equals 26 = .ok (.getfield 15, 3) := dk_180 0 15 (dk_at dksJ27_equals_1 4 rfl rfl)
theorem dJ27_equals_29 : decode cJ27_equals 29 = .ok (.aload_n 2, 1) := dk_44 (dk_at dksJ27_equals_1 7 rfl rfl)
theorem dJ27_equals_30 : decode cJ27_equals 30 = .ok (.getfield 15, 3) := dk_180 0 15 (dk_at dksJ27_equals_1 8 rfl rfl)
theorem dJ27_equals_33 : decode cJ27_equals 33 = .ok (.if_icmp .ne 21, 3) := dk_160 0 21 (dk_at dksJ27_equals_1 11 rfl rfl)
theorem dJ27_equals_36 : decode cJ27_equals 36 = .ok (.aload_n 0, 1) := dk_42 (dk_at dksJ27_equals_1 14 rfl rfl)
theorem dJ27_equals_37 : decode cJ27_equals 37 = .ok (.getfield 9, 3) := dk_180 0 9 (dk_at dksJ27_equals_1 15 rfl rfl)
theorem dJ27_equals_40 : decode cJ27_equals 40 = .ok (.aload_n 2, 1) := dk_44 (dk_at dksJ27_equals_1 18 rfl rfl)
theorem dJ27_equals_41 : decode cJ27_equals 41 = .ok (.getfield 9, 3) := dk_180 0 9 (dk_at dksJ27_equals_1 19 rfl rfl)
theorem dJ27_equals_44 : decode cJ27_equals 44 = .ok (.invokestatic 541, 3) := dk_184 2 29 (dk_at dksJ27_equals_2 0 rfl rfl)
theorem dJ27_equals_47 : decode cJ27_equals 47 = .ok (.ifCond .eq 7, 3) := dk_153 0 7 (dk_at dksJ27_equals_2 3 rfl rfl)
theorem dJ27_equals_50 : decode cJ27_equals 50 = .ok (.iconst 1, 1) := dk_4 (dk_at dksJ27_equals_2 6 rfl rfl)
theorem dJ27_equals_51 : decode cJ27_equals 51 = .ok (.goto 4, 3) := dk_167 0 4 (dk_at dksJ27_equals_2 7 rfl rfl)
theorem dJ27_equals_54 : decode cJ27_equals 54 = .ok (.iconst 0, 1) := dk_3 (dk_at dksJ27_equals_2 10 rfl rfl)
theorem dJ27_equals_55 : decode cJ27_equals 55 = .ok (.ireturn, 1) := dk_172 (dk_at dksJ27_equals_2 11 rfl rfl)
abbrev cJ27_compareTo : ByteArray := prog_41_method_162_code
def yJ27_compareTo : MethodName := ⟨RJ27, "compareTo", "(Ljava/lang/Object;)I"⟩
def dkwJ27_compareTo_0 : List UInt8 := [42, 43, 192, 0, 10, 182, 4, 60, 172]
abbrev dktJ27_compareTo_0 : List UInt8 := dkwJ27_compareTo_0 ++ []
theorem dksJ27_compareTo_0 : cJ27_compareTo.data.toList.drop 0 = dktJ27_compareTo_0 := by decide +kernel
theorem dJ27_compareTo_0 : decode cJ27_compareTo 0 = .ok (.aload_n 0, 1) := dk_42 (dk_at dksJ27_compareTo_0 0 rfl rfl)
theorem dJ27_compareTo_1 : decode cJ27_compareTo 1 = .ok (.aload_n 1, 1) := dk_43 (dk_at dksJ27_compareTo_0 1 rfl rfl)
theorem dJ27_compareTo_2 : decode cJ27_compareTo 2 = .ok (.checkcast 10, 3) := dk_192 0 10 (dk_at dksJ27_compareTo_0 2 rfl rfl)
theorem dJ27_compareTo_5 : decode cJ27_compareTo 5 = .ok (.invokevirtual 1084, 3) := dk_182 4 60 (dk_at dksJ27_compareTo_0 5 rfl rfl)
theorem dJ27_compareTo_8 : decode cJ27_compareTo 8 = .ok (.ireturn, 1) := dk_172 (dk_at dksJ27_compareTo_0 8 rfl rfl)
abbrev cJ27_compareTo_2 : ByteArray := prog_41_method_71_code
def yJ27_compareTo_2 : MethodName := ⟨RJ27, "compareTo", "(Ljava/lang/String;)I"⟩
def dkwJ27_compareTo_2_2 : List UInt8 := [154, 0, 11, 44, 45, 184, 2, 79, 167, 0, 8, 44, 45, 184, 2, 82, 172]
abbrev dktJ27_compareTo_2_2 : List UInt8 := dkwJ27_compareTo_2_2 ++ []
def dkwJ27_compareTo_2_1 : List UInt8 := [160, 0, 22, 21, 4, 154, 0, 11, 44, 45, 184, 2, 74, 167, 0, 8, 44, 45, 184, 2, 78, 172, 21, 4]
abbrev dktJ27_compareTo_2_1 : List UInt8 := dkwJ27_compareTo_2_1 ++ dktJ27_compareTo_2_2
def dkwJ27_compareTo_2_0 : List UInt8 := [42, 180, 0, 9, 77, 43, 180, 0, 9, 78, 42, 182, 1, 79, 54, 4, 21, 4, 43, 182, 1, 79]
abbrev dktJ27_compareTo_2_0 : List UInt8 := dkwJ27_compareTo_2_0 ++ dktJ27_compareTo_2_1
theorem dksJ27_compareTo_2_0 : cJ27_compareTo_2.data.toList.drop 0 = dktJ27_compareTo_2_0 := by decide +kernel
theorem dksJ27_compareTo_2_1 : cJ27_compareTo_2.data.toList.drop 22 = dktJ27_compareTo_2_1 := dk_seg dksJ27_compareTo_2_0 22 rfl rfl
theorem dksJ27_compareTo_2_2 : cJ27_compareTo_2.data.toList.drop 46 = dktJ27_compareTo_2_2 := dk_seg dksJ27_compareTo_2_1 24 rfl rfl
theorem dJ27_compareTo_2_0 : decode cJ27_compareTo_2 0 = .ok (.aload_n 0, 1) := dk_42 (dk_at dksJ27_compareTo_2_0 0 rfl rfl)
theorem dJ27_compareTo_2_1 : decode cJ27_compareTo_2 1 = .ok (.getfield 9, 3) := dk_180 0 9 (dk_at dksJ27_compareTo_2_0 1 rfl rfl)
theorem dJ27_compareTo_2_4 : decode cJ27_compareTo_2 4 = .ok (.astore_n 2, 1) := dk_77 (dk_at dksJ27_compareTo_2_0 4 rfl rfl)
theorem dJ27_compareTo_2_5 : decode cJ27_compareTo_2 5 = .ok (.aload_n 1, 1) := dk_43 (dk_at dksJ27_compareTo_2_0 5 rfl rfl)
theorem dJ27_compareTo_2_6 : decode cJ27_compareTo_2 6 = .ok (.getfield 9, 3) := dk_180 0 9 (dk_at dksJ27_compareTo_2_0 6 rfl rfl)
theorem dJ27_compareTo_2_9 : decode cJ27_compareTo_2 9 = .ok (.astore_n 3, 1) := dk_78 (dk_at dksJ27_compareTo_2_0 9 rfl rfl)
theorem dJ27_compareTo_2_10 : decode cJ27_compareTo_2 10 = .ok (.aload_n 0, 1) := dk_42 (dk_at dksJ27_compareTo_2_0 10 rfl rfl)
theorem dJ27_compareTo_2_11 : decode cJ27_compareTo_2 11 = .ok (.invokevirtual 335, 3) := dk_182 1 79 (dk_at dksJ27_compareTo_2_0 11 rfl rfl)
theorem dJ27_compareTo_2_14 : decode cJ27_compareTo_2 14 = .ok (.istore 4, 2) := dk_54 4 (dk_at dksJ27_compareTo_2_0 14 rfl rfl)
theorem dJ27_compareTo_2_16 : decode cJ27_compareTo_2 16 = .ok (.iload 4, 2) := dk_21 4 (dk_at dksJ27_compareTo_2_0 16 rfl rfl)
theorem dJ27_compareTo_2_18 : decode cJ27_compareTo_2 18 = .ok (.aload_n 1, 1) := dk_43 (dk_at dksJ27_compareTo_2_0 18 rfl rfl)
theorem dJ27_compareTo_2_19 : decode cJ27_compareTo_2 19 = .ok (.invokevirtual 335, 3) := dk_182 1 79 (dk_at dksJ27_compareTo_2_0 19 rfl rfl)
theorem dJ27_compareTo_2_22 : decode cJ27_compareTo_2 22 = .ok (.if_icmp .ne 22, 3) := dk_160 0 22 (dk_at dksJ27_compareTo_2_1 0 rfl rfl)
theorem dJ27_compareTo_2_25 : decode cJ27_compareTo_2 25 = .ok (.iload 4, 2) := dk_21 4 (dk_at dksJ27_compareTo_2_1 3 rfl rfl)
theorem dJ27_compareTo_2_27 : decode cJ27_compareTo_2 27 = .ok (.ifCond .ne 11, 3) := dk_154 0 11 (dk_at dksJ27_compareTo_2_1 5 rfl rfl)
theorem dJ27_compareTo_2_30 : decode cJ27_compareTo_2 30 = .ok (.aload_n 2, 1) := dk_44 (dk_at dksJ27_compareTo_2_1 8 rfl rfl)
theorem dJ27_compareTo_2_31 : decode cJ27_compareTo_2 31 = .ok (.aload_n 3, 1) := dk_45 (dk_at dksJ27_compareTo_2_1 9 rfl rfl)
theorem dJ27_compareTo_2_32 : decode cJ27_compareTo_2 32 = .ok (.invokestatic 586, 3) := dk_184 2 74 (dk_at dksJ27_compareTo_2_1 10 rfl rfl)
theorem dJ27_compareTo_2_35 : decode cJ27_compareTo_2 35 = .ok (.goto 8, 3) := dk_167 0 8 (dk_at dksJ27_compareTo_2_1 13 rfl rfl)
theorem dJ27_compareTo_2_38 : decode cJ27_compareTo_2 38 = .ok (.aload_n 2, 1) := dk_44 (dk_at dksJ27_compareTo_2_1 16 rfl rfl)
theorem dJ27_compareTo_2_39 : decode cJ27_compareTo_2 39 = .ok (.aload_n 3, 1) := dk_45 (dk_at dksJ27_compareTo_2_1 17 rfl rfl)
theorem dJ27_compareTo_2_40 : decode cJ27_compareTo_2 40 = .ok (.invokestatic 590, 3) := dk_184 2 78 (dk_at dksJ27_compareTo_2_1 18 rfl rfl)
theorem dJ27_compareTo_2_43 : decode cJ27_compareTo_2 43 = .ok (.ireturn, 1) := dk_172 (dk_at dksJ27_compareTo_2_1 21 rfl rfl)
theorem dJ27_compareTo_2_44 : decode cJ27_compareTo_2 44 = .ok (.iload 4, 2) := dk_21 4 (dk_at dksJ27_compareTo_2_1 22 rfl rfl)
theorem dJ27_compareTo_2_46 : decode cJ27_compareTo_2 46 = .ok (.ifCond .ne 11, 3) := dk_154 0 11 (dk_at dksJ27_compareTo_2_2 0 rfl rfl)
theorem dJ27_compareTo_2_49 : decode cJ27_compareTo_2 49 = .ok (.aload_n 2, 1) := dk_44 (dk_at dksJ27_compareTo_2_2 3 rfl rfl)
theorem dJ27_compareTo_2_50 : decode cJ27_compareTo_2 50 = .ok (.aload_n 3, 1) := dk_45 (dk_at dksJ27_compareTo_2_2 4 rfl rfl)
theorem dJ27_compareTo_2_51 : decode cJ27_compareTo_2 51 = .ok (.invokestatic 591, 3) := dk_184 2 79 (dk_at dksJ27_compareTo_2_2 5 rfl rfl)
theorem dJ27_compareTo_2_54 : decode cJ27_compareTo_2 54 = .ok (.goto 8, 3) := dk_167 0 8 (dk_at dksJ27_compareTo_2_2 8 rfl rfl)
theorem dJ27_compareTo_2_57 : decode cJ27_compareTo_2 57 = .ok (.aload_n 2, 1) := dk_44 (dk_at dksJ27_compareTo_2_2 11 rfl rfl)
theorem dJ27_compareTo_2_58 : decode cJ27_compareTo_2 58 = .ok (.aload_n 3, 1) := dk_45 (dk_at dksJ27_compareTo_2_2 12 rfl rfl)
theorem dJ27_compareTo_2_59 : decode cJ27_compareTo_2 59 = .ok (.invokestatic 594, 3) := dk_184 2 82 (dk_at dksJ27_compareTo_2_2 13 rfl rfl)
theorem dJ27_compareTo_2_62 : decode cJ27_compareTo_2 62 = .ok (.ireturn, 1) := dk_172 (dk_at dksJ27_compareTo_2_2 16 rfl rfl)
abbrev cJ27_coder : ByteArray := prog_41_method_152_code
def yJ27_coder : MethodName := ⟨RJ27, "coder", "()B"⟩
def dkwJ27_coder_0 : List UInt8 := [178, 0, 38, 153, 0, 10, 42, 180, 0, 15, 167, 0, 4, 4, 172]
abbrev dktJ27_coder_0 : List UInt8 := dkwJ27_coder_0 ++ []
theorem dksJ27_coder_0 : cJ27_coder.data.toList.drop 0 = dktJ27_coder_0 := by decide +kernel
theorem dJ27_coder_0 : decode cJ27_coder 0 = .ok (.getstatic 38, 3) := dk_178 0 38 (dk_at dksJ27_coder_0 0 rfl rfl)
theorem dJ27_coder_3 : decode cJ27_coder 3 = .ok (.ifCond .eq 10, 3) := dk_153 0 10 (dk_at dksJ27_coder_0 3 rfl rfl)
theorem dJ27_coder_6 : decode cJ27_coder 6 = .ok (.aload_n 0, 1) := dk_42 (dk_at dksJ27_coder_0 6 rfl rfl)
theorem dJ27_coder_7 : decode cJ27_coder 7 = .ok (.getfield 15, 3) := dk_180 0 15 (dk_at dksJ27_coder_0 7 rfl rfl)
theorem dJ27_coder_10 : decode cJ27_coder 10 = .ok (.goto 4, 3) := dk_167 0 4 (dk_at dksJ27_coder_0 10 rfl rfl)
theorem dJ27_coder_13 : decode cJ27_coder 13 = .ok (.iconst 1, 1) := dk_4 (dk_at dksJ27_coder_0 13 rfl rfl)
theorem dJ27_coder_14 : decode cJ27_coder 14 = .ok (.ireturn, 1) := dk_172 (dk_at dksJ27_coder_0 14 rfl rfl)
abbrev cJ27_checkOffset : ByteArray := prog_41_method_156_code
def yJ27_checkOffset : MethodName := ⟨RJ27, "checkOffset", "(II)V"⟩
def dkwJ27_checkOffset_0 : List UInt8 := [26, 27, 27, 178, 4, 29, 184, 4, 38, 87, 177]
abbrev dktJ27_checkOffset_0 : List UInt8 := dkwJ27_checkOffset_0 ++ []
theorem dksJ27_checkOffset_0 : cJ27_checkOffset.data.toList.drop 0 = dktJ27_checkOffset_0 := by decide +kernel
theorem dJ27_checkOffset_0 : decode cJ27_checkOffset 0 = .ok (.iload_n 0, 1) := dk_26 (dk_at dksJ27_checkOffset_0 0 rfl rfl)
theorem dJ27_checkOffset_1 : decode cJ27_checkOffset 1 = .ok (.iload_n 1, 1) := dk_27 (dk_at dksJ27_checkOffset_0 1 rfl rfl)
theorem dJ27_checkOffset_2 : decode cJ27_checkOffset 2 = .ok (.iload_n 1, 1) := dk_27 (dk_at dksJ27_checkOffset_0 2 rfl rfl)
theorem dJ27_checkOffset_3 : decode cJ27_checkOffset 3 = .ok (.getstatic 1053, 3) := dk_178 4 29 (dk_at dksJ27_checkOffset_0 3 rfl rfl)
theorem dJ27_checkOffset_6 : decode cJ27_checkOffset 6 = .ok (.invokestatic 1062, 3) := dk_184 4 38 (dk_at dksJ27_checkOffset_0 6 rfl rfl)
theorem dJ27_checkOffset_9 : decode cJ27_checkOffset 9 = .ok (.pop, 1) := dk_87 (dk_at dksJ27_checkOffset_0 9 rfl rfl)
theorem dJ27_checkOffset_10 : decode cJ27_checkOffset 10 = .ok (.return_, 1) := dk_177 (dk_at dksJ27_checkOffset_0 10 rfl rfl)
abbrev cJ27_checkBoundsOffCount : ByteArray := prog_41_method_157_code
def yJ27_checkBoundsOffCount : MethodName := ⟨RJ27, "checkBoundsOffCount", "(III)I"⟩
def dkwJ27_checkBoundsOffCount_0 : List UInt8 := [26, 27, 28, 178, 4, 29, 184, 4, 41, 172]
abbrev dktJ27_checkBoundsOffCount_0 : List UInt8 := dkwJ27_checkBoundsOffCount_0 ++ []
theorem dksJ27_checkBoundsOffCount_0 : cJ27_checkBoundsOffCount.data.toList.drop 0 = dktJ27_checkBoundsOffCount_0 := by decide +kernel
theorem dJ27_checkBoundsOffCount_0 : decode cJ27_checkBoundsOffCount 0 = .ok (.iload_n 0, 1) := dk_26 (dk_at dksJ27_checkBoundsOffCount_0 0 rfl rfl)
theorem dJ27_checkBoundsOffCount_1 : decode cJ27_checkBoundsOffCount 1 = .ok (.iload_n 1, 1) := dk_27 (dk_at dksJ27_checkBoundsOffCount_0 1 rfl rfl)
theorem dJ27_checkBoundsOffCount_2 : decode cJ27_checkBoundsOffCount 2 = .ok (.iload_n 2, 1) := dk_28 (dk_at dksJ27_checkBoundsOffCount_0 2 rfl rfl)
theorem dJ27_checkBoundsOffCount_3 : decode cJ27_checkBoundsOffCount 3 = .ok (.getstatic 1053, 3) := dk_178 4 29 (dk_at dksJ27_checkBoundsOffCount_0 3 rfl rfl)
theorem dJ27_checkBoundsOffCount_6 : decode cJ27_checkBoundsOffCount 6 = .ok (.invokestatic 1065, 3) := dk_184 4 41 (dk_at dksJ27_checkBoundsOffCount_0 6 rfl rfl)
theorem dJ27_checkBoundsOffCount_9 : decode cJ27_checkBoundsOffCount 9 = .ok (.ireturn, 1) := dk_172 (dk_at dksJ27_checkBoundsOffCount_0 9 rfl rfl)
abbrev cJ27_checkIndex : ByteArray := prog_41_method_155_code
def yJ27_checkIndex : MethodName := ⟨RJ27, "checkIndex", "(II)V"⟩
def dkwJ27_checkIndex_0 : List UInt8 := [26, 27, 178, 4, 29, 184, 4, 35, 87, 177]
abbrev dktJ27_checkIndex_0 : List UInt8 := dkwJ27_checkIndex_0 ++ []
theorem dksJ27_checkIndex_0 : cJ27_checkIndex.data.toList.drop 0 = dktJ27_checkIndex_0 := by decide +kernel
theorem dJ27_checkIndex_0 : decode cJ27_checkIndex 0 = .ok (.iload_n 0, 1) := dk_26 (dk_at dksJ27_checkIndex_0 0 rfl rfl)
theorem dJ27_checkIndex_1 : decode cJ27_checkIndex 1 = .ok (.iload_n 1, 1) := dk_27 (dk_at dksJ27_checkIndex_0 1 rfl rfl)
theorem dJ27_checkIndex_2 : decode cJ27_checkIndex 2 = .ok (.getstatic 1053, 3) := dk_178 4 29 (dk_at dksJ27_checkIndex_0 2 rfl rfl)
theorem dJ27_checkIndex_5 : decode cJ27_checkIndex 5 = .ok (.invokestatic 1059, 3) := dk_184 4 35 (dk_at dksJ27_checkIndex_0 5 rfl rfl)
theorem dJ27_checkIndex_8 : decode cJ27_checkIndex 8 = .ok (.pop, 1) := dk_87 (dk_at dksJ27_checkIndex_0 8 rfl rfl)
theorem dJ27_checkIndex_9 : decode cJ27_checkIndex 9 = .ok (.return_, 1) := dk_177 (dk_at dksJ27_checkIndex_0 9 rfl rfl)
abbrev cJ27_init : ByteArray := prog_41_method_53_code
def yJ27_init : MethodName := ⟨RJ27, "<init>", "(Ljava/lang/StringBuilder;)V"⟩
def dkwJ27_init_0 : List UInt8 := [42, 43, 1, 183, 1, 233, 177]
abbrev dktJ27_init_0 : List UInt8 := dkwJ27_init_0 ++ []
theorem dksJ27_init_0 : cJ27_init.data.toList.drop 0 = dktJ27_init_0 := by decide +kernel
theorem dJ27_init_0 : decode cJ27_init 0 = .ok (.aload_n 0, 1) := dk_42 (dk_at dksJ27_init_0 0 rfl rfl)
theorem dJ27_init_1 : decode cJ27_init 1 = .ok (.aload_n 1, 1) := dk_43 (dk_at dksJ27_init_0 1 rfl rfl)
theorem dJ27_init_2 : decode cJ27_init 2 = .ok (.aconst_null, 1) := dk_1 (dk_at dksJ27_init_0 2 rfl rfl)
theorem dJ27_init_3 : decode cJ27_init 3 = .ok (.invokespecial 489, 3) := dk_183 1 233 (dk_at dksJ27_init_0 3 rfl rfl)
theorem dJ27_init_6 : decode cJ27_init 6 = .ok (.return_, 1) := dk_177 (dk_at dksJ27_init_0 6 rfl rfl)
abbrev cJ27_init_2 : ByteArray := prog_41_method_150_code
def yJ27_init_2 : MethodName := ⟨RJ27, "<init>", "(Ljava/lang/AbstractStringBuilder;Ljava/lang/Void;)V"⟩
def dkwJ27_init_2_4 : List UInt8 := [181, 0, 9, 177]
abbrev dktJ27_init_2_4 : List UInt8 := dkwJ27_init_2_4 ++ []
def dkwJ27_init_2_3 : List UInt8 := [184, 0, 47, 181, 0, 15, 177, 42, 4, 181, 0, 15, 42, 45, 3, 21, 4, 4, 120, 184, 0, 54]
abbrev dktJ27_init_2_3 : List UInt8 := dkwJ27_init_2_3 ++ dktJ27_init_2_4
def dkwJ27_init_2_2 : List UInt8 := [180, 4, 24, 153, 0, 28, 42, 45, 3, 21, 4, 184, 4, 27, 181, 0, 9, 42, 42, 180, 0, 9, 21, 4]
abbrev dktJ27_init_2_2 : List UInt8 := dkwJ27_init_2_2 ++ dktJ27_init_2_3
def dkwJ27_init_2_1 : List UInt8 := [181, 0, 15, 42, 45, 3, 21, 4, 184, 0, 54, 181, 0, 9, 167, 0, 59, 178, 0, 38, 153, 0, 35, 43]
abbrev dktJ27_init_2_1 : List UInt8 := dkwJ27_init_2_1 ++ dktJ27_init_2_2
def dkwJ27_init_2_0 : List UInt8 := [42, 183, 0, 1, 43, 182, 2, 40, 78, 43, 182, 2, 37, 54, 4, 43, 182, 4, 23, 153, 0, 22, 42, 3]
abbrev dktJ27_init_2_0 : List UInt8 := dkwJ27_init_2_0 ++ dktJ27_init_2_1
theorem dksJ27_init_2_0 : cJ27_init_2.data.toList.drop 0 = dktJ27_init_2_0 := by decide +kernel
theorem dksJ27_init_2_1 : cJ27_init_2.data.toList.drop 24 = dktJ27_init_2_1 := dk_seg dksJ27_init_2_0 24 rfl rfl
theorem dksJ27_init_2_2 : cJ27_init_2.data.toList.drop 48 = dktJ27_init_2_2 := dk_seg dksJ27_init_2_1 24 rfl rfl
theorem dksJ27_init_2_3 : cJ27_init_2.data.toList.drop 72 = dktJ27_init_2_3 := dk_seg dksJ27_init_2_2 24 rfl rfl
theorem dksJ27_init_2_4 : cJ27_init_2.data.toList.drop 94 = dktJ27_init_2_4 := dk_seg dksJ27_init_2_3 22 rfl rfl
theorem dJ27_init_2_0 : decode cJ27_init_2 0 = .ok (.aload_n 0, 1) := dk_42 (dk_at dksJ27_init_2_0 0 rfl rfl)
theorem dJ27_init_2_1 : decode cJ27_init_2 1 = .ok (.invokespecial 1, 3) := dk_183 0 1 (dk_at dksJ27_init_2_0 1 rfl rfl)
theorem dJ27_init_2_4 : decode cJ27_init_2 4 = .ok (.aload_n 1, 1) := dk_43 (dk_at dksJ27_init_2_0 4 rfl rfl)
theorem dJ27_init_2_5 : decode cJ27_init_2 5 = .ok (.invokevirtual 552, 3) := dk_182 2 40 (dk_at dksJ27_init_2_0 5 rfl rfl)
theorem dJ27_init_2_8 : decode cJ27_init_2 8 = .ok (.astore_n 3, 1) := dk_78 (dk_at dksJ27_init_2_0 8 rfl rfl)
theorem dJ27_init_2_9 : decode cJ27_init_2 9 = .ok (.aload_n 1, 1) := dk_43 (dk_at dksJ27_init_2_0 9 rfl rfl)
theorem dJ27_init_2_10 : decode cJ27_init_2 10 = .ok (.invokevirtual 549, 3) := dk_182 2 37 (dk_at dksJ27_init_2_0 10 rfl rfl)
theorem dJ27_init_2_13 : decode cJ27_init_2 13 = .ok (.istore 4, 2) := dk_54 4 (dk_at dksJ27_init_2_0 13 rfl rfl)
theorem dJ27_init_2_15 : decode cJ27_init_2 15 = .ok (.aload_n 1, 1) := dk_43 (dk_at dksJ27_init_2_0 15 rfl rfl)
theorem dJ27_init_2_16 : decode cJ27_init_2 16 = .ok (.invokevirtual 1047, 3) := dk_182 4 23 (dk_at dksJ27_init_2_0 16 rfl rfl)
theorem dJ27_init_2_19 : decode cJ27_init_2 19 = .ok (.ifCond .eq 22, 3) := dk_153 0 22 (dk_at dksJ27_init_2_0 19 rfl rfl)
theorem dJ27_init_2_22 : decode cJ27_init_2 22 = .ok (.aload_n 0, 1) := dk_42 (dk_at dksJ27_init_2_0 22 rfl rfl)
theorem dJ27_init_2_23 : decode cJ27_init_2 23 = .ok (.iconst 0, 1) := dk_3 (dk_at dksJ27_init_2_0 23 rfl rfl)
theorem dJ27_init_2_24 : decode cJ27_init_2 24 = .ok (.putfield 15, 3) := dk_181 0 15 (dk_at dksJ27_init_2_1 0 rfl rfl)
theorem dJ27_init_2_27 : decode cJ27_init_2 27 = .ok (.aload_n 0, 1) := dk_42 (dk_at dksJ27_init_2_1 3 rfl rfl)
theorem dJ27_init_2_28 : decode cJ27_init_2 28 = .ok (.aload_n 3, 1) := dk_45 (dk_at dksJ27_init_2_1 4 rfl rfl)
theorem dJ27_init_2_29 : decode cJ27_init_2 29 = .ok (.iconst 0, 1) := dk_3 (dk_at dksJ27_init_2_1 5 rfl rfl)
theorem dJ27_init_2_30 : decode cJ27_init_2 30 = .ok (.iload 4, 2) := dk_21 4 (dk_at dksJ27_init_2_1 6 rfl rfl)
theorem dJ27_init_2_32 : decode cJ27_init_2 32 = .ok (.invokestatic 54, 3) := dk_184 0 54 (dk_at dksJ27_init_2_1 8 rfl rfl)
theorem dJ27_init_2_35 : decode cJ27_init_2 35 = .ok (.putfield 9, 3) := dk_181 0 9 (dk_at dksJ27_init_2_1 11 rfl rfl)
theorem dJ27_init_2_38 : decode cJ27_init_2 38 = .ok (.goto 59, 3) := dk_167 0 59 (dk_at dksJ27_init_2_1 14 rfl rfl)
theorem dJ27_init_2_41 : decode cJ27_init_2 41 = .ok (.getstatic 38, 3) := dk_178 0 38 (dk_at dksJ27_init_2_1 17 rfl rfl)
theorem dJ27_init_2_44 : decode cJ27_init_2 44 = .ok (.ifCond .eq 35, 3) := dk_153 0 35 (dk_at dksJ27_init_2_1 20 rfl rfl)
theorem dJ27_init_2_47 : decode cJ27_init_2 47 = .ok (.aload_n 1, 1) := dk_43 (dk_at dksJ27_init_2_1 23 rfl rfl)
theorem dJ27_init_2_48 : decode cJ27_init_2 48 = .ok (.getfield 1048, 3) := dk_180 4 24 (dk_at dksJ27_init_2_2 0 rfl rfl)
theorem dJ27_init_2_51 : decode cJ27_init_2 51 = .ok (.ifCond .eq 28, 3) := dk_153 0 28 (dk_at dksJ27_init_2_2 3 rfl rfl)
theorem dJ27_init_2_54 : decode cJ27_init_2 54 = .ok (.aload_n 0, 1) := dk_42 (dk_at dksJ27_init_2_2 6 rfl rfl)
theorem dJ27_init_2_55 : decode cJ27_init_2 55 = .ok (.aload_n 3, 1) := dk_45 (dk_at dksJ27_init_2_2 7 rfl rfl)
theorem dJ27_init_2_56 : decode cJ27_init_2 56 = .ok (.iconst 0, 1) := dk_3 (dk_at dksJ27_init_2_2 8 rfl rfl)
theorem dJ27_init_2_57 : decode cJ27_init_2 57 = .ok (.iload 4, 2) := dk_21 4 (dk_at dksJ27_init_2_2 9 rfl rfl)
theorem dJ27_init_2_59 : decode cJ27_init_2 59 = .ok (.invokestatic 1051, 3) := dk_184 4 27 (dk_at dksJ27_init_2_2 11 rfl rfl)
theorem dJ27_init_2_62 : decode cJ27_init_2 62 = .ok (.putfield 9, 3) := dk_181 0 9 (dk_at dksJ27_init_2_2 14 rfl rfl)
theorem dJ27_init_2_65 : decode cJ27_init_2 65 = .ok (.aload_n 0, 1) := dk_42 (dk_at dksJ27_init_2_2 17 rfl rfl)
theorem dJ27_init_2_66 : decode cJ27_init_2 66 = .ok (.aload_n 0, 1) := dk_42 (dk_at dksJ27_init_2_2 18 rfl rfl)
theorem dJ27_init_2_67 : decode cJ27_init_2 67 = .ok (.getfield 9, 3) := dk_180 0 9 (dk_at dksJ27_init_2_2 19 rfl rfl)
theorem dJ27_init_2_70 : decode cJ27_init_2 70 = .ok (.iload 4, 2) := dk_21 4 (dk_at dksJ27_init_2_2 22 rfl rfl)
theorem dJ27_init_2_72 : decode cJ27_init_2 72 = .ok (.invokestatic 47, 3) := dk_184 0 47 (dk_at dksJ27_init_2_3 0 rfl rfl)
theorem dJ27_init_2_75 : decode cJ27_init_2 75 = .ok (.putfield 15, 3) := dk_181 0 15 (dk_at dksJ27_init_2_3 3 rfl rfl)
theorem dJ27_init_2_78 : decode cJ27_init_2 78 = .ok (.return_, 1) := dk_177 (dk_at dksJ27_init_2_3 6 rfl rfl)
theorem dJ27_init_2_79 : decode cJ27_init_2 79 = .ok (.aload_n 0, 1) := dk_42 (dk_at dksJ27_init_2_3 7 rfl rfl)
theorem dJ27_init_2_80 : decode cJ27_init_2 80 = .ok (.iconst 1, 1) := dk_4 (dk_at dksJ27_init_2_3 8 rfl rfl)
theorem dJ27_init_2_81 : decode cJ27_init_2 81 = .ok (.putfield 15, 3) := dk_181 0 15 (dk_at dksJ27_init_2_3 9 rfl rfl)
theorem dJ27_init_2_84 : decode cJ27_init_2 84 = .ok (.aload_n 0, 1) := dk_42 (dk_at dksJ27_init_2_3 12 rfl rfl)
theorem dJ27_init_2_85 : decode cJ27_init_2 85 = .ok (.aload_n 3, 1) := dk_45 (dk_at dksJ27_init_2_3 13 rfl rfl)
theorem dJ27_init_2_86 : decode cJ27_init_2 86 = .ok (.iconst 0, 1) := dk_3 (dk_at dksJ27_init_2_3 14 rfl rfl)
theorem dJ27_init_2_87 : decode cJ27_init_2 87 = .ok (.iload 4, 2) := dk_21 4 (dk_at dksJ27_init_2_3 15 rfl rfl)
theorem dJ27_init_2_89 : decode cJ27_init_2 89 = .ok (.iconst 1, 1) := dk_4 (dk_at dksJ27_init_2_3 17 rfl rfl)
theorem dJ27_init_2_90 : decode cJ27_init_2 90 = .ok (.ishl, 1) := dk_120 (dk_at dksJ27_init_2_3 18 rfl rfl)
theorem dJ27_init_2_91 : decode cJ27_init_2 91 = .ok (.invokestatic 54, 3) := dk_184 0 54 (dk_at dksJ27_init_2_3 19 rfl rfl)
theorem dJ27_init_2_94 : decode cJ27_init_2 94 = .ok (.putfield 9, 3) := dk_181 0 9 (dk_at dksJ27_init_2_4 0 rfl rfl)
theorem dJ27_init_2_97 : decode cJ27_init_2 97 = .ok (.return_, 1) := dk_177 (dk_at dksJ27_init_2_4 3 rfl rfl)
abbrev cJ27_checkBoundsBeginEnd : ByteArray := prog_41_method_158_code
def yJ27_checkBoundsBeginEnd : MethodName := ⟨RJ27, "checkBoundsBeginEnd", "(III)V"⟩
def dkwJ27_checkBoundsBeginEnd_0 : List UInt8 := [26, 27, 28, 178, 4, 29, 184, 4, 38, 87, 177]
abbrev dktJ27_checkBoundsBeginEnd_0 : List UInt8 := dkwJ27_checkBoundsBeginEnd_0 ++ []
theorem dksJ27_checkBoundsBeginEnd_0 : cJ27_checkBoundsBeginEnd.data.toList.drop 0 = dktJ27_checkBoundsBeginEnd_0 := by decide +kernel
theorem dJ27_checkBoundsBeginEnd_0 : decode cJ27_checkBoundsBeginEnd 0 = .ok (.iload_n 0, 1) := dk_26 (dk_at dksJ27_checkBoundsBeginEnd_0 0 rfl rfl)
theorem dJ27_checkBoundsBeginEnd_1 : decode cJ27_checkBoundsBeginEnd 1 = .ok (.iload_n 1, 1) := dk_27 (dk_at dksJ27_checkBoundsBeginEnd_0 1 rfl rfl)
theorem dJ27_checkBoundsBeginEnd_2 : decode cJ27_checkBoundsBeginEnd 2 = .ok (.iload_n 2, 1) := dk_28 (dk_at dksJ27_checkBoundsBeginEnd_0 2 rfl rfl)
theorem dJ27_checkBoundsBeginEnd_3 : decode cJ27_checkBoundsBeginEnd 3 = .ok (.getstatic 1053, 3) := dk_178 4 29 (dk_at dksJ27_checkBoundsBeginEnd_0 3 rfl rfl)
theorem dJ27_checkBoundsBeginEnd_6 : decode cJ27_checkBoundsBeginEnd 6 = .ok (.invokestatic 1062, 3) := dk_184 4 38 (dk_at dksJ27_checkBoundsBeginEnd_0 6 rfl rfl)
theorem dJ27_checkBoundsBeginEnd_9 : decode cJ27_checkBoundsBeginEnd 9 = .ok (.pop, 1) := dk_87 (dk_at dksJ27_checkBoundsBeginEnd_0 9 rfl rfl)
theorem dJ27_checkBoundsBeginEnd_10 : decode cJ27_checkBoundsBeginEnd 10 = .ok (.return_, 1) := dk_177 (dk_at dksJ27_checkBoundsBeginEnd_0 10 rfl rfl)
abbrev cJ27_length : ByteArray := prog_41_method_54_code
def yJ27_length : MethodName := ⟨RJ27, "length", "()I"⟩
def dkwJ27_length_0 : List UInt8 := [42, 180, 0, 9, 190, 42, 182, 1, 79, 122, 172]
abbrev dktJ27_length_0 : List UInt8 := dkwJ27_length_0 ++ []
theorem dksJ27_length_0 : cJ27_length.data.toList.drop 0 = dktJ27_length_0 := by decide +kernel
theorem dJ27_length_0 : decode cJ27_length 0 = .ok (.aload_n 0, 1) := dk_42 (dk_at dksJ27_length_0 0 rfl rfl)
theorem dJ27_length_1 : decode cJ27_length 1 = .ok (.getfield 9, 3) := dk_180 0 9 (dk_at dksJ27_length_0 1 rfl rfl)
theorem dJ27_length_4 : decode cJ27_length 4 = .ok (.arraylength, 1) := dk_190 (dk_at dksJ27_length_0 4 rfl rfl)
theorem dJ27_length_5 : decode cJ27_length 5 = .ok (.aload_n 0, 1) := dk_42 (dk_at dksJ27_length_0 5 rfl rfl)
theorem dJ27_length_6 : decode cJ27_length 6 = .ok (.invokevirtual 335, 3) := dk_182 1 79 (dk_at dksJ27_length_0 6 rfl rfl)
theorem dJ27_length_9 : decode cJ27_length 9 = .ok (.ishr, 1) := dk_122 (dk_at dksJ27_length_0 9 rfl rfl)
theorem dJ27_length_10 : decode cJ27_length 10 = .ok (.ireturn, 1) := dk_172 (dk_at dksJ27_length_0 10 rfl rfl)
abbrev cJ27_getBytes : ByteArray := prog_41_method_147_code
def yJ27_getBytes : MethodName := ⟨RJ27, "getBytes", "([BIB)V"⟩
def dkwJ27_getBytes_1 : List UInt8 := [184, 0, 212, 167, 0, 18, 42, 180, 0, 9, 3, 43, 28, 42, 180, 0, 9, 190, 184, 0, 106, 177]
abbrev dktJ27_getBytes_1 : List UInt8 := dkwJ27_getBytes_1 ++ []
def dkwJ27_getBytes_0 : List UInt8 := [42, 182, 1, 79, 29, 160, 0, 23, 42, 180, 0, 9, 3, 43, 28, 29, 120, 42, 180, 0, 9, 190]
abbrev dktJ27_getBytes_0 : List UInt8 := dkwJ27_getBytes_0 ++ dktJ27_getBytes_1
theorem dksJ27_getBytes_0 : cJ27_getBytes.data.toList.drop 0 = dktJ27_getBytes_0 := by decide +kernel
theorem dksJ27_getBytes_1 : cJ27_getBytes.data.toList.drop 22 = dktJ27_getBytes_1 := dk_seg dksJ27_getBytes_0 22 rfl rfl
theorem dJ27_getBytes_0 : decode cJ27_getBytes 0 = .ok (.aload_n 0, 1) := dk_42 (dk_at dksJ27_getBytes_0 0 rfl rfl)
theorem dJ27_getBytes_1 : decode cJ27_getBytes 1 = .ok (.invokevirtual 335, 3) := dk_182 1 79 (dk_at dksJ27_getBytes_0 1 rfl rfl)
theorem dJ27_getBytes_4 : decode cJ27_getBytes 4 = .ok (.iload_n 3, 1) := dk_29 (dk_at dksJ27_getBytes_0 4 rfl rfl)
theorem dJ27_getBytes_5 : decode cJ27_getBytes 5 = .ok (.if_icmp .ne 23, 3) := dk_160 0 23 (dk_at dksJ27_getBytes_0 5 rfl rfl)
theorem dJ27_getBytes_8 : decode cJ27_getBytes 8 = .ok (.aload_n 0, 1) := dk_42 (dk_at dksJ27_getBytes_0 8 rfl rfl)
theorem dJ27_getBytes_9 : decode cJ27_getBytes 9 = .ok (.getfield 9, 3) := dk_180 0 9 (dk_at dksJ27_getBytes_0 9 rfl rfl)
theorem dJ27_getBytes_12 : decode cJ27_getBytes 12 = .ok (.iconst 0, 1) := dk_3 (dk_at dksJ27_getBytes_0 12 rfl rfl)
theorem dJ27_getBytes_13 : decode cJ27_getBytes 13 = .ok (.aload_n 1, 1) := dk_43 (dk_at dksJ27_getBytes_0 13 rfl rfl)
theorem dJ27_getBytes_14 : decode cJ27_getBytes 14 = .ok (.iload_n 2, 1) := dk_28 (dk_at dksJ27_getBytes_0 14 rfl rfl)
theorem dJ27_getBytes_15 : decode cJ27_getBytes 15 = .ok (.iload_n 3, 1) := dk_29 (dk_at dksJ27_getBytes_0 15 rfl rfl)
theorem dJ27_getBytes_16 : decode cJ27_getBytes 16 = .ok (.ishl, 1) := dk_120 (dk_at dksJ27_getBytes_0 16 rfl rfl)
theorem dJ27_getBytes_17 : decode cJ27_getBytes 17 = .ok (.aload_n 0, 1) := dk_42 (dk_at dksJ27_getBytes_0 17 rfl rfl)
theorem dJ27_getBytes_18 : decode cJ27_getBytes 18 = .ok (.getfield 9, 3) := dk_180 0 9 (dk_at dksJ27_getBytes_0 18 rfl rfl)
theorem dJ27_getBytes_21 : decode cJ27_getBytes 21 = .ok (.arraylength, 1) := dk_190 (dk_at dksJ27_getBytes_0 21 rfl rfl)
theorem dJ27_getBytes_22 : decode cJ27_getBytes 22 = .ok (.invokestatic 212, 3) := dk_184 0 212 (dk_at dksJ27_getBytes_1 0 rfl rfl)
theorem dJ27_getBytes_25 : decode cJ27_getBytes 25 = .ok (.goto 18, 3) := dk_167 0 18 (dk_at dksJ27_getBytes_1 3 rfl rfl)
theorem dJ27_getBytes_28 : decode cJ27_getBytes 28 = .ok (.aload_n 0, 1) := dk_42 (dk_at dksJ27_getBytes_1 6 rfl rfl)
theorem dJ27_getBytes_29 : decode cJ27_getBytes 29 = .ok (.getfield 9, 3) := dk_180 0 9 (dk_at dksJ27_getBytes_1 7 rfl rfl)
theorem dJ27_getBytes_32 : decode cJ27_getBytes 32 = .ok (.iconst 0, 1) := dk_3 (dk_at dksJ27_getBytes_1 10 rfl rfl)
theorem dJ27_getBytes_33 : decode cJ27_getBytes 33 = .ok (.aload_n 1, 1) := dk_43 (dk_at dksJ27_getBytes_1 11 rfl rfl)
theorem dJ27_getBytes_34 : decode cJ27_getBytes 34 = .ok (.iload_n 2, 1) := dk_28 (dk_at dksJ27_getBytes_1 12 rfl rfl)
theorem dJ27_getBytes_35 : decode cJ27_getBytes 35 = .ok (.aload_n 0, 1) := dk_42 (dk_at dksJ27_getBytes_1 13 rfl rfl)
theorem dJ27_getBytes_36 : decode cJ27_getBytes 36 = .ok (.getfield 9, 3) := dk_180 0 9 (dk_at dksJ27_getBytes_1 14 rfl rfl)
theorem dJ27_getBytes_39 : decode cJ27_getBytes 39 = .ok (.arraylength, 1) := dk_190 (dk_at dksJ27_getBytes_1 17 rfl rfl)
theorem dJ27_getBytes_40 : decode cJ27_getBytes 40 = .ok (.invokestatic 106, 3) := dk_184 0 106 (dk_at dksJ27_getBytes_1 18 rfl rfl)
theorem dJ27_getBytes_43 : decode cJ27_getBytes 43 = .ok (.return_, 1) := dk_177 (dk_at dksJ27_getBytes_1 21 rfl rfl)
abbrev cJ27_indexOf : ByteArray := prog_41_method_84_code
def yJ27_indexOf : MethodName := ⟨RJ27, "indexOf", "(Ljava/lang/String;)I"⟩
def dkwJ27_indexOf_2 : List UInt8 := [154, 0, 5, 2, 172, 42, 180, 0, 9, 43, 180, 0, 9, 184, 2, 138, 172]
abbrev dktJ27_indexOf_2 : List UInt8 := dkwJ27_indexOf_2 ++ []
def dkwJ27_indexOf_1 : List UInt8 := [43, 180, 0, 9, 184, 2, 135, 167, 0, 14, 42, 180, 0, 9, 43, 180, 0, 9, 184, 2, 137, 172, 28]
abbrev dktJ27_indexOf_1 : List UInt8 := dkwJ27_indexOf_1 ++ dktJ27_indexOf_2
def dkwJ27_indexOf_0 : List UInt8 := [42, 182, 1, 79, 61, 28, 43, 182, 1, 79, 160, 0, 36, 42, 182, 1, 236, 153, 0, 17, 42, 180, 0, 9]
abbrev dktJ27_indexOf_0 : List UInt8 := dkwJ27_indexOf_0 ++ dktJ27_indexOf_1
theorem dksJ27_indexOf_0 : cJ27_indexOf.data.toList.drop 0 = dktJ27_indexOf_0 := by decide +kernel
theorem dksJ27_indexOf_1 : cJ27_indexOf.data.toList.drop 24 = dktJ27_indexOf_1 := dk_seg dksJ27_indexOf_0 24 rfl rfl
theorem dksJ27_indexOf_2 : cJ27_indexOf.data.toList.drop 47 = dktJ27_indexOf_2 := dk_seg dksJ27_indexOf_1 23 rfl rfl
theorem dJ27_indexOf_0 : decode cJ27_indexOf 0 = .ok (.aload_n 0, 1) := dk_42 (dk_at dksJ27_indexOf_0 0 rfl rfl)
theorem dJ27_indexOf_1 : decode cJ27_indexOf 1 = .ok (.invokevirtual 335, 3) := dk_182 1 79 (dk_at dksJ27_indexOf_0 1 rfl rfl)
theorem dJ27_indexOf_4 : decode cJ27_indexOf 4 = .ok (.istore_n 2, 1) := dk_61 (dk_at dksJ27_indexOf_0 4 rfl rfl)
theorem dJ27_indexOf_5 : decode cJ27_indexOf 5 = .ok (.iload_n 2, 1) := dk_28 (dk_at dksJ27_indexOf_0 5 rfl rfl)
theorem dJ27_indexOf_6 : decode cJ27_indexOf 6 = .ok (.aload_n 1, 1) := dk_43 (dk_at dksJ27_indexOf_0 6 rfl rfl)
theorem dJ27_indexOf_7 : decode cJ27_indexOf 7 = .ok (.invokevirtual 335, 3) := dk_182 1 79 (dk_at dksJ27_indexOf_0 7 rfl rfl)
theorem dJ27_indexOf_10 : decode cJ27_indexOf 10 = .ok (.if_icmp .ne 36, 3) := dk_160 0 36 (dk_at dksJ27_indexOf_0 10 rfl rfl)
theorem dJ27_indexOf_13 : decode cJ27_indexOf 13 = .ok (.aload_n 0, 1) := dk_42 (dk_at dksJ27_indexOf_0 13 rfl rfl)
theorem dJ27_indexOf_14 : decode cJ27_indexOf 14 = .ok (.invokevirtual 492, 3) := dk_182 1 236 (dk_at dksJ27_indexOf_0 14 rfl rfl)
theorem dJ27_indexOf_17 : decode cJ27_indexOf 17 = .ok (.ifCond .eq 17, 3) := dk_153 0 17 (dk_at dksJ27_indexOf_0 17 rfl rfl)
theorem dJ27_indexOf_20 : decode cJ27_indexOf 20 = .ok (.aload_n 0, 1) := dk_42 (dk_at dksJ27_indexOf_0 20 rfl rfl)
theorem dJ27_indexOf_21 : decode cJ27_indexOf 21 = .ok (.getfield 9, 3) := dk_180 0 9 (dk_at dksJ27_indexOf_0 21 rfl rfl)
theorem dJ27_indexOf_24 : decode cJ27_indexOf 24 = .ok (.aload_n 1, 1) := dk_43 (dk_at dksJ27_indexOf_1 0 rfl rfl)
theorem dJ27_indexOf_25 : decode cJ27_indexOf 25 = .ok (.getfield 9, 3) := dk_180 0 9 (dk_at dksJ27_indexOf_1 1 rfl rfl)
theorem dJ27_indexOf_28 : decode cJ27_indexOf 28 = .ok (.invokestatic 647, 3) := dk_184 2 135 (dk_at dksJ27_indexOf_1 4 rfl rfl)
theorem dJ27_indexOf_31 : decode cJ27_indexOf 31 = .ok (.goto 14, 3) := dk_167 0 14 (dk_at dksJ27_indexOf_1 7 rfl rfl)
theorem dJ27_indexOf_34 : decode cJ27_indexOf 34 = .ok (.aload_n 0, 1) := dk_42 (dk_at dksJ27_indexOf_1 10 rfl rfl)
theorem dJ27_indexOf_35 : decode cJ27_indexOf 35 = .ok (.getfield 9, 3) := dk_180 0 9 (dk_at dksJ27_indexOf_1 11 rfl rfl)
theorem dJ27_indexOf_38 : decode cJ27_indexOf 38 = .ok (.aload_n 1, 1) := dk_43 (dk_at dksJ27_indexOf_1 14 rfl rfl)
theorem dJ27_indexOf_39 : decode cJ27_indexOf 39 = .ok (.getfield 9, 3) := dk_180 0 9 (dk_at dksJ27_indexOf_1 15 rfl rfl)
theorem dJ27_indexOf_42 : decode cJ27_indexOf 42 = .ok (.invokestatic 649, 3) := dk_184 2 137 (dk_at dksJ27_indexOf_1 18 rfl rfl)
theorem dJ27_indexOf_45 : decode cJ27_indexOf 45 = .ok (.ireturn, 1) := dk_172 (dk_at dksJ27_indexOf_1 21 rfl rfl)
theorem dJ27_indexOf_46 : decode cJ27_indexOf 46 = .ok (.iload_n 2, 1) := dk_28 (dk_at dksJ27_indexOf_1 22 rfl rfl)
theorem dJ27_indexOf_47 : decode cJ27_indexOf 47 = .ok (.ifCond .ne 5, 3) := dk_154 0 5 (dk_at dksJ27_indexOf_2 0 rfl rfl)
theorem dJ27_indexOf_50 : decode cJ27_indexOf 50 = .ok (.iconst (-1), 1) := dk_2 (dk_at dksJ27_indexOf_2 3 rfl rfl)
theorem dJ27_indexOf_51 : decode cJ27_indexOf 51 = .ok (.ireturn, 1) := dk_172 (dk_at dksJ27_indexOf_2 4 rfl rfl)
theorem dJ27_indexOf_52 : decode cJ27_indexOf 52 = .ok (.aload_n 0, 1) := dk_42 (dk_at dksJ27_indexOf_2 5 rfl rfl)
theorem dJ27_indexOf_53 : decode cJ27_indexOf 53 = .ok (.getfield 9, 3) := dk_180 0 9 (dk_at dksJ27_indexOf_2 6 rfl rfl)
theorem dJ27_indexOf_56 : decode cJ27_indexOf 56 = .ok (.aload_n 1, 1) := dk_43 (dk_at dksJ27_indexOf_2 9 rfl rfl)
theorem dJ27_indexOf_57 : decode cJ27_indexOf 57 = .ok (.getfield 9, 3) := dk_180 0 9 (dk_at dksJ27_indexOf_2 10 rfl rfl)
theorem dJ27_indexOf_60 : decode cJ27_indexOf 60 = .ok (.invokestatic 650, 3) := dk_184 2 138 (dk_at dksJ27_indexOf_2 13 rfl rfl)
theorem dJ27_indexOf_63 : decode cJ27_indexOf 63 = .ok (.ireturn, 1) := dk_172 (dk_at dksJ27_indexOf_2 16 rfl rfl)
abbrev cJ27_charAt : ByteArray := prog_41_method_56_code
def yJ27_charAt : MethodName := ⟨RJ27, "charAt", "(I)C"⟩
def dkwJ27_charAt_1 : List UInt8 := [172]
abbrev dktJ27_charAt_1 : List UInt8 := dkwJ27_charAt_1 ++ []
def dkwJ27_charAt_0 : List UInt8 := [42, 182, 1, 236, 153, 0, 12, 42, 180, 0, 9, 27, 184, 1, 239, 172, 42, 180, 0, 9, 27, 184, 1, 242]
abbrev dktJ27_charAt_0 : List UInt8 := dkwJ27_charAt_0 ++ dktJ27_charAt_1
theorem dksJ27_charAt_0 : cJ27_charAt.data.toList.drop 0 = dktJ27_charAt_0 := by decide +kernel
theorem dksJ27_charAt_1 : cJ27_charAt.data.toList.drop 24 = dktJ27_charAt_1 := dk_seg dksJ27_charAt_0 24 rfl rfl
theorem dJ27_charAt_0 : decode cJ27_charAt 0 = .ok (.aload_n 0, 1) := dk_42 (dk_at dksJ27_charAt_0 0 rfl rfl)
theorem dJ27_charAt_1 : decode cJ27_charAt 1 = .ok (.invokevirtual 492, 3) := dk_182 1 236 (dk_at dksJ27_charAt_0 1 rfl rfl)
theorem dJ27_charAt_4 : decode cJ27_charAt 4 = .ok (.ifCond .eq 12, 3) := dk_153 0 12 (dk_at dksJ27_charAt_0 4 rfl rfl)
theorem dJ27_charAt_7 : decode cJ27_charAt 7 = .ok (.aload_n 0, 1) := dk_42 (dk_at dksJ27_charAt_0 7 rfl rfl)
theorem dJ27_charAt_8 : decode cJ27_charAt 8 = .ok (.getfield 9, 3) := dk_180 0 9 (dk_at dksJ27_charAt_0 8 rfl rfl)
theorem dJ27_charAt_11 : decode cJ27_charAt 11 = .ok (.iload_n 1, 1) := dk_27 (dk_at dksJ27_charAt_0 11 rfl rfl)
theorem dJ27_charAt_12 : decode cJ27_charAt 12 = .ok (.invokestatic 495, 3) := dk_184 1 239 (dk_at dksJ27_charAt_0 12 rfl rfl)
theorem dJ27_charAt_15 : decode cJ27_charAt 15 = .ok (.ireturn, 1) := dk_172 (dk_at dksJ27_charAt_0 15 rfl rfl)
theorem dJ27_charAt_16 : decode cJ27_charAt 16 = .ok (.aload_n 0, 1) := dk_42 (dk_at dksJ27_charAt_0 16 rfl rfl)
theorem dJ27_charAt_17 : decode cJ27_charAt 17 = .ok (.getfield 9, 3) := dk_180 0 9 (dk_at dksJ27_charAt_0 17 rfl rfl)
theorem dJ27_charAt_20 : decode cJ27_charAt 20 = .ok (.iload_n 1, 1) := dk_27 (dk_at dksJ27_charAt_0 20 rfl rfl)
theorem dJ27_charAt_21 : decode cJ27_charAt 21 = .ok (.invokestatic 498, 3) := dk_184 1 242 (dk_at dksJ27_charAt_0 21 rfl rfl)
theorem dJ27_charAt_24 : decode cJ27_charAt 24 = .ok (.ireturn, 1) := dk_172 (dk_at dksJ27_charAt_1 0 rfl rfl)
theorem q139 : (Jvm.Cond.initialized "java/lang/String") ∈ lw_all := lw_g (lw_at lw_m1 33 rfl) rfl
theorem q623 : (Jvm.Cond.selects "java/lang/String" ({ cls := "java/lang/Object", name := "getClass", desc := "()Ljava/lang/Class;" } : Jvm.MethodName) ({ cls := "java/lang/Object", name := "getClass", desc := "()Ljava/lang/Class;" } : Jvm.MethodName)) ∈ lw_all := lw_g (lw_at lw_m3 37 rfl) rfl
theorem q941 : (Jvm.Cond.selects "java/lang/String" ({ cls := "java/lang/Object", name := "hashCode", desc := "()I" } : Jvm.MethodName) ({ cls := "java/lang/String", name := "hashCode", desc := "()I" } : Jvm.MethodName)) ∈ lw_all := lw_g (lw_at lw_m4 115 rfl) rfl
theorem q942 : (Jvm.Cond.instanceMethod ({ cls := "java/lang/String", name := "hashCode", desc := "()I" } : Jvm.MethodName)) ∈ lw_all := lw_g (lw_at lw_m4 116 rfl) rfl
theorem q943 : (Jvm.Cond.code ({ cls := "java/lang/String", name := "hashCode", desc := "()I" } : Jvm.MethodName) prog_41_method_78_code (2 : Nat) (Option.some Jvm.ClassFile.FieldType.int)) ∈ lw_all := lw_g (lw_at lw_m4 117 rfl) rfl
theorem q944 : (Jvm.Cond.methodLink "java/lang/String" (492 : Nat) ({ cls := "java/lang/String", name := "isLatin1", desc := "()Z" } : Jvm.MethodName)) ∈ lw_all := lw_g (lw_at lw_m4 118 rfl) rfl
theorem q945 : (Jvm.Cond.instanceMethod ({ cls := "java/lang/String", name := "isLatin1", desc := "()Z" } : Jvm.MethodName)) ∈ lw_all := lw_g (lw_at lw_m4 119 rfl) rfl
theorem q946 : (Jvm.Cond.selects "java/lang/String" ({ cls := "java/lang/String", name := "isLatin1", desc := "()Z" } : Jvm.MethodName) ({ cls := "java/lang/String", name := "isLatin1", desc := "()Z" } : Jvm.MethodName)) ∈ lw_all := lw_g (lw_at lw_m4 120 rfl) rfl
theorem q947 : (Jvm.Cond.code ({ cls := "java/lang/String", name := "isLatin1", desc := "()Z" } : Jvm.MethodName) prog_41_method_154_code (1 : Nat) (Option.some Jvm.ClassFile.FieldType.boolean)) ∈ lw_all := lw_g (lw_at lw_m4 121 rfl) rfl
theorem q948 : (Jvm.Cond.fieldLink "java/lang/String" (38 : Nat) "java/lang/String" "COMPACT_STRINGS" "Z") ∈ lw_all := lw_g (lw_at lw_m4 122 rfl) rfl
theorem q949 : (Jvm.Cond.laysStatic "java/lang/String" "COMPACT_STRINGS" "Z") ∈ lw_tbl := lw_at lw_m4 123 rfl
theorem q950 : (Jvm.Cond.methodLink "java/lang/String" (628 : Nat) ({ cls := "java/lang/StringLatin1", name := "hashCode", desc := "([B)I" } : Jvm.MethodName)) ∈ lw_all := lw_g (lw_at lw_m4 124 rfl) rfl
theorem q1002 : (Jvm.Cond.methodLink "java/lang/String" (632 : Nat) ({ cls := "java/lang/StringUTF16", name := "hashCode", desc := "([B)I" } : Jvm.MethodName)) ∈ lw_all := lw_g (lw_at lw_m4 176 rfl) rfl
theorem q1056 : (Jvm.Cond.selects "java/lang/String" ({ cls := "java/lang/Object", name := "equals", desc := "(Ljava/lang/Object;)Z" } : Jvm.MethodName) ({ cls := "java/lang/String", name := "equals", desc := "(Ljava/lang/Object;)Z" } : Jvm.MethodName)) ∈ lw_all := lw_g (lw_at lw_m4 230 rfl) rfl
theorem q1057 : (Jvm.Cond.instanceMethod ({ cls := "java/lang/String", name := "equals", desc := "(Ljava/lang/Object;)Z" } : Jvm.MethodName)) ∈ lw_all := lw_g (lw_at lw_m4 231 rfl) rfl
theorem q1058 : (Jvm.Cond.code ({ cls := "java/lang/String", name := "equals", desc := "(Ljava/lang/Object;)Z" } : Jvm.MethodName) prog_41_method_66_code (3 : Nat) (Option.some Jvm.ClassFile.FieldType.boolean)) ∈ lw_all := lw_g (lw_at lw_m4 232 rfl) rfl
theorem q1059 : (Jvm.Cond.classLink "java/lang/String" (10 : Nat) "java/lang/String") ∈ lw_all := lw_g (lw_at lw_m4 233 rfl) rfl
theorem q1060 : (Jvm.Cond.methodLink "java/lang/String" (541 : Nat) ({ cls := "java/lang/StringLatin1", name := "equals", desc := "([B[B)Z" } : Jvm.MethodName)) ∈ lw_all := lw_g (lw_at lw_m4 234 rfl) rfl
theorem q1107 : (Jvm.Cond.castable "java/lang/String" "java/lang/Comparable") ∈ lw_tbl := lw_at lw_m5 41 rfl
theorem q1108 : (Jvm.Cond.selects "java/lang/String" ({ cls := "java/lang/Comparable", name := "compareTo", desc := "(Ljava/lang/Object;)I" } : Jvm.MethodName) ({ cls := "java/lang/String", name := "compareTo", desc := "(Ljava/lang/Object;)I" } : Jvm.MethodName)) ∈ lw_all := lw_g (lw_at lw_m5 42 rfl) rfl
theorem q1109 : (Jvm.Cond.unhidden "java/lang/String" "compareTo" "(Ljava/lang/Object;)I") ∈ lw_tbl := lw_at lw_m5 43 rfl
theorem q1110 : (Jvm.Cond.instanceMethod ({ cls := "java/lang/String", name := "compareTo", desc := "(Ljava/lang/Object;)I" } : Jvm.MethodName)) ∈ lw_all := lw_g (lw_at lw_m5 44 rfl) rfl
theorem q1111 : (Jvm.Cond.publicMethod ({ cls := "java/lang/String", name := "compareTo", desc := "(Ljava/lang/Object;)I" } : Jvm.MethodName)) ∈ lw_tbl := lw_at lw_m5 45 rfl
theorem q1112 : (Jvm.Cond.code ({ cls := "java/lang/String", name := "compareTo", desc := "(Ljava/lang/Object;)I" } : Jvm.MethodName) prog_41_method_162_code (2 : Nat) (Option.some Jvm.ClassFile.FieldType.int)) ∈ lw_all := lw_g (lw_at lw_m5 46 rfl) rfl
theorem q1113 : (Jvm.Cond.methodLink "java/lang/String" (1084 : Nat) ({ cls := "java/lang/String", name := "compareTo", desc := "(Ljava/lang/String;)I" } : Jvm.MethodName)) ∈ lw_all := lw_g (lw_at lw_m5 47 rfl) rfl
theorem q1114 : (Jvm.Cond.instanceMethod ({ cls := "java/lang/String", name := "compareTo", desc := "(Ljava/lang/String;)I" } : Jvm.MethodName)) ∈ lw_all := lw_g (lw_at lw_m5 48 rfl) rfl
theorem q1115 : (Jvm.Cond.selects "java/lang/String" ({ cls := "java/lang/String", name := "compareTo", desc := "(Ljava/lang/String;)I" } : Jvm.MethodName) ({ cls := "java/lang/String", name := "compareTo", desc := "(Ljava/lang/String;)I" } : Jvm.MethodName)) ∈ lw_all := lw_g (lw_at lw_m5 49 rfl) rfl
theorem q1116 : (Jvm.Cond.code ({ cls := "java/lang/String", name := "compareTo", desc := "(Ljava/lang/String;)I" } : Jvm.MethodName) prog_41_method_71_code (5 : Nat) (Option.some Jvm.ClassFile.FieldType.int)) ∈ lw_all := lw_g (lw_at lw_m5 50 rfl) rfl
theorem q1117 : (Jvm.Cond.methodLink "java/lang/String" (335 : Nat) ({ cls := "java/lang/String", name := "coder", desc := "()B" } : Jvm.MethodName)) ∈ lw_all := lw_g (lw_at lw_m5 51 rfl) rfl
theorem q1118 : (Jvm.Cond.instanceMethod ({ cls := "java/lang/String", name := "coder", desc := "()B" } : Jvm.MethodName)) ∈ lw_all := lw_g (lw_at lw_m5 52 rfl) rfl
theorem q1119 : (Jvm.Cond.selects "java/lang/String" ({ cls := "java/lang/String", name := "coder", desc := "()B" } : Jvm.MethodName) ({ cls := "java/lang/String", name := "coder", desc := "()B" } : Jvm.MethodName)) ∈ lw_all := lw_g (lw_at lw_m5 53 rfl) rfl
theorem q1120 : (Jvm.Cond.code ({ cls := "java/lang/String", name := "coder", desc := "()B" } : Jvm.MethodName) prog_41_method_152_code (1 : Nat) (Option.some Jvm.ClassFile.FieldType.byte)) ∈ lw_all := lw_g (lw_at lw_m5 54 rfl) rfl
theorem q1121 : (Jvm.Cond.methodLink "java/lang/String" (586 : Nat) ({ cls := "java/lang/StringLatin1", name := "compareTo", desc := "([B[B)I" } : Jvm.MethodName)) ∈ lw_all := lw_g (lw_at lw_m5 55 rfl) rfl
theorem q1232 : (Jvm.Cond.methodLink "java/lang/String" (590 : Nat) ({ cls := "java/lang/StringUTF16", name := "compareTo", desc := "([B[B)I" } : Jvm.MethodName)) ∈ lw_all := lw_g (lw_at lw_m5 166 rfl) rfl
theorem q1239 : (Jvm.Cond.methodLink "java/lang/String" (591 : Nat) ({ cls := "java/lang/StringLatin1", name := "compareToUTF16", desc := "([B[B)I" } : Jvm.MethodName)) ∈ lw_all := lw_g (lw_at lw_m5 173 rfl) rfl
theorem q1250 : (Jvm.Cond.methodLink "java/lang/String" (594 : Nat) ({ cls := "java/lang/StringUTF16", name := "compareToLatin1", desc := "([B[B)I" } : Jvm.MethodName)) ∈ lw_all := lw_g (lw_at lw_m5 184 rfl) rfl
theorem q1283 : (Jvm.Cond.static ({ cls := "java/lang/String", name := "checkOffset", desc := "(II)V" } : Jvm.MethodName)) ∈ lw_all := lw_g (lw_at lw_m5 217 rfl) rfl
theorem q1284 : (Jvm.Cond.code ({ cls := "java/lang/String", name := "checkOffset", desc := "(II)V" } : Jvm.MethodName) prog_41_method_156_code (2 : Nat) (Option.none : Option Jvm.ClassFile.FieldType)) ∈ lw_all := lw_g (lw_at lw_m5 218 rfl) rfl
theorem q1285 : (Jvm.Cond.fieldLink "java/lang/String" (1053 : Nat) "jdk/internal/util/Preconditions" "SIOOBE_FORMATTER" "Ljava/util/function/BiFunction;") ∈ lw_all := lw_g (lw_at lw_m5 219 rfl) rfl
theorem q1287 : (Jvm.Cond.methodLink "java/lang/String" (1062 : Nat) ({ cls := "jdk/internal/util/Preconditions", name := "checkFromToIndex", desc := "(IIILjava/util/function/BiFunction;)I" } : Jvm.MethodName)) ∈ lw_all := lw_g (lw_at lw_m5 221 rfl) rfl
theorem q1590 : (Jvm.Cond.fieldLink "java/lang/String" (1048 : Nat) "java/lang/AbstractStringBuilder" "maybeLatin1" "Z") ∈ lw_all := lw_g (lw_at lw_m7 44 rfl) rfl
theorem q1644 : (Jvm.Cond.static ({ cls := "java/lang/String", name := "checkBoundsOffCount", desc := "(III)I" } : Jvm.MethodName)) ∈ lw_all := lw_g (lw_at lw_m7 98 rfl) rfl
theorem q1645 : (Jvm.Cond.code ({ cls := "java/lang/String", name := "checkBoundsOffCount", desc := "(III)I" } : Jvm.MethodName) prog_41_method_157_code (3 : Nat) (Option.some Jvm.ClassFile.FieldType.int)) ∈ lw_all := lw_g (lw_at lw_m7 99 rfl) rfl
theorem q1646 : (Jvm.Cond.methodLink "java/lang/String" (1065 : Nat) ({ cls := "jdk/internal/util/Preconditions", name := "checkFromIndexSize", desc := "(IIILjava/util/function/BiFunction;)I" } : Jvm.MethodName)) ∈ lw_all := lw_g (lw_at lw_m7 100 rfl) rfl
theorem q1659 : (Jvm.Cond.static ({ cls := "java/lang/String", name := "checkIndex", desc := "(II)V" } : Jvm.MethodName)) ∈ lw_all := lw_g (lw_at lw_m7 113 rfl) rfl
theorem q1660 : (Jvm.Cond.code ({ cls := "java/lang/String", name := "checkIndex", desc := "(II)V" } : Jvm.MethodName) prog_41_method_155_code (2 : Nat) (Option.none : Option Jvm.ClassFile.FieldType)) ∈ lw_all := lw_g (lw_at lw_m7 114 rfl) rfl
theorem q1661 : (Jvm.Cond.methodLink "java/lang/String" (1059 : Nat) ({ cls := "jdk/internal/util/Preconditions", name := "checkIndex", desc := "(IILjava/util/function/BiFunction;)I" } : Jvm.MethodName)) ∈ lw_all := lw_g (lw_at lw_m7 115 rfl) rfl
theorem q1667 : (Jvm.Cond.instantiable "java/lang/String" (4 : Nat)) ∈ lw_all := lw_g (lw_at lw_m7 121 rfl) rfl
theorem q1669 : (Jvm.Cond.instanceMethod ({ cls := "java/lang/String", name := "<init>", desc := "(Ljava/lang/StringBuilder;)V" } : Jvm.MethodName)) ∈ lw_all := lw_g (lw_at lw_m7 123 rfl) rfl
theorem q1670 : (Jvm.Cond.code ({ cls := "java/lang/String", name := "<init>", desc := "(Ljava/lang/StringBuilder;)V" } : Jvm.MethodName) prog_41_method_53_code (2 : Nat) (Option.none : Option Jvm.ClassFile.FieldType)) ∈ lw_all := lw_g (lw_at lw_m7 124 rfl) rfl
theorem q1671 : (Jvm.Cond.methodLink "java/lang/String" (489 : Nat) ({ cls := "java/lang/String", name := "<init>", desc := "(Ljava/lang/AbstractStringBuilder;Ljava/lang/Void;)V" } : Jvm.MethodName)) ∈ lw_all := lw_g (lw_at lw_m7 125 rfl) rfl
theorem q1672 : (Jvm.Cond.instanceMethod ({ cls := "java/lang/String", name := "<init>", desc := "(Ljava/lang/AbstractStringBuilder;Ljava/lang/Void;)V" } : Jvm.MethodName)) ∈ lw_all := lw_g (lw_at lw_m7 126 rfl) rfl
theorem q1673 : (Jvm.Cond.code ({ cls := "java/lang/String", name := "<init>", desc := "(Ljava/lang/AbstractStringBuilder;Ljava/lang/Void;)V" } : Jvm.MethodName) prog_41_method_150_code (5 : Nat) (Option.none : Option Jvm.ClassFile.FieldType)) ∈ lw_all := lw_g (lw_at lw_m7 127 rfl) rfl
theorem q1674 : (Jvm.Cond.methodLink "java/lang/String" (1 : Nat) ({ cls := "java/lang/Object", name := "<init>", desc := "()V" } : Jvm.MethodName)) ∈ lw_all := lw_g (lw_at lw_m7 128 rfl) rfl
theorem q1675 : (Jvm.Cond.methodLink "java/lang/String" (552 : Nat) ({ cls := "java/lang/AbstractStringBuilder", name := "getValue", desc := "()[B" } : Jvm.MethodName)) ∈ lw_all := lw_g (lw_at lw_m7 129 rfl) rfl
theorem q1680 : (Jvm.Cond.methodLink "java/lang/String" (549 : Nat) ({ cls := "java/lang/AbstractStringBuilder", name := "length", desc := "()I" } : Jvm.MethodName)) ∈ lw_all := lw_g (lw_at lw_m7 134 rfl) rfl
theorem q1688 : (Jvm.Cond.methodLink "java/lang/String" (1047 : Nat) ({ cls := "java/lang/AbstractStringBuilder", name := "isLatin1", desc := "()Z" } : Jvm.MethodName)) ∈ lw_all := lw_g (lw_at lw_m7 142 rfl) rfl
theorem q1689 : (Jvm.Cond.methodLink "java/lang/String" (54 : Nat) ({ cls := "java/util/Arrays", name := "copyOfRange", desc := "([BII)[B" } : Jvm.MethodName)) ∈ lw_all := lw_g (lw_at lw_m7 143 rfl) rfl
theorem q1698 : (Jvm.Cond.methodLink "java/lang/String" (1051 : Nat) ({ cls := "java/lang/StringUTF16", name := "compress", desc := "([BII)[B" } : Jvm.MethodName)) ∈ lw_all := lw_g (lw_at lw_m7 152 rfl) rfl
theorem q1705 : (Jvm.Cond.methodLink "java/lang/String" (47 : Nat) ({ cls := "java/lang/StringUTF16", name := "coderFromArrayLen", desc := "([BI)B" } : Jvm.MethodName)) ∈ lw_all := lw_g (lw_at lw_m7 159 rfl) rfl
theorem q1708 : (Jvm.Cond.fieldLink "java/lang/String" (9 : Nat) "java/lang/String" "value" "[B") ∈ lw_all := lw_g (lw_at lw_m7 162 rfl) rfl
theorem q1709 : (Jvm.Cond.fieldLink "java/lang/String" (15 : Nat) "java/lang/String" "coder" "B") ∈ lw_all := lw_g (lw_at lw_m7 163 rfl) rfl
theorem q1710 : (Jvm.Cond.fieldLink "java/lang/String" (19 : Nat) "java/lang/String" "hash" "I") ∈ lw_all := lw_g (lw_at lw_m7 164 rfl) rfl
theorem q1711 : (Jvm.Cond.fieldLink "java/lang/String" (23 : Nat) "java/lang/String" "hashIsZero" "Z") ∈ lw_all := lw_g (lw_at lw_m7 165 rfl) rfl
theorem q1712 : (Jvm.Cond.laysFinal "java/lang/String" "java/lang/String" "value" "[B") ∈ lw_all := lw_g (lw_at lw_m7 166 rfl) rfl
theorem q1713 : (Jvm.Cond.soleField "java/lang/String" "value") ∈ lw_all := lw_g (lw_at lw_m7 167 rfl) rfl
theorem q1714 : (Jvm.Cond.laysFinal "java/lang/String" "java/lang/String" "coder" "B") ∈ lw_all := lw_g (lw_at lw_m7 168 rfl) rfl
theorem q1715 : (Jvm.Cond.soleField "java/lang/String" "coder") ∈ lw_all := lw_g (lw_at lw_m7 169 rfl) rfl
theorem q1716 : (Jvm.Cond.lays "java/lang/String" "java/lang/String" "hash" "I") ∈ lw_all := lw_g (lw_at lw_m7 170 rfl) rfl
theorem q1717 : (Jvm.Cond.soleField "java/lang/String" "hash") ∈ lw_all := lw_g (lw_at lw_m7 171 rfl) rfl
theorem q1718 : (Jvm.Cond.lays "java/lang/String" "java/lang/String" "hashIsZero" "Z") ∈ lw_all := lw_g (lw_at lw_m7 172 rfl) rfl
theorem q1719 : (Jvm.Cond.soleField "java/lang/String" "hashIsZero") ∈ lw_all := lw_g (lw_at lw_m7 173 rfl) rfl
theorem q1720 : (Jvm.Cond.superclass "java/lang/String" "java/lang/Object") ∈ lw_all := lw_g (lw_at lw_m7 174 rfl) rfl
theorem q1810 : (Jvm.Cond.static ({ cls := "java/lang/String", name := "checkBoundsBeginEnd", desc := "(III)V" } : Jvm.MethodName)) ∈ lw_all := lw_g (lw_at lw_m8 24 rfl) rfl
theorem q1811 : (Jvm.Cond.code ({ cls := "java/lang/String", name := "checkBoundsBeginEnd", desc := "(III)V" } : Jvm.MethodName) prog_41_method_158_code (3 : Nat) (Option.none : Option Jvm.ClassFile.FieldType)) ∈ lw_all := lw_g (lw_at lw_m8 25 rfl) rfl
theorem q1813 : (Jvm.Cond.instanceMethod ({ cls := "java/lang/String", name := "length", desc := "()I" } : Jvm.MethodName)) ∈ lw_all := lw_g (lw_at lw_m8 27 rfl) rfl
theorem q1814 : (Jvm.Cond.selects "java/lang/String" ({ cls := "java/lang/String", name := "length", desc := "()I" } : Jvm.MethodName) ({ cls := "java/lang/String", name := "length", desc := "()I" } : Jvm.MethodName)) ∈ lw_all := lw_g (lw_at lw_m8 28 rfl) rfl
theorem q1815 : (Jvm.Cond.code ({ cls := "java/lang/String", name := "length", desc := "()I" } : Jvm.MethodName) prog_41_method_54_code (1 : Nat) (Option.some Jvm.ClassFile.FieldType.int)) ∈ lw_all := lw_g (lw_at lw_m8 29 rfl) rfl
theorem q1826 : (Jvm.Cond.instanceMethod ({ cls := "java/lang/String", name := "getBytes", desc := "([BIB)V" } : Jvm.MethodName)) ∈ lw_all := lw_g (lw_at lw_m8 40 rfl) rfl
theorem q1827 : (Jvm.Cond.selects "java/lang/String" ({ cls := "java/lang/String", name := "getBytes", desc := "([BIB)V" } : Jvm.MethodName) ({ cls := "java/lang/String", name := "getBytes", desc := "([BIB)V" } : Jvm.MethodName)) ∈ lw_all := lw_g (lw_at lw_m8 41 rfl) rfl
theorem q1828 : (Jvm.Cond.code ({ cls := "java/lang/String", name := "getBytes", desc := "([BIB)V" } : Jvm.MethodName) prog_41_method_147_code (4 : Nat) (Option.none : Option Jvm.ClassFile.FieldType)) ∈ lw_all := lw_g (lw_at lw_m8 42 rfl) rfl
theorem q1829 : (Jvm.Cond.methodLink "java/lang/String" (212 : Nat) ({ cls := "java/lang/System", name := "arraycopy", desc := "(Ljava/lang/Object;ILjava/lang/Object;II)V" } : Jvm.MethodName)) ∈ lw_all := lw_g (lw_at lw_m8 43 rfl) rfl
theorem q1830 : (Jvm.Cond.methodLink "java/lang/String" (106 : Nat) ({ cls := "java/lang/StringLatin1", name := "inflate", desc := "([BI[BII)V" } : Jvm.MethodName)) ∈ lw_all := lw_g (lw_at lw_m8 44 rfl) rfl
theorem q1832 : (Jvm.Cond.instanceMethod ({ cls := "java/lang/String", name := "indexOf", desc := "(Ljava/lang/String;)I" } : Jvm.MethodName)) ∈ lw_all := lw_g (lw_at lw_m8 46 rfl) rfl
theorem q1833 : (Jvm.Cond.selects "java/lang/String" ({ cls := "java/lang/String", name := "indexOf", desc := "(Ljava/lang/String;)I" } : Jvm.MethodName) ({ cls := "java/lang/String", name := "indexOf", desc := "(Ljava/lang/String;)I" } : Jvm.MethodName)) ∈ lw_all := lw_g (lw_at lw_m8 47 rfl) rfl
theorem q1834 : (Jvm.Cond.code ({ cls := "java/lang/String", name := "indexOf", desc := "(Ljava/lang/String;)I" } : Jvm.MethodName) prog_41_method_84_code (3 : Nat) (Option.some Jvm.ClassFile.FieldType.int)) ∈ lw_all := lw_g (lw_at lw_m8 48 rfl) rfl
theorem q1835 : (Jvm.Cond.methodLink "java/lang/String" (647 : Nat) ({ cls := "java/lang/StringLatin1", name := "indexOf", desc := "([B[B)I" } : Jvm.MethodName)) ∈ lw_all := lw_g (lw_at lw_m8 49 rfl) rfl
theorem q1841 : (Jvm.Cond.methodLink "java/lang/String" (649 : Nat) ({ cls := "java/lang/StringUTF16", name := "indexOf", desc := "([B[B)I" } : Jvm.MethodName)) ∈ lw_all := lw_g (lw_at lw_m8 55 rfl) rfl
theorem q1847 : (Jvm.Cond.methodLink "java/lang/String" (650 : Nat) ({ cls := "java/lang/StringUTF16", name := "indexOfLatin1", desc := "([B[B)I" } : Jvm.MethodName)) ∈ lw_all := lw_g (lw_at lw_m8 61 rfl) rfl
theorem q2497 : (Jvm.Cond.instanceMethod ({ cls := "java/lang/String", name := "charAt", desc := "(I)C" } : Jvm.MethodName)) ∈ lw_all := lw_g (lw_at lw_m10 231 rfl) rfl
theorem q2498 : (Jvm.Cond.selects "java/lang/String" ({ cls := "java/lang/String", name := "charAt", desc := "(I)C" } : Jvm.MethodName) ({ cls := "java/lang/String", name := "charAt", desc := "(I)C" } : Jvm.MethodName)) ∈ lw_all := lw_g (lw_at lw_m10 232 rfl) rfl
theorem q2499 : (Jvm.Cond.code ({ cls := "java/lang/String", name := "charAt", desc := "(I)C" } : Jvm.MethodName) prog_41_method_56_code (2 : Nat) (Option.some Jvm.ClassFile.FieldType.char)) ∈ lw_all := lw_g (lw_at lw_m10 233 rfl) rfl
theorem q2500 : (Jvm.Cond.methodLink "java/lang/String" (495 : Nat) ({ cls := "java/lang/StringLatin1", name := "charAt", desc := "([BI)C" } : Jvm.MethodName)) ∈ lw_all := lw_g (lw_at lw_m10 234 rfl) rfl
theorem q2504 : (Jvm.Cond.methodLink "java/lang/String" (498 : Nat) ({ cls := "java/lang/StringUTF16", name := "charAt", desc := "([BI)C" } : Jvm.MethodName)) ∈ lw_all := lw_g (lw_at lw_m10 238 rfl) rfl
theorem q3553 : (Jvm.Cond.selects "java/lang/String" ({ cls := "java/lang/String", name := "equals", desc := "(Ljava/lang/Object;)Z" } : Jvm.MethodName) ({ cls := "java/lang/String", name := "equals", desc := "(Ljava/lang/Object;)Z" } : Jvm.MethodName)) ∈ lw_all := lw_g (lw_at lw_m15 87 rfl) rfl
theorem q3601 : (Jvm.Cond.castable "java/lang/String" "java/lang/Object") ∈ lw_tbl := lw_at lw_m15 135 rfl
theorem in_J27 : ∀ w ∈ wsJ270, w ∈ lw_all := lw_in wsJ270 [1712, 1714, 1716, 1718] (by decide +kernel) (by decide +kernel)
/-! java/lang/StringLatin1 -/
set_option maxRecDepth 100000
def RJ28 : String := "java/lang/StringLatin1"
abbrev cJ28_hashCode : ByteArray := prog_43_method_21_code
def yJ28_hashCode : MethodName := ⟨RJ28, "hashCode", "([B)I"⟩
def dkwJ28_hashCode_2 : List UInt8 := [3, 167, 0, 22, 42, 3, 51, 17, 0, 255, 126, 167, 0, 12, 42, 3, 42, 190, 3, 7, 184, 0, 84, 172]
abbrev dktJ28_hashCode_2 : List UInt8 := dkwJ28_hashCode_2 ++ []
def dkwJ28_hashCode_1 : List UInt8 := [171, 0, 0, 0, 0, 40, 0, 0, 0, 2, 0, 0, 0, 0, 0, 0, 0, 26, 0, 0, 0, 1, 0, 0, 0, 30]
abbrev dktJ28_hashCode_1 : List UInt8 := dkwJ28_hashCode_1 ++ dktJ28_hashCode_2
def dkwJ28_hashCode_0 : List UInt8 := [42, 190]
abbrev dktJ28_hashCode_0 : List UInt8 := dkwJ28_hashCode_0 ++ dktJ28_hashCode_1
theorem dksJ28_hashCode_0 : cJ28_hashCode.data.toList.drop 0 = dktJ28_hashCode_0 := by decide +kernel
theorem dksJ28_hashCode_1 : cJ28_hashCode.data.toList.drop 2 = dktJ28_hashCode_1 := dk_seg dksJ28_hashCode_0 2 rfl rfl
theorem dksJ28_hashCode_2 : cJ28_hashCode.data.toList.drop 28 = dktJ28_hashCode_2 := dk_seg dksJ28_hashCode_1 26 rfl rfl
theorem dJ28_hashCode_0 : decode cJ28_hashCode 0 = .ok (.aload_n 0, 1) := dk_42 (dk_at dksJ28_hashCode_0 0 rfl rfl)
theorem dJ28_hashCode_1 : decode cJ28_hashCode 1 = .ok (.arraylength, 1) := dk_190 (dk_at dksJ28_hashCode_0 1 rfl rfl)
theorem dJ28_hashCode_2 : decode cJ28_hashCode 2 = .ok (.lookupswitch 40 #[(0, 26), (1, 30)], 26) := by decide +kernel
theorem dJ28_hashCode_28 : decode cJ28_hashCode 28 = .ok (.iconst 0, 1) := dk_3 (dk_at dksJ28_hashCode_2 0 rfl rfl)
theorem dJ28_hashCode_29 : decode cJ28_hashCode 29 = .ok (.goto 22, 3) := dk_167 0 22 (dk_at dksJ28_hashCode_2 1 rfl rfl)
theorem dJ28_hashCode_32 : decode cJ28_hashCode 32 = .ok (.aload_n 0, 1) := dk_42 (dk_at dksJ28_hashCode_2 4 rfl rfl)
theorem dJ28_hashCode_33 : decode cJ28_hashCode 33 = .ok (.iconst 0, 1) := dk_3 (dk_at dksJ28_hashCode_2 5 rfl rfl)
theorem dJ28_hashCode_34 : decode cJ28_hashCode 34 = .ok (.baload, 1) := dk_51 (dk_at dksJ28_hashCode_2 6 rfl rfl)
theorem dJ28_hashCode_35 : decode cJ28_hashCode 35 = .ok (.sipush 255, 3) := dk_17 0 255 (dk_at dksJ28_hashCode_2 7 rfl rfl)
theorem dJ28_hashCode_38 : decode cJ28_hashCode 38 = .ok (.iand, 1) := dk_126 (dk_at dksJ28_hashCode_2 10 rfl rfl)
theorem dJ28_hashCode_39 : decode cJ28_hashCode 39 = .ok (.goto 12, 3) := dk_167 0 12 (dk_at dksJ28_hashCode_2 11 rfl rfl)
theorem dJ28_hashCode_42 : decode cJ28_hashCode 42 = .ok (.aload_n 0, 1) := dk_42 (dk_at dksJ28_hashCode_2 14 rfl rfl)
theorem dJ28_hashCode_43 : decode cJ28_hashCode 43 = .ok (.iconst 0, 1) := dk_3 (dk_at dksJ28_hashCode_2 15 rfl rfl)
theorem dJ28_hashCode_44 : decode cJ28_hashCode 44 = .ok (.aload_n 0, 1) := dk_42 (dk_at dksJ28_hashCode_2 16 rfl rfl)
theorem dJ28_hashCode_45 : decode cJ28_hashCode 45 = .ok (.arraylength, 1) := dk_190 (dk_at dksJ28_hashCode_2 17 rfl rfl)
theorem dJ28_hashCode_46 : decode cJ28_hashCode 46 = .ok (.iconst 0, 1) := dk_3 (dk_at dksJ28_hashCode_2 18 rfl rfl)
theorem dJ28_hashCode_47 : decode cJ28_hashCode 47 = .ok (.iconst 4, 1) := dk_7 (dk_at dksJ28_hashCode_2 19 rfl rfl)
theorem dJ28_hashCode_48 : decode cJ28_hashCode 48 = .ok (.invokestatic 84, 3) := dk_184 0 84 (dk_at dksJ28_hashCode_2 20 rfl rfl)
theorem dJ28_hashCode_51 : decode cJ28_hashCode 51 = .ok (.ireturn, 1) := dk_172 (dk_at dksJ28_hashCode_2 23 rfl rfl)
abbrev cJ28_equals : ByteArray := prog_43_method_13_code
def yJ28_equals : MethodName := ⟨RJ28, "equals", "([B[B)Z"⟩
def dkwJ28_equals_1 : List UInt8 := [3, 172, 132, 2, 1, 167, 255, 236, 4, 172, 3, 172]
abbrev dktJ28_equals_1 : List UInt8 := dkwJ28_equals_1 ++ []
def dkwJ28_equals_0 : List UInt8 := [42, 190, 43, 190, 160, 0, 30, 3, 61, 28, 42, 190, 162, 0, 20, 42, 28, 51, 43, 28, 51, 159, 0, 5]
abbrev dktJ28_equals_0 : List UInt8 := dkwJ28_equals_0 ++ dktJ28_equals_1
theorem dksJ28_equals_0 : cJ28_equals.data.toList.drop 0 = dktJ28_equals_0 := by decide +kernel
theorem dksJ28_equals_1 : cJ28_equals.data.toList.drop 24 = dktJ28_equals_1 := dk_seg dksJ28_equals_0 24 rfl rfl
theorem dJ28_equals_0 : decode cJ28_equals 0 = .ok (.aload_n 0, 1) := dk_42 (dk_at dksJ28_equals_0 0 rfl rfl)
theorem dJ28_equals_1 : decode cJ28_equals 1 = .ok (.arraylength, 1) := dk_190 (dk_at dksJ28_equals_0 1 rfl rfl)
theorem dJ28_equals_2 : decode cJ28_equals 2 = .ok (.aload_n 1, 1) := dk_43 (dk_at dksJ28_equals_0 2 rfl rfl)
theorem dJ28_equals_3 : decode cJ28_equals 3 = .ok (.arraylength, 1) := dk_190 (dk_at dksJ28_equals_0 3 rfl rfl)
theorem dJ28_equals_4 : decode cJ28_equals 4 = .ok (.if_icmp .ne 30, 3) := dk_160 0 30 (dk_at dksJ28_equals_0 4 rfl rfl)
theorem dJ28_equals_7 : decode cJ28_equals 7 = .ok (.iconst 0, 1) := dk_3 (dk_at dksJ28_equals_0 7 rfl rfl)
theorem dJ28_equals_8 : decode cJ28_equals 8 = .ok (.istore_n 2, 1) := dk_61 (dk_at dksJ28_equals_0 8 rfl rfl)
theorem dJ28_equals_9 : decode cJ28_equals 9 = .ok (.iload_n 2, 1) := dk_28 (dk_at dksJ28_equals_0 9 rfl rfl)
theorem dJ28_equals_10 : decode cJ28_equals 10 = .ok (.aload_n 0, 1) := dk_42 (dk_at dksJ28_equals_0 10 rfl rfl)
theorem dJ28_equals_11 : decode cJ28_equals 11 = .ok (.arraylength, 1) := dk_190 (dk_at dksJ28_equals_0 11 rfl rfl)
theorem dJ28_equals_12 : decode cJ28_equals 12 = .ok (.if_icmp .ge 20, 3) := dk_162 0 20 (dk_at dksJ28_equals_0 12 rfl rfl)
theorem dJ28_equals_15 : decode cJ28_equals 15 = .ok (.aload_n 0, 1) := dk_42 (dk_at dksJ28_equals_0 15 rfl rfl)
theorem dJ28_equals_16 : decode cJ28_equals 16 = .ok (.iload_n 2, 1) := dk_28 (dk_at dksJ28_equals_0 16 rfl rfl)
theorem dJ28_equals_17 : decode cJ28_equals 17 = .ok (.baload, 1) := dk_51 (dk_at dksJ28_equals_0 17 rfl rfl)
theorem dJ28_equals_18 : decode cJ28_equals 18 = .ok (.aload_n 1, 1) := dk_43 (dk_at dksJ28_equals_0 18 rfl rfl)
theorem dJ28_equals_19 : decode cJ28_equals 19 = .ok (.iload_n 2, 1) := dk_28 (dk_at dksJ28_equals_0 19 rfl rfl)
theorem dJ28_equals_20 : decode cJ28_equals 20 = .ok (.baload, 1) := dk_51 (dk_at dksJ28_equals_0 20 rfl rfl)
theorem dJ28_equals_21 : decode cJ28_equals 21 = .ok (.if_icmp .eq 5, 3) := dk_159 0 5 (dk_at dksJ28_equals_0 21 rfl rfl)
theorem dJ28_equals_24 : decode cJ28_equals 24 = .ok (.iconst 0, 1) := dk_3 (dk_at dksJ28_equals_1 0 rfl rfl)
theorem dJ28_equals_25 : decode cJ28_equals 25 = .ok (.ireturn, 1) := dk_172 (dk_at dksJ28_equals_1 1 rfl rfl)
theorem dJ28_equals_26 : decode cJ28_equals 26 = .ok (.iinc 2 1, 3) := dk_132 2 1 (dk_at dksJ28_equals_1 2 rfl rfl)
theorem dJ28_equals_29 : decode cJ28_equals 29 = .ok (.goto (-20), 3) := dk_167 255 236 (dk_at dksJ28_equals_1 5 rfl rfl)
theorem dJ28_equals_32 : decode cJ28_equals 32 = .ok (.iconst 1, 1) := dk_4 (dk_at dksJ28_equals_1 8 rfl rfl)
theorem dJ28_equals_33 : decode cJ28_equals 33 = .ok (.ireturn, 1) := dk_172 (dk_at dksJ28_equals_1 9 rfl rfl)
theorem dJ28_equals_34 : decode cJ28_equals 34 = .ok (.iconst 0, 1) := dk_3 (dk_at dksJ28_equals_1 10 rfl rfl)
theorem dJ28_equals_35 : decode cJ28_equals 35 = .ok (.ireturn, 1) := dk_172 (dk_at dksJ28_equals_1 11 rfl rfl)
abbrev cJ28_compareTo : ByteArray := prog_43_method_14_code
def yJ28_compareTo : MethodName := ⟨RJ28, "compareTo", "([B[B)I"⟩
def dkwJ28_compareTo_0 : List UInt8 := [42, 190, 61, 43, 190, 62, 42, 43, 28, 29, 184, 0, 34, 172]
abbrev dktJ28_compareTo_0 : List UInt8 := dkwJ28_compareTo_0 ++ []
theorem dksJ28_compareTo_0 : cJ28_compareTo.data.toList.drop 0 = dktJ28_compareTo_0 := by decide +kernel
theorem dJ28_compareTo_0 : decode cJ28_compareTo 0 = .ok (.aload_n 0, 1) := dk_42 (dk_at dksJ28_compareTo_0 0 rfl rfl)
theorem dJ28_compareTo_1 : decode cJ28_compareTo 1 = .ok (.arraylength, 1) := dk_190 (dk_at dksJ28_compareTo_0 1 rfl rfl)
theorem dJ28_compareTo_2 : decode cJ28_compareTo 2 = .ok (.istore_n 2, 1) := dk_61 (dk_at dksJ28_compareTo_0 2 rfl rfl)
theorem dJ28_compareTo_3 : decode cJ28_compareTo 3 = .ok (.aload_n 1, 1) := dk_43 (dk_at dksJ28_compareTo_0 3 rfl rfl)
theorem dJ28_compareTo_4 : decode cJ28_compareTo 4 = .ok (.arraylength, 1) := dk_190 (dk_at dksJ28_compareTo_0 4 rfl rfl)
theorem dJ28_compareTo_5 : decode cJ28_compareTo 5 = .ok (.istore_n 3, 1) := dk_62 (dk_at dksJ28_compareTo_0 5 rfl rfl)
theorem dJ28_compareTo_6 : decode cJ28_compareTo 6 = .ok (.aload_n 0, 1) := dk_42 (dk_at dksJ28_compareTo_0 6 rfl rfl)
theorem dJ28_compareTo_7 : decode cJ28_compareTo 7 = .ok (.aload_n 1, 1) := dk_43 (dk_at dksJ28_compareTo_0 7 rfl rfl)
theorem dJ28_compareTo_8 : decode cJ28_compareTo 8 = .ok (.iload_n 2, 1) := dk_28 (dk_at dksJ28_compareTo_0 8 rfl rfl)
theorem dJ28_compareTo_9 : decode cJ28_compareTo 9 = .ok (.iload_n 3, 1) := dk_29 (dk_at dksJ28_compareTo_0 9 rfl rfl)
theorem dJ28_compareTo_10 : decode cJ28_compareTo 10 = .ok (.invokestatic 34, 3) := dk_184 0 34 (dk_at dksJ28_compareTo_0 10 rfl rfl)
theorem dJ28_compareTo_13 : decode cJ28_compareTo 13 = .ok (.ireturn, 1) := dk_172 (dk_at dksJ28_compareTo_0 13 rfl rfl)
abbrev cJ28_compareTo_2 : ByteArray := prog_43_method_15_code
def yJ28_compareTo_2 : MethodName := ⟨RJ28, "compareTo", "([B[BII)I"⟩
def dkwJ28_compareTo_2_1 : List UInt8 := [167, 0, 16, 42, 21, 5, 184, 0, 50, 43, 21, 5, 184, 0, 50, 100, 172]
abbrev dktJ28_compareTo_2_1 : List UInt8 := dkwJ28_compareTo_2_1 ++ []
def dkwJ28_compareTo_2_0 : List UInt8 := [28, 29, 184, 0, 38, 54, 4, 42, 43, 21, 4, 184, 0, 44, 54, 5, 21, 5, 156, 0, 9, 28, 29, 100]
abbrev dktJ28_compareTo_2_0 : List UInt8 := dkwJ28_compareTo_2_0 ++ dktJ28_compareTo_2_1
theorem dksJ28_compareTo_2_0 : cJ28_compareTo_2.data.toList.drop 0 = dktJ28_compareTo_2_0 := by decide +kernel
theorem dksJ28_compareTo_2_1 : cJ28_compareTo_2.data.toList.drop 24 = dktJ28_compareTo_2_1 := dk_seg dksJ28_compareTo_2_0 24 rfl rfl
theorem dJ28_compareTo_2_0 : decode cJ28_compareTo_2 0 = .ok (.iload_n 2, 1) := dk_28 (dk_at dksJ28_compareTo_2_0 0 rfl rfl)
theorem dJ28_compareTo_2_1 : decode cJ28_compareTo_2 1 = .ok (.iload_n 3, 1) := dk_29 (dk_at dksJ28_compareTo_2_0 1 rfl rfl)
theorem dJ28_compareTo_2_2 : decode cJ28_compareTo_2 2 = .ok (.invokestatic 38, 3) := dk_184 0 38 (dk_at dksJ28_compareTo_2_0 2 rfl rfl)
theorem dJ28_compareTo_2_5 : decode cJ28_compareTo_2 5 = .ok (.istore 4, 2) := dk_54 4 (dk_at dksJ28_compareTo_2_0 5 rfl rfl)
theorem dJ28_compareTo_2_7 : decode cJ28_compareTo_2 7 = .ok (.aload_n 0, 1) := dk_42 (dk_at dksJ28_compareTo_2_0 7 rfl rfl)
theorem dJ28_compareTo_2_8 : decode cJ28_compareTo_2 8 = .ok (.aload_n 1, 1) := dk_43 (dk_at dksJ28_compareTo_2_0 8 rfl rfl)
theorem dJ28_compareTo_2_9 : decode cJ28_compareTo_2 9 = .ok (.iload 4, 2) := dk_21 4 (dk_at dksJ28_compareTo_2_0 9 rfl rfl)
theorem dJ28_compareTo_2_11 : decode cJ28_compareTo_2 11 = .ok (.invokestatic 44, 3) := dk_184 0 44 (dk_at dksJ28_compareTo_2_0 11 rfl rfl)
theorem dJ28_compareTo_2_14 : decode cJ28_compareTo_2 14 = .ok (.istore 5, 2) := dk_54 5 (dk_at dksJ28_compareTo_2_0 14 rfl rfl)
theorem dJ28_compareTo_2_16 : decode cJ28_compareTo_2 16 = .ok (.iload 5, 2) := dk_21 5 (dk_at dksJ28_compareTo_2_0 16 rfl rfl)
theorem dJ28_compareTo_2_18 : decode cJ28_compareTo_2 18 = .ok (.ifCond .ge 9, 3) := dk_156 0 9 (dk_at dksJ28_compareTo_2_0 18 rfl rfl)
theorem dJ28_compareTo_2_21 : decode cJ28_compareTo_2 21 = .ok (.iload_n 2, 1) := dk_28 (dk_at dksJ28_compareTo_2_0 21 rfl rfl)
theorem dJ28_compareTo_2_22 : decode cJ28_compareTo_2 22 = .ok (.iload_n 3, 1) := dk_29 (dk_at dksJ28_compareTo_2_0 22 rfl rfl)
theorem dJ28_compareTo_2_23 : decode cJ28_compareTo_2 23 = .ok (.isub, 1) := dk_100 (dk_at dksJ28_compareTo_2_0 23 rfl rfl)
theorem dJ28_compareTo_2_24 : decode cJ28_compareTo_2 24 = .ok (.goto 16, 3) := dk_167 0 16 (dk_at dksJ28_compareTo_2_1 0 rfl rfl)
theorem dJ28_compareTo_2_27 : decode cJ28_compareTo_2 27 = .ok (.aload_n 0, 1) := dk_42 (dk_at dksJ28_compareTo_2_1 3 rfl rfl)
theorem dJ28_compareTo_2_28 : decode cJ28_compareTo_2 28 = .ok (.iload 5, 2) := dk_21 5 (dk_at dksJ28_compareTo_2_1 4 rfl rfl)
theorem dJ28_compareTo_2_30 : decode cJ28_compareTo_2 30 = .ok (.invokestatic 50, 3) := dk_184 0 50 (dk_at dksJ28_compareTo_2_1 6 rfl rfl)
theorem dJ28_compareTo_2_33 : decode cJ28_compareTo_2 33 = .ok (.aload_n 1, 1) := dk_43 (dk_at dksJ28_compareTo_2_1 9 rfl rfl)
theorem dJ28_compareTo_2_34 : decode cJ28_compareTo_2 34 = .ok (.iload 5, 2) := dk_21 5 (dk_at dksJ28_compareTo_2_1 10 rfl rfl)
theorem dJ28_compareTo_2_36 : decode cJ28_compareTo_2 36 = .ok (.invokestatic 50, 3) := dk_184 0 50 (dk_at dksJ28_compareTo_2_1 12 rfl rfl)
theorem dJ28_compareTo_2_39 : decode cJ28_compareTo_2 39 = .ok (.isub, 1) := dk_100 (dk_at dksJ28_compareTo_2_1 15 rfl rfl)
theorem dJ28_compareTo_2_40 : decode cJ28_compareTo_2 40 = .ok (.ireturn, 1) := dk_172 (dk_at dksJ28_compareTo_2_1 16 rfl rfl)
abbrev cJ28_getChar : ByteArray := prog_43_method_44_code
def yJ28_getChar : MethodName := ⟨RJ28, "getChar", "([BI)C"⟩
def dkwJ28_getChar_0 : List UInt8 := [42, 27, 51, 17, 0, 255, 126, 146, 172]
abbrev dktJ28_getChar_0 : List UInt8 := dkwJ28_getChar_0 ++ []
theorem dksJ28_getChar_0 : cJ28_getChar.data.toList.drop 0 = dktJ28_getChar_0 := by decide +kernel
theorem dJ28_getChar_0 : decode cJ28_getChar 0 = .ok (.aload_n 0, 1) := dk_42 (dk_at dksJ28_getChar_0 0 rfl rfl)
theorem dJ28_getChar_1 : decode cJ28_getChar 1 = .ok (.iload_n 1, 1) := dk_27 (dk_at dksJ28_getChar_0 1 rfl rfl)
theorem dJ28_getChar_2 : decode cJ28_getChar 2 = .ok (.baload, 1) := dk_51 (dk_at dksJ28_getChar_0 2 rfl rfl)
theorem dJ28_getChar_3 : decode cJ28_getChar 3 = .ok (.sipush 255, 3) := dk_17 0 255 (dk_at dksJ28_getChar_0 3 rfl rfl)
theorem dJ28_getChar_6 : decode cJ28_getChar 6 = .ok (.iand, 1) := dk_126 (dk_at dksJ28_getChar_0 6 rfl rfl)
theorem dJ28_getChar_7 : decode cJ28_getChar 7 = .ok (.i2c, 1) := dk_146 (dk_at dksJ28_getChar_0 7 rfl rfl)
theorem dJ28_getChar_8 : decode cJ28_getChar 8 = .ok (.ireturn, 1) := dk_172 (dk_at dksJ28_getChar_0 8 rfl rfl)
abbrev cJ28_compareToUTF16 : ByteArray := prog_43_method_16_code
def yJ28_compareToUTF16 : MethodName := ⟨RJ28, "compareToUTF16", "([B[B)I"⟩
def dkwJ28_compareToUTF16_0 : List UInt8 := [42, 184, 0, 54, 61, 43, 184, 0, 58, 62, 42, 43, 28, 29, 184, 0, 59, 172]
abbrev dktJ28_compareToUTF16_0 : List UInt8 := dkwJ28_compareToUTF16_0 ++ []
theorem dksJ28_compareToUTF16_0 : cJ28_compareToUTF16.data.toList.drop 0 = dktJ28_compareToUTF16_0 := by decide +kernel
theorem dJ28_compareToUTF16_0 : decode cJ28_compareToUTF16 0 = .ok (.aload_n 0, 1) := dk_42 (dk_at dksJ28_compareToUTF16_0 0 rfl rfl)
theorem dJ28_compareToUTF16_1 : decode cJ28_compareToUTF16 1 = .ok (.invokestatic 54, 3) := dk_184 0 54 (dk_at dksJ28_compareToUTF16_0 1 rfl rfl)
theorem dJ28_compareToUTF16_4 : decode cJ28_compareToUTF16 4 = .ok (.istore_n 2, 1) := dk_61 (dk_at dksJ28_compareToUTF16_0 4 rfl rfl)
theorem dJ28_compareToUTF16_5 : decode cJ28_compareToUTF16 5 = .ok (.aload_n 1, 1) := dk_43 (dk_at dksJ28_compareToUTF16_0 5 rfl rfl)
theorem dJ28_compareToUTF16_6 : decode cJ28_compareToUTF16 6 = .ok (.invokestatic 58, 3) := dk_184 0 58 (dk_at dksJ28_compareToUTF16_0 6 rfl rfl)
theorem dJ28_compareToUTF16_9 : decode cJ28_compareToUTF16 9 = .ok (.istore_n 3, 1) := dk_62 (dk_at dksJ28_compareToUTF16_0 9 rfl rfl)
theorem dJ28_compareToUTF16_10 : decode cJ28_compareToUTF16 10 = .ok (.aload_n 0, 1) := dk_42 (dk_at dksJ28_compareToUTF16_0 10 rfl rfl)
theorem dJ28_compareToUTF16_11 : decode cJ28_compareToUTF16 11 = .ok (.aload_n 1, 1) := dk_43 (dk_at dksJ28_compareToUTF16_0 11 rfl rfl)
theorem dJ28_compareToUTF16_12 : decode cJ28_compareToUTF16 12 = .ok (.iload_n 2, 1) := dk_28 (dk_at dksJ28_compareToUTF16_0 12 rfl rfl)
theorem dJ28_compareToUTF16_13 : decode cJ28_compareToUTF16 13 = .ok (.iload_n 3, 1) := dk_29 (dk_at dksJ28_compareToUTF16_0 13 rfl rfl)
theorem dJ28_compareToUTF16_14 : decode cJ28_compareToUTF16 14 = .ok (.invokestatic 59, 3) := dk_184 0 59 (dk_at dksJ28_compareToUTF16_0 14 rfl rfl)
theorem dJ28_compareToUTF16_17 : decode cJ28_compareToUTF16 17 = .ok (.ireturn, 1) := dk_172 (dk_at dksJ28_compareToUTF16_0 17 rfl rfl)
abbrev cJ28_length : ByteArray := prog_43_method_5_code
def yJ28_length : MethodName := ⟨RJ28, "length", "([B)I"⟩
theorem dJ28_length_0 : decode cJ28_length 0 = .ok (.aload_n 0, 1) := by decide +kernel
theorem dJ28_length_1 : decode cJ28_length 1 = .ok (.arraylength, 1) := by decide +kernel
theorem dJ28_length_2 : decode cJ28_length 2 = .ok (.ireturn, 1) := by decide +kernel
abbrev cJ28_compareToUTF16Values : ByteArray := prog_43_method_18_code
def yJ28_compareToUTF16Values : MethodName := ⟨RJ28, "compareToUTF16Values", "([B[BII)I"⟩
def dkwJ28_compareToUTF16Values_2 : List UInt8 := [132, 5, 1, 167, 255, 217, 28, 29, 100, 172]
abbrev dktJ28_compareToUTF16Values_2 : List UInt8 := dkwJ28_compareToUTF16Values_2 ++ []
def dkwJ28_compareToUTF16Values_1 : List UInt8 := [54, 6, 43, 21, 5, 184, 0, 65, 54, 7, 21, 6, 21, 7, 159, 0, 9, 21, 6, 21, 7, 100, 172]
abbrev dktJ28_compareToUTF16Values_1 : List UInt8 := dkwJ28_compareToUTF16Values_1 ++ dktJ28_compareToUTF16Values_2
def dkwJ28_compareToUTF16Values_0 : List UInt8 := [28, 29, 184, 0, 38, 54, 4, 3, 54, 5, 21, 5, 21, 4, 162, 0, 38, 42, 21, 5, 184, 0, 50]
abbrev dktJ28_compareToUTF16Values_0 : List UInt8 := dkwJ28_compareToUTF16Values_0 ++ dktJ28_compareToUTF16Values_1
theorem dksJ28_compareToUTF16Values_0 : cJ28_compareToUTF16Values.data.toList.drop 0 = dktJ28_compareToUTF16Values_0 := by decide +kernel
theorem dksJ28_compareToUTF16Values_1 : cJ28_compareToUTF16Values.data.toList.drop 23 = dktJ28_compareToUTF16Values_1 := dk_seg dksJ28_compareToUTF16Values_0 23 rfl rfl
theorem dksJ28_compareToUTF16Values_2 : cJ28_compareToUTF16Values.data.toList.drop 46 = dktJ28_compareToUTF16Values_2 := dk_seg dksJ28_compareToUTF16Values_1 23 rfl rfl
theorem dJ28_compareToUTF16Values_0 : decode cJ28_compareToUTF16Values 0 = .ok (.iload_n 2, 1) := dk_28 (dk_at dksJ28_compareToUTF16Values_0 0 rfl rfl)
theorem dJ28_compareToUTF16Values_1 : decode cJ28_compareToUTF16Values 1 = .ok (.iload_n 3, 1) := dk_29 (dk_at dksJ28_compareToUTF16Values_0 1 rfl rfl)
theorem dJ28_compareToUTF16Values_2 : decode cJ28_compareToUTF16Values 2 = .ok (.invokestatic 38, 3) := dk_184 0 38 (dk_at dksJ28_compareToUTF16Values_0 2 rfl rfl)
theorem dJ28_compareToUTF16Values_5 : decode cJ28_compareToUTF16Values 5 = .ok (.istore 4, 2) := dk_54 4 (dk_at dksJ28_compareToUTF16Values_0 5 rfl rfl)
theorem dJ28_compareToUTF16Values_7 : decode cJ28_compareToUTF16Values 7 = .ok (.iconst 0, 1) := dk_3 (dk_at dksJ28_compareToUTF16Values_0 7 rfl rfl)
theorem dJ28_compareToUTF16Values_8 : decode cJ28_compareToUTF16Values 8 = .ok (.istore 5, 2) := dk_54 5 (dk_at dksJ28_compareToUTF16Values_0 8 rfl rfl)
theorem dJ28_compareToUTF16Values_10 : decode cJ28_compareToUTF16Values 10 = .ok (.iload 5, 2) := dk_21 5 (dk_at dksJ28_compareToUTF16Values_0 10 rfl rfl)
theorem dJ28_compareToUTF16Values_12 : decode cJ28_compareToUTF16Values 12 = .ok (.iload 4, 2) := dk_21 4 (dk_at dksJ28_compareToUTF16Values_0 12 rfl rfl)
theorem dJ28_compareToUTF16Values_14 : decode cJ28_compareToUTF16Values 14 = .ok (.if_icmp .ge 38, 3) := dk_162 0 38 (dk_at dksJ28_compareToUTF16Values_0 14 rfl rfl)
theorem dJ28_compareToUTF16Values_17 : decode cJ28_compareToUTF16Values 17 = .ok (.aload_n 0, 1) := dk_42 (dk_at dksJ28_compareToUTF16Values_0 17 rfl rfl)
theorem dJ28_compareToUTF16Values_18 : decode cJ28_compareToUTF16Values 18 = .ok (.iload 5, 2) := dk_21 5 (dk_at dksJ28_compareToUTF16Values_0 18 rfl rfl)
theorem dJ28_compareToUTF16Values_20 : decode cJ28_compareToUTF16Values 20 = .ok (.invokestatic 50, 3) := dk_184 0 50 (dk_at dksJ28_compareToUTF16Values_0 20 rfl rfl)
theorem dJ28_compareToUTF16Values_23 : decode cJ28_compareToUTF16Values 23 = .ok (.istore 6, 2) := dk_54 6 (dk_at dksJ28_compareToUTF16Values_1 0 rfl rfl)
theorem dJ28_compareToUTF16Values_25 : decode cJ28_compareToUTF16Values 25 = .ok (.aload_n 1, 1) := dk_43 (dk_at dksJ28_compareToUTF16Values_1 2 rfl rfl)
theorem dJ28_compareToUTF16Values_26 : decode cJ28_compareToUTF16Values 26 = .ok (.iload 5, 2) := dk_21 5 (dk_at dksJ28_compareToUTF16Values_1 3 rfl rfl)
theorem dJ28_compareToUTF16Values_28 : decode cJ28_compareToUTF16Values 28 = .ok (.invokestatic 65, 3) := dk_184 0 65 (dk_at dksJ28_compareToUTF16Values_1 5 rfl rfl)
theorem dJ28_compareToUTF16Values_31 : decode cJ28_compareToUTF16Values 31 = .ok (.istore 7, 2) := dk_54 7 (dk_at dksJ28_compareToUTF16Values_1 8 rfl rfl)
theorem dJ28_compareToUTF16Values_33 : decode cJ28_compareToUTF16Values 33 = .ok (.iload 6, 2) := dk_21 6 (dk_at dksJ28_compareToUTF16Values_1 10 rfl rfl)
theorem dJ28_compareToUTF16Values_35 : decode cJ28_compareToUTF16Values 35 = .ok (.iload 7, 2) := dk_21 7 (dk_at dksJ28_compareToUTF16Values_1 12 rfl rfl)
theorem dJ28_compareToUTF16Values_37 : decode cJ28_compareToUTF16Values 37 = .ok (.if_icmp .eq 9, 3) := dk_159 0 9 (dk_at dksJ28_compareToUTF16Values_1 14 rfl rfl)
theorem dJ28_compareToUTF16Values_40 : decode cJ28_compareToUTF16Values 40 = .ok (.iload 6, 2) := dk_21 6 (dk_at dksJ28_compareToUTF16Values_1 17 rfl rfl)
theorem dJ28_compareToUTF16Values_42 : decode cJ28_compareToUTF16Values 42 = .ok (.iload 7, 2) := dk_21 7 (dk_at dksJ28_compareToUTF16Values_1 19 rfl rfl)
theorem dJ28_compareToUTF16Values_44 : decode cJ28_compareToUTF16Values 44 = .ok (.isub, 1) := dk_100 (dk_at dksJ28_compareToUTF16Values_1 21 rfl rfl)
theorem dJ28_compareToUTF16Values_45 : decode cJ28_compareToUTF16Values 45 = .ok (.ireturn, 1) := dk_172 (dk_at dksJ28_compareToUTF16Values_1 22 rfl rfl)
theorem dJ28_compareToUTF16Values_46 : decode cJ28_compareToUTF16Values 46 = .ok (.iinc 5 1, 3) := dk_132 5 1 (dk_at dksJ28_compareToUTF16Values_2 0 rfl rfl)
theorem dJ28_compareToUTF16Values_49 : decode cJ28_compareToUTF16Values 49 = .ok (.goto (-39), 3) := dk_167 255 217 (dk_at dksJ28_compareToUTF16Values_2 3 rfl rfl)
theorem dJ28_compareToUTF16Values_52 : decode cJ28_compareToUTF16Values 52 = .ok (.iload_n 2, 1) := dk_28 (dk_at dksJ28_compareToUTF16Values_2 6 rfl rfl)
theorem dJ28_compareToUTF16Values_53 : decode cJ28_compareToUTF16Values 53 = .ok (.iload_n 3, 1) := dk_29 (dk_at dksJ28_compareToUTF16Values_2 7 rfl rfl)
theorem dJ28_compareToUTF16Values_54 : decode cJ28_compareToUTF16Values 54 = .ok (.isub, 1) := dk_100 (dk_at dksJ28_compareToUTF16Values_2 8 rfl rfl)
theorem dJ28_compareToUTF16Values_55 : decode cJ28_compareToUTF16Values 55 = .ok (.ireturn, 1) := dk_172 (dk_at dksJ28_compareToUTF16Values_2 9 rfl rfl)
abbrev cJ28_compareToUTF16_2 : ByteArray := prog_43_method_17_code
def yJ28_compareToUTF16_2 : MethodName := ⟨RJ28, "compareToUTF16", "([B[BII)I"⟩
def dkwJ28_compareToUTF16_2_0 : List UInt8 := [28, 42, 184, 0, 54, 184, 0, 62, 29, 43, 184, 0, 58, 184, 0, 62, 42, 43, 28, 29, 184, 0, 59, 172]
abbrev dktJ28_compareToUTF16_2_0 : List UInt8 := dkwJ28_compareToUTF16_2_0 ++ []
theorem dksJ28_compareToUTF16_2_0 : cJ28_compareToUTF16_2.data.toList.drop 0 = dktJ28_compareToUTF16_2_0 := by decide +kernel
theorem dJ28_compareToUTF16_2_0 : decode cJ28_compareToUTF16_2 0 = .ok (.iload_n 2, 1) := dk_28 (dk_at dksJ28_compareToUTF16_2_0 0 rfl rfl)
theorem dJ28_compareToUTF16_2_1 : decode cJ28_compareToUTF16_2 1 = .ok (.aload_n 0, 1) := dk_42 (dk_at dksJ28_compareToUTF16_2_0 1 rfl rfl)
theorem dJ28_compareToUTF16_2_2 : decode cJ28_compareToUTF16_2 2 = .ok (.invokestatic 54, 3) := dk_184 0 54 (dk_at dksJ28_compareToUTF16_2_0 2 rfl rfl)
theorem dJ28_compareToUTF16_2_5 : decode cJ28_compareToUTF16_2 5 = .ok (.invokestatic 62, 3) := dk_184 0 62 (dk_at dksJ28_compareToUTF16_2_0 5 rfl rfl)
theorem dJ28_compareToUTF16_2_8 : decode cJ28_compareToUTF16_2 8 = .ok (.iload_n 3, 1) := dk_29 (dk_at dksJ28_compareToUTF16_2_0 8 rfl rfl)
theorem dJ28_compareToUTF16_2_9 : decode cJ28_compareToUTF16_2 9 = .ok (.aload_n 1, 1) := dk_43 (dk_at dksJ28_compareToUTF16_2_0 9 rfl rfl)
theorem dJ28_compareToUTF16_2_10 : decode cJ28_compareToUTF16_2 10 = .ok (.invokestatic 58, 3) := dk_184 0 58 (dk_at dksJ28_compareToUTF16_2_0 10 rfl rfl)
theorem dJ28_compareToUTF16_2_13 : decode cJ28_compareToUTF16_2 13 = .ok (.invokestatic 62, 3) := dk_184 0 62 (dk_at dksJ28_compareToUTF16_2_0 13 rfl rfl)
theorem dJ28_compareToUTF16_2_16 : decode cJ28_compareToUTF16_2 16 = .ok (.aload_n 0, 1) := dk_42 (dk_at dksJ28_compareToUTF16_2_0 16 rfl rfl)
theorem dJ28_compareToUTF16_2_17 : decode cJ28_compareToUTF16_2 17 = .ok (.aload_n 1, 1) := dk_43 (dk_at dksJ28_compareToUTF16_2_0 17 rfl rfl)
theorem dJ28_compareToUTF16_2_18 : decode cJ28_compareToUTF16_2 18 = .ok (.iload_n 2, 1) := dk_28 (dk_at dksJ28_compareToUTF16_2_0 18 rfl rfl)
theorem dJ28_compareToUTF16_2_19 : decode cJ28_compareToUTF16_2 19 = .ok (.iload_n 3, 1) := dk_29 (dk_at dksJ28_compareToUTF16_2_0 19 rfl rfl)
theorem dJ28_compareToUTF16_2_20 : decode cJ28_compareToUTF16_2 20 = .ok (.invokestatic 59, 3) := dk_184 0 59 (dk_at dksJ28_compareToUTF16_2_0 20 rfl rfl)
theorem dJ28_compareToUTF16_2_23 : decode cJ28_compareToUTF16_2 23 = .ok (.ireturn, 1) := dk_172 (dk_at dksJ28_compareToUTF16_2_0 23 rfl rfl)
abbrev cJ28_canEncode : ByteArray := prog_43_method_3_code
def yJ28_canEncode : MethodName := ⟨RJ28, "canEncode", "(C)Z"⟩
def dkwJ28_canEncode_0 : List UInt8 := [26, 17, 0, 255, 163, 0, 7, 4, 167, 0, 4, 3, 172]
abbrev dktJ28_canEncode_0 : List UInt8 := dkwJ28_canEncode_0 ++ []
theorem dksJ28_canEncode_0 : cJ28_canEncode.data.toList.drop 0 = dktJ28_canEncode_0 := by decide +kernel
theorem dJ28_canEncode_0 : decode cJ28_canEncode 0 = .ok (.iload_n 0, 1) := dk_26 (dk_at dksJ28_canEncode_0 0 rfl rfl)
theorem dJ28_canEncode_1 : decode cJ28_canEncode 1 = .ok (.sipush 255, 3) := dk_17 0 255 (dk_at dksJ28_canEncode_0 1 rfl rfl)
theorem dJ28_canEncode_4 : decode cJ28_canEncode 4 = .ok (.if_icmp .gt 7, 3) := dk_163 0 7 (dk_at dksJ28_canEncode_0 4 rfl rfl)
theorem dJ28_canEncode_7 : decode cJ28_canEncode 7 = .ok (.iconst 1, 1) := dk_4 (dk_at dksJ28_canEncode_0 7 rfl rfl)
theorem dJ28_canEncode_8 : decode cJ28_canEncode 8 = .ok (.goto 4, 3) := dk_167 0 4 (dk_at dksJ28_canEncode_0 8 rfl rfl)
theorem dJ28_canEncode_11 : decode cJ28_canEncode 11 = .ok (.iconst 0, 1) := dk_3 (dk_at dksJ28_canEncode_0 11 rfl rfl)
theorem dJ28_canEncode_12 : decode cJ28_canEncode 12 = .ok (.ireturn, 1) := dk_172 (dk_at dksJ28_canEncode_0 12 rfl rfl)
abbrev cJ28_inflate : ByteArray := prog_43_method_50_code
def yJ28_inflate : MethodName := ⟨RJ28, "inflate", "([BI[BII)V"⟩
def dkwJ28_inflate_0 : List UInt8 := [42, 27, 44, 29, 21, 4, 184, 0, 240, 177]
abbrev dktJ28_inflate_0 : List UInt8 := dkwJ28_inflate_0 ++ []
theorem dksJ28_inflate_0 : cJ28_inflate.data.toList.drop 0 = dktJ28_inflate_0 := by decide +kernel
theorem dJ28_inflate_0 : decode cJ28_inflate 0 = .ok (.aload_n 0, 1) := dk_42 (dk_at dksJ28_inflate_0 0 rfl rfl)
theorem dJ28_inflate_1 : decode cJ28_inflate 1 = .ok (.iload_n 1, 1) := dk_27 (dk_at dksJ28_inflate_0 1 rfl rfl)
theorem dJ28_inflate_2 : decode cJ28_inflate 2 = .ok (.aload_n 2, 1) := dk_44 (dk_at dksJ28_inflate_0 2 rfl rfl)
theorem dJ28_inflate_3 : decode cJ28_inflate 3 = .ok (.iload_n 3, 1) := dk_29 (dk_at dksJ28_inflate_0 3 rfl rfl)
theorem dJ28_inflate_4 : decode cJ28_inflate 4 = .ok (.iload 4, 2) := dk_21 4 (dk_at dksJ28_inflate_0 4 rfl rfl)
theorem dJ28_inflate_6 : decode cJ28_inflate 6 = .ok (.invokestatic 240, 3) := dk_184 0 240 (dk_at dksJ28_inflate_0 6 rfl rfl)
theorem dJ28_inflate_9 : decode cJ28_inflate 9 = .ok (.return_, 1) := dk_177 (dk_at dksJ28_inflate_0 9 rfl rfl)
abbrev cJ28_indexOf : ByteArray := prog_43_method_24_code
def yJ28_indexOf : MethodName := ⟨RJ28, "indexOf", "([B[B)I"⟩
def dkwJ28_indexOf_1 : List UInt8 := [172]
abbrev dktJ28_indexOf_1 : List UInt8 := dkwJ28_indexOf_1 ++ []
def dkwJ28_indexOf_0 : List UInt8 := [43, 190, 154, 0, 5, 3, 172, 42, 190, 154, 0, 5, 2, 172, 42, 42, 190, 43, 43, 190, 3, 184, 0, 99]
abbrev dktJ28_indexOf_0 : List UInt8 := dkwJ28_indexOf_0 ++ dktJ28_indexOf_1
theorem dksJ28_indexOf_0 : cJ28_indexOf.data.toList.drop 0 = dktJ28_indexOf_0 := by decide +kernel
theorem dksJ28_indexOf_1 : cJ28_indexOf.data.toList.drop 24 = dktJ28_indexOf_1 := dk_seg dksJ28_indexOf_0 24 rfl rfl
theorem dJ28_indexOf_0 : decode cJ28_indexOf 0 = .ok (.aload_n 1, 1) := dk_43 (dk_at dksJ28_indexOf_0 0 rfl rfl)
theorem dJ28_indexOf_1 : decode cJ28_indexOf 1 = .ok (.arraylength, 1) := dk_190 (dk_at dksJ28_indexOf_0 1 rfl rfl)
theorem dJ28_indexOf_2 : decode cJ28_indexOf 2 = .ok (.ifCond .ne 5, 3) := dk_154 0 5 (dk_at dksJ28_indexOf_0 2 rfl rfl)
theorem dJ28_indexOf_5 : decode cJ28_indexOf 5 = .ok (.iconst 0, 1) := dk_3 (dk_at dksJ28_indexOf_0 5 rfl rfl)
theorem dJ28_indexOf_6 : decode cJ28_indexOf 6 = .ok (.ireturn, 1) := dk_172 (dk_at dksJ28_indexOf_0 6 rfl rfl)
theorem dJ28_indexOf_7 : decode cJ28_indexOf 7 = .ok (.aload_n 0, 1) := dk_42 (dk_at dksJ28_indexOf_0 7 rfl rfl)
theorem dJ28_indexOf_8 : decode cJ28_indexOf 8 = .ok (.arraylength, 1) := dk_190 (dk_at dksJ28_indexOf_0 8 rfl rfl)
theorem dJ28_indexOf_9 : decode cJ28_indexOf 9 = .ok (.ifCond .ne 5, 3) := dk_154 0 5 (dk_at dksJ28_indexOf_0 9 rfl rfl)
theorem dJ28_indexOf_12 : decode cJ28_indexOf 12 = .ok (.iconst (-1), 1) := dk_2 (dk_at dksJ28_indexOf_0 12 rfl rfl)
theorem dJ28_indexOf_13 : decode cJ28_indexOf 13 = .ok (.ireturn, 1) := dk_172 (dk_at dksJ28_indexOf_0 13 rfl rfl)
theorem dJ28_indexOf_14 : decode cJ28_indexOf 14 = .ok (.aload_n 0, 1) := dk_42 (dk_at dksJ28_indexOf_0 14 rfl rfl)
theorem dJ28_indexOf_15 : decode cJ28_indexOf 15 = .ok (.aload_n 0, 1) := dk_42 (dk_at dksJ28_indexOf_0 15 rfl rfl)
theorem dJ28_indexOf_16 : decode cJ28_indexOf 16 = .ok (.arraylength, 1) := dk_190 (dk_at dksJ28_indexOf_0 16 rfl rfl)
theorem dJ28_indexOf_17 : decode cJ28_indexOf 17 = .ok (.aload_n 1, 1) := dk_43 (dk_at dksJ28_indexOf_0 17 rfl rfl)
theorem dJ28_indexOf_18 : decode cJ28_indexOf 18 = .ok (.aload_n 1, 1) := dk_43 (dk_at dksJ28_indexOf_0 18 rfl rfl)
theorem dJ28_indexOf_19 : decode cJ28_indexOf 19 = .ok (.arraylength, 1) := dk_190 (dk_at dksJ28_indexOf_0 19 rfl rfl)
theorem dJ28_indexOf_20 : decode cJ28_indexOf 20 = .ok (.iconst 0, 1) := dk_3 (dk_at dksJ28_indexOf_0 20 rfl rfl)
theorem dJ28_indexOf_21 : decode cJ28_indexOf 21 = .ok (.invokestatic 99, 3) := dk_184 0 99 (dk_at dksJ28_indexOf_0 21 rfl rfl)
theorem dJ28_indexOf_24 : decode cJ28_indexOf 24 = .ok (.ireturn, 1) := dk_172 (dk_at dksJ28_indexOf_1 0 rfl rfl)
abbrev cJ28_indexOf_2 : ByteArray := prog_43_method_25_code
def yJ28_indexOf_2 : MethodName := ⟨RJ28, "indexOf", "([BI[BII)I"⟩
def dkwJ28_indexOf_2_5 : List UInt8 := [167, 255, 154, 2, 172]
abbrev dktJ28_indexOf_2_5 : List UInt8 := dkwJ28_indexOf_2_5 ++ []
def dkwJ28_indexOf_2_4 : List UInt8 := [132, 8, 1, 132, 10, 1, 167, 255, 232, 21, 8, 21, 9, 160, 0, 6, 21, 7, 172, 132, 7, 1]
abbrev dktJ28_indexOf_2_4 : List UInt8 := dkwJ28_indexOf_2_4 ++ dktJ28_indexOf_2_5
def dkwJ28_indexOf_2_3 : List UInt8 := [100, 54, 9, 4, 54, 10, 21, 8, 21, 9, 162, 0, 23, 42, 21, 8, 51, 44, 21, 10, 51, 160, 0, 12]
abbrev dktJ28_indexOf_2_3 : List UInt8 := dkwJ28_indexOf_2_3 ++ dktJ28_indexOf_2_4
def dkwJ28_indexOf_2_2 : List UInt8 := [159, 0, 6, 167, 255, 237, 21, 7, 21, 6, 163, 0, 57, 21, 7, 4, 96, 54, 8, 21, 8, 29, 96, 4]
abbrev dktJ28_indexOf_2_2 : List UInt8 := dkwJ28_indexOf_2_2 ++ dktJ28_indexOf_2_3
def dkwJ28_indexOf_2_1 : List UInt8 := [51, 21, 5, 159, 0, 25, 132, 7, 1, 21, 7, 21, 6, 163, 0, 15, 42, 21, 7, 51, 21, 5]
abbrev dktJ28_indexOf_2_1 : List UInt8 := dkwJ28_indexOf_2_1 ++ dktJ28_indexOf_2_2
def dkwJ28_indexOf_2_0 : List UInt8 := [44, 3, 51, 54, 5, 27, 29, 100, 54, 6, 21, 4, 54, 7, 21, 7, 21, 6, 163, 0, 101, 42, 21, 7]
abbrev dktJ28_indexOf_2_0 : List UInt8 := dkwJ28_indexOf_2_0 ++ dktJ28_indexOf_2_1
theorem dksJ28_indexOf_2_0 : cJ28_indexOf_2.data.toList.drop 0 = dktJ28_indexOf_2_0 := by decide +kernel
theorem dksJ28_indexOf_2_1 : cJ28_indexOf_2.data.toList.drop 24 = dktJ28_indexOf_2_1 := dk_seg dksJ28_indexOf_2_0 24 rfl rfl
theorem dksJ28_indexOf_2_2 : cJ28_indexOf_2.data.toList.drop 46 = dktJ28_indexOf_2_2 := dk_seg dksJ28_indexOf_2_1 22 rfl rfl
theorem dksJ28_indexOf_2_3 : cJ28_indexOf_2.data.toList.drop 70 = dktJ28_indexOf_2_3 := dk_seg dksJ28_indexOf_2_2 24 rfl rfl
theorem dksJ28_indexOf_2_4 : cJ28_indexOf_2.data.toList.drop 94 = dktJ28_indexOf_2_4 := dk_seg dksJ28_indexOf_2_3 24 rfl rfl
theorem dksJ28_indexOf_2_5 : cJ28_indexOf_2.data.toList.drop 116 = dktJ28_indexOf_2_5 := dk_seg dksJ28_indexOf_2_4 22 rfl rfl
theorem dJ28_indexOf_2_0 : decode cJ28_indexOf_2 0 = .ok (.aload_n 2, 1) := dk_44 (dk_at dksJ28_indexOf_2_0 0 rfl rfl)
theorem dJ28_indexOf_2_1 : decode cJ28_indexOf_2 1 = .ok (.iconst 0, 1) := dk_3 (dk_at dksJ28_indexOf_2_0 1 rfl rfl)
theorem dJ28_indexOf_2_2 : decode cJ28_indexOf_2 2 = .ok (.baload, 1) := dk_51 (dk_at dksJ28_indexOf_2_0 2 rfl rfl)
theorem dJ28_indexOf_2_3 : decode cJ28_indexOf_2 3 = .ok (.istore 5, 2) := dk_54 5 (dk_at dksJ28_indexOf_2_0 3 rfl rfl)
theorem dJ28_indexOf_2_5 : decode cJ28_indexOf_2 5 = .ok (.iload_n 1, 1) := dk_27 (dk_at dksJ28_indexOf_2_0 5 rfl rfl)
theorem dJ28_indexOf_2_6 : decode cJ28_indexOf_2 6 = .ok (.iload_n 3, 1) := dk_29 (dk_at dksJ28_indexOf_2_0 6 rfl rfl)
theorem dJ28_indexOf_2_7 : decode cJ28_indexOf_2 7 = .ok (.isub, 1) := dk_100 (dk_at dksJ28_indexOf_2_0 7 rfl rfl)
theorem dJ28_indexOf_2_8 : decode cJ28_indexOf_2 8 = .ok (.istore 6, 2) := dk_54 6 (dk_at dksJ28_indexOf_2_0 8 rfl rfl)
theorem dJ28_indexOf_2_10 : decode cJ28_indexOf_2 10 = .ok (.iload 4, 2) := dk_21 4 (dk_at dksJ28_indexOf_2_0 10 rfl rfl)
theorem dJ28_indexOf_2_12 : decode cJ28_indexOf_2 12 = .ok (.istore 7, 2) := dk_54 7 (dk_at dksJ28_indexOf_2_0 12 rfl rfl)
theorem dJ28_indexOf_2_14 : decode cJ28_indexOf_2 14 = .ok (.iload 7, 2) := dk_21 7 (dk_at dksJ28_indexOf_2_0 14 rfl rfl)
theorem dJ28_indexOf_2_16 : decode cJ28_indexOf_2 16 = .ok (.iload 6, 2) := dk_21 6 (dk_at dksJ28_indexOf_2_0 16 rfl rfl)
theorem dJ28_indexOf_2_18 : decode cJ28_indexOf_2 18 = .ok (.if_icmp .gt 101, 3) := dk_163 0 101 (dk_at dksJ28_indexOf_2_0 18 rfl rfl)
theorem dJ28_indexOf_2_21 : decode cJ28_indexOf_2 21 = .ok (.aload_n 0, 1) := dk_42 (dk_at dksJ28_indexOf_2_0 21 rfl rfl)
theorem dJ28_indexOf_2_22 : decode cJ28_indexOf_2 22 = .ok (.iload 7, 2) := dk_21 7 (dk_at dksJ28_indexOf_2_0 22 rfl rfl)
theorem dJ28_indexOf_2_24 : decode cJ28_indexOf_2 24 = .ok (.baload, 1) := dk_51 (dk_at dksJ28_indexOf_2_1 0 rfl rfl)
theorem dJ28_indexOf_2_25 : decode cJ28_indexOf_2 25 = .ok (.iload 5, 2) := dk_21 5 (dk_at dksJ28_indexOf_2_1 1 rfl rfl)
theorem dJ28_indexOf_2_27 : decode cJ28_indexOf_2 27 = .ok (.if_icmp .eq 25, 3) := dk_159 0 25 (dk_at dksJ28_indexOf_2_1 3 rfl rfl)
theorem dJ28_indexOf_2_30 : decode cJ28_indexOf_2 30 = .ok (.iinc 7 1, 3) := dk_132 7 1 (dk_at dksJ28_indexOf_2_1 6 rfl rfl)
theorem dJ28_indexOf_2_33 : decode cJ28_indexOf_2 33 = .ok (.iload 7, 2) := dk_21 7 (dk_at dksJ28_indexOf_2_1 9 rfl rfl)
theorem dJ28_indexOf_2_35 : decode cJ28_indexOf_2 35 = .ok (.iload 6, 2) := dk_21 6 (dk_at dksJ28_indexOf_2_1 11 rfl rfl)
theorem dJ28_indexOf_2_37 : decode cJ28_indexOf_2 37 = .ok (.if_icmp .gt 15, 3) := dk_163 0 15 (dk_at dksJ28_indexOf_2_1 13 rfl rfl)
theorem dJ28_indexOf_2_40 : decode cJ28_indexOf_2 40 = .ok (.aload_n 0, 1) := dk_42 (dk_at dksJ28_indexOf_2_1 16 rfl rfl)
theorem dJ28_indexOf_2_41 : decode cJ28_indexOf_2 41 = .ok (.iload 7, 2) := dk_21 7 (dk_at dksJ28_indexOf_2_1 17 rfl rfl)
theorem dJ28_indexOf_2_43 : decode cJ28_indexOf_2 43 = .ok (.baload, 1) := dk_51 (dk_at dksJ28_indexOf_2_1 19 rfl rfl)
theorem dJ28_indexOf_2_44 : decode cJ28_indexOf_2 44 = .ok (.iload 5, 2) := dk_21 5 (dk_at dksJ28_indexOf_2_1 20 rfl rfl)
theorem dJ28_indexOf_2_46 : decode cJ28_indexOf_2 46 = .ok (.if_icmp .eq 6, 3) := dk_159 0 6 (dk_at dksJ28_indexOf_2_2 0 rfl rfl)
theorem dJ28_indexOf_2_49 : decode cJ28_indexOf_2 49 = .ok (.goto (-19), 3) := dk_167 255 237 (dk_at dksJ28_indexOf_2_2 3 rfl rfl)
theorem dJ28_indexOf_2_52 : decode cJ28_indexOf_2 52 = .ok (.iload 7, 2) := dk_21 7 (dk_at dksJ28_indexOf_2_2 6 rfl rfl)
theorem dJ28_indexOf_2_54 : decode cJ28_indexOf_2 54 = .ok (.iload 6, 2) := dk_21 6 (dk_at dksJ28_indexOf_2_2 8 rfl rfl)
theorem dJ28_indexOf_2_56 : decode cJ28_indexOf_2 56 = .ok (.if_icmp .gt 57, 3) := dk_163 0 57 (dk_at dksJ28_indexOf_2_2 10 rfl rfl)
theorem dJ28_indexOf_2_59 : decode cJ28_indexOf_2 59 = .ok (.iload 7, 2) := dk_21 7 (dk_at dksJ28_indexOf_2_2 13 rfl rfl)
theorem dJ28_indexOf_2_61 : decode cJ28_indexOf_2 61 = .ok (.iconst 1, 1) := dk_4 (dk_at dksJ28_indexOf_2_2 15 rfl rfl)
theorem dJ28_indexOf_2_62 : decode cJ28_indexOf_2 62 = .ok (.iadd, 1) := dk_96 (dk_at dksJ28_indexOf_2_2 16 rfl rfl)
theorem dJ28_indexOf_2_63 : decode cJ28_indexOf_2 63 = .ok (.istore 8, 2) := dk_54 8 (dk_at dksJ28_indexOf_2_2 17 rfl rfl)
theorem dJ28_indexOf_2_65 : decode cJ28_indexOf_2 65 = .ok (.iload 8, 2) := dk_21 8 (dk_at dksJ28_indexOf_2_2 19 rfl rfl)
theorem dJ28_indexOf_2_67 : decode cJ28_indexOf_2 67 = .ok (.iload_n 3, 1) := dk_29 (dk_at dksJ28_indexOf_2_2 21 rfl rfl)
theorem dJ28_indexOf_2_68 : decode cJ28_indexOf_2 68 = .ok (.iadd, 1) := dk_96 (dk_at dksJ28_indexOf_2_2 22 rfl rfl)
theorem dJ28_indexOf_2_69 : decode cJ28_indexOf_2 69 = .ok (.iconst 1, 1) := dk_4 (dk_at dksJ28_indexOf_2_2 23 rfl rfl)
theorem dJ28_indexOf_2_70 : decode cJ28_indexOf_2 70 = .ok (.isub, 1) := dk_100 (dk_at dksJ28_indexOf_2_3 0 rfl rfl)
theorem dJ28_indexOf_2_71 : decode cJ28_indexOf_2 71 = .ok (.istore 9, 2) := dk_54 9 (dk_at dksJ28_indexOf_2_3 1 rfl rfl)
theorem dJ28_indexOf_2_73 : decode cJ28_indexOf_2 73 = .ok (.iconst 1, 1) := dk_4 (dk_at dksJ28_indexOf_2_3 3 rfl rfl)
theorem dJ28_indexOf_2_74 : decode cJ28_indexOf_2 74 = .ok (.istore 10, 2) := dk_54 10 (dk_at dksJ28_indexOf_2_3 4 rfl rfl)
theorem dJ28_indexOf_2_76 : decode cJ28_indexOf_2 76 = .ok (.iload 8, 2) := dk_21 8 (dk_at dksJ28_indexOf_2_3 6 rfl rfl)
theorem dJ28_indexOf_2_78 : decode cJ28_indexOf_2 78 = .ok (.iload 9, 2) := dk_21 9 (dk_at dksJ28_indexOf_2_3 8 rfl rfl)
theorem dJ28_indexOf_2_80 : decode cJ28_indexOf_2 80 = .ok (.if_icmp .ge 23, 3) := dk_162 0 23 (dk_at dksJ28_indexOf_2_3 10 rfl rfl)
theorem dJ28_indexOf_2_83 : decode cJ28_indexOf_2 83 = .ok (.aload_n 0, 1) := dk_42 (dk_at dksJ28_indexOf_2_3 13 rfl rfl)
theorem dJ28_indexOf_2_84 : decode cJ28_indexOf_2 84 = .ok (.iload 8, 2) := dk_21 8 (dk_at dksJ28_indexOf_2_3 14 rfl rfl)
theorem dJ28_indexOf_2_86 : decode cJ28_indexOf_2 86 = .ok (.baload, 1) := dk_51 (dk_at dksJ28_indexOf_2_3 16 rfl rfl)
theorem dJ28_indexOf_2_87 : decode cJ28_indexOf_2 87 = .ok (.aload_n 2, 1) := dk_44 (dk_at dksJ28_indexOf_2_3 17 rfl rfl)
theorem dJ28_indexOf_2_88 : decode cJ28_indexOf_2 88 = .ok (.iload 10, 2) := dk_21 10 (dk_at dksJ28_indexOf_2_3 18 rfl rfl)
theorem dJ28_indexOf_2_90 : decode cJ28_indexOf_2 90 = .ok (.baload, 1) := dk_51 (dk_at dksJ28_indexOf_2_3 20 rfl rfl)
theorem dJ28_indexOf_2_91 : decode cJ28_indexOf_2 91 = .ok (.if_icmp .ne 12, 3) := dk_160 0 12 (dk_at dksJ28_indexOf_2_3 21 rfl rfl)
theorem dJ28_indexOf_2_94 : decode cJ28_indexOf_2 94 = .ok (.iinc 8 1, 3) := dk_132 8 1 (dk_at dksJ28_indexOf_2_4 0 rfl rfl)
theorem dJ28_indexOf_2_97 : decode cJ28_indexOf_2 97 = .ok (.iinc 10 1, 3) := dk_132 10 1 (dk_at dksJ28_indexOf_2_4 3 rfl rfl)
theorem dJ28_indexOf_2_100 : decode cJ28_indexOf_2 100 = .ok (.goto (-24), 3) := dk_167 255 232 (dk_at dksJ28_indexOf_2_4 6 rfl rfl)
theorem dJ28_indexOf_2_103 : decode cJ28_indexOf_2 103 = .ok (.iload 8, 2) := dk_21 8 (dk_at dksJ28_indexOf_2_4 9 rfl rfl)
theorem dJ28_indexOf_2_105 : decode cJ28_indexOf_2 105 = .ok (.iload 9, 2) := dk_21 9 (dk_at dksJ28_indexOf_2_4 11 rfl rfl)
theorem dJ28_indexOf_2_107 : decode cJ28_indexOf_2 107 = .ok (.if_icmp .ne 6, 3) := dk_160 0 6 (dk_at dksJ28_indexOf_2_4 13 rfl rfl)
theorem dJ28_indexOf_2_110 : decode cJ28_indexOf_2 110 = .ok (.iload 7, 2) := dk_21 7 (dk_at dksJ28_indexOf_2_4 16 rfl rfl)
theorem dJ28_indexOf_2_112 : decode cJ28_indexOf_2 112 = .ok (.ireturn, 1) := dk_172 (dk_at dksJ28_indexOf_2_4 18 rfl rfl)
theorem dJ28_indexOf_2_113 : decode cJ28_indexOf_2 113 = .ok (.iinc 7 1, 3) := dk_132 7 1 (dk_at dksJ28_indexOf_2_4 19 rfl rfl)
theorem dJ28_indexOf_2_116 : decode cJ28_indexOf_2 116 = .ok (.goto (-102), 3) := dk_167 255 154 (dk_at dksJ28_indexOf_2_5 0 rfl rfl)
theorem dJ28_indexOf_2_119 : decode cJ28_indexOf_2 119 = .ok (.iconst (-1), 1) := dk_2 (dk_at dksJ28_indexOf_2_5 3 rfl rfl)
theorem dJ28_indexOf_2_120 : decode cJ28_indexOf_2 120 = .ok (.ireturn, 1) := dk_172 (dk_at dksJ28_indexOf_2_5 4 rfl rfl)
abbrev cJ28_charAt : ByteArray := prog_43_method_2_code
def yJ28_charAt : MethodName := ⟨RJ28, "charAt", "([BI)C"⟩
def dkwJ28_charAt_0 : List UInt8 := [27, 42, 190, 184, 0, 9, 42, 27, 51, 17, 0, 255, 126, 146, 172]
abbrev dktJ28_charAt_0 : List UInt8 := dkwJ28_charAt_0 ++ []
theorem dksJ28_charAt_0 : cJ28_charAt.data.toList.drop 0 = dktJ28_charAt_0 := by decide +kernel
theorem dJ28_charAt_0 : decode cJ28_charAt 0 = .ok (.iload_n 1, 1) := dk_27 (dk_at dksJ28_charAt_0 0 rfl rfl)
theorem dJ28_charAt_1 : decode cJ28_charAt 1 = .ok (.aload_n 0, 1) := dk_42 (dk_at dksJ28_charAt_0 1 rfl rfl)
theorem dJ28_charAt_2 : decode cJ28_charAt 2 = .ok (.arraylength, 1) := dk_190 (dk_at dksJ28_charAt_0 2 rfl rfl)
theorem dJ28_charAt_3 : decode cJ28_charAt 3 = .ok (.invokestatic 9, 3) := dk_184 0 9 (dk_at dksJ28_charAt_0 3 rfl rfl)
theorem dJ28_charAt_6 : decode cJ28_charAt 6 = .ok (.aload_n 0, 1) := dk_42 (dk_at dksJ28_charAt_0 6 rfl rfl)
theorem dJ28_charAt_7 : decode cJ28_charAt 7 = .ok (.iload_n 1, 1) := dk_27 (dk_at dksJ28_charAt_0 7 rfl rfl)
theorem dJ28_charAt_8 : decode cJ28_charAt 8 = .ok (.baload, 1) := dk_51 (dk_at dksJ28_charAt_0 8 rfl rfl)
theorem dJ28_charAt_9 : decode cJ28_charAt 9 = .ok (.sipush 255, 3) := dk_17 0 255 (dk_at dksJ28_charAt_0 9 rfl rfl)
theorem dJ28_charAt_12 : decode cJ28_charAt 12 = .ok (.iand, 1) := dk_126 (dk_at dksJ28_charAt_0 12 rfl rfl)
theorem dJ28_charAt_13 : decode cJ28_charAt 13 = .ok (.i2c, 1) := dk_146 (dk_at dksJ28_charAt_0 13 rfl rfl)
theorem dJ28_charAt_14 : decode cJ28_charAt 14 = .ok (.ireturn, 1) := dk_172 (dk_at dksJ28_charAt_0 14 rfl rfl)
theorem q140 : (Jvm.Cond.initialized "java/lang/StringLatin1") ∈ lw_all := lw_g (lw_at lw_m1 34 rfl) rfl
theorem q951 : (Jvm.Cond.static ({ cls := "java/lang/StringLatin1", name := "hashCode", desc := "([B)I" } : Jvm.MethodName)) ∈ lw_all := lw_g (lw_at lw_m4 125 rfl) rfl
theorem q952 : (Jvm.Cond.code ({ cls := "java/lang/StringLatin1", name := "hashCode", desc := "([B)I" } : Jvm.MethodName) prog_43_method_21_code (1 : Nat) (Option.some Jvm.ClassFile.FieldType.int)) ∈ lw_all := lw_g (lw_at lw_m4 126 rfl) rfl
theorem q953 : (Jvm.Cond.methodLink "java/lang/StringLatin1" (84 : Nat) ({ cls := "jdk/internal/util/ArraysSupport", name := "vectorizedHashCode", desc := "(Ljava/lang/Object;IIII)I" } : Jvm.MethodName)) ∈ lw_all := lw_g (lw_at lw_m4 127 rfl) rfl
theorem q1061 : (Jvm.Cond.static ({ cls := "java/lang/StringLatin1", name := "equals", desc := "([B[B)Z" } : Jvm.MethodName)) ∈ lw_all := lw_g (lw_at lw_m4 235 rfl) rfl
theorem q1062 : (Jvm.Cond.code ({ cls := "java/lang/StringLatin1", name := "equals", desc := "([B[B)Z" } : Jvm.MethodName) prog_43_method_13_code (3 : Nat) (Option.some Jvm.ClassFile.FieldType.boolean)) ∈ lw_all := lw_g (lw_at lw_m4 236 rfl) rfl
theorem q1122 : (Jvm.Cond.static ({ cls := "java/lang/StringLatin1", name := "compareTo", desc := "([B[B)I" } : Jvm.MethodName)) ∈ lw_all := lw_g (lw_at lw_m5 56 rfl) rfl
theorem q1123 : (Jvm.Cond.code ({ cls := "java/lang/StringLatin1", name := "compareTo", desc := "([B[B)I" } : Jvm.MethodName) prog_43_method_14_code (4 : Nat) (Option.some Jvm.ClassFile.FieldType.int)) ∈ lw_all := lw_g (lw_at lw_m5 57 rfl) rfl
theorem q1124 : (Jvm.Cond.methodLink "java/lang/StringLatin1" (34 : Nat) ({ cls := "java/lang/StringLatin1", name := "compareTo", desc := "([B[BII)I" } : Jvm.MethodName)) ∈ lw_all := lw_g (lw_at lw_m5 58 rfl) rfl
theorem q1125 : (Jvm.Cond.static ({ cls := "java/lang/StringLatin1", name := "compareTo", desc := "([B[BII)I" } : Jvm.MethodName)) ∈ lw_all := lw_g (lw_at lw_m5 59 rfl) rfl
theorem q1126 : (Jvm.Cond.code ({ cls := "java/lang/StringLatin1", name := "compareTo", desc := "([B[BII)I" } : Jvm.MethodName) prog_43_method_15_code (6 : Nat) (Option.some Jvm.ClassFile.FieldType.int)) ∈ lw_all := lw_g (lw_at lw_m5 60 rfl) rfl
theorem q1127 : (Jvm.Cond.methodLink "java/lang/StringLatin1" (38 : Nat) ({ cls := "java/lang/Math", name := "min", desc := "(II)I" } : Jvm.MethodName)) ∈ lw_all := lw_g (lw_at lw_m5 61 rfl) rfl
theorem q1128 : (Jvm.Cond.methodLink "java/lang/StringLatin1" (44 : Nat) ({ cls := "jdk/internal/util/ArraysSupport", name := "mismatch", desc := "([B[BI)I" } : Jvm.MethodName)) ∈ lw_all := lw_g (lw_at lw_m5 62 rfl) rfl
theorem q1229 : (Jvm.Cond.methodLink "java/lang/StringLatin1" (50 : Nat) ({ cls := "java/lang/StringLatin1", name := "getChar", desc := "([BI)C" } : Jvm.MethodName)) ∈ lw_all := lw_g (lw_at lw_m5 163 rfl) rfl
theorem q1230 : (Jvm.Cond.static ({ cls := "java/lang/StringLatin1", name := "getChar", desc := "([BI)C" } : Jvm.MethodName)) ∈ lw_all := lw_g (lw_at lw_m5 164 rfl) rfl
theorem q1231 : (Jvm.Cond.code ({ cls := "java/lang/StringLatin1", name := "getChar", desc := "([BI)C" } : Jvm.MethodName) prog_43_method_44_code (2 : Nat) (Option.some Jvm.ClassFile.FieldType.char)) ∈ lw_all := lw_g (lw_at lw_m5 165 rfl) rfl
theorem q1240 : (Jvm.Cond.static ({ cls := "java/lang/StringLatin1", name := "compareToUTF16", desc := "([B[B)I" } : Jvm.MethodName)) ∈ lw_all := lw_g (lw_at lw_m5 174 rfl) rfl
theorem q1241 : (Jvm.Cond.code ({ cls := "java/lang/StringLatin1", name := "compareToUTF16", desc := "([B[B)I" } : Jvm.MethodName) prog_43_method_16_code (4 : Nat) (Option.some Jvm.ClassFile.FieldType.int)) ∈ lw_all := lw_g (lw_at lw_m5 175 rfl) rfl
theorem q1242 : (Jvm.Cond.methodLink "java/lang/StringLatin1" (54 : Nat) ({ cls := "java/lang/StringLatin1", name := "length", desc := "([B)I" } : Jvm.MethodName)) ∈ lw_all := lw_g (lw_at lw_m5 176 rfl) rfl
theorem q1243 : (Jvm.Cond.static ({ cls := "java/lang/StringLatin1", name := "length", desc := "([B)I" } : Jvm.MethodName)) ∈ lw_all := lw_g (lw_at lw_m5 177 rfl) rfl
theorem q1244 : (Jvm.Cond.code ({ cls := "java/lang/StringLatin1", name := "length", desc := "([B)I" } : Jvm.MethodName) prog_43_method_5_code (1 : Nat) (Option.some Jvm.ClassFile.FieldType.int)) ∈ lw_all := lw_g (lw_at lw_m5 178 rfl) rfl
theorem q1245 : (Jvm.Cond.methodLink "java/lang/StringLatin1" (58 : Nat) ({ cls := "java/lang/StringUTF16", name := "length", desc := "([B)I" } : Jvm.MethodName)) ∈ lw_all := lw_g (lw_at lw_m5 179 rfl) rfl
theorem q1246 : (Jvm.Cond.methodLink "java/lang/StringLatin1" (59 : Nat) ({ cls := "java/lang/StringLatin1", name := "compareToUTF16Values", desc := "([B[BII)I" } : Jvm.MethodName)) ∈ lw_all := lw_g (lw_at lw_m5 180 rfl) rfl
theorem q1247 : (Jvm.Cond.static ({ cls := "java/lang/StringLatin1", name := "compareToUTF16Values", desc := "([B[BII)I" } : Jvm.MethodName)) ∈ lw_all := lw_g (lw_at lw_m5 181 rfl) rfl
theorem q1248 : (Jvm.Cond.code ({ cls := "java/lang/StringLatin1", name := "compareToUTF16Values", desc := "([B[BII)I" } : Jvm.MethodName) prog_43_method_18_code (8 : Nat) (Option.some Jvm.ClassFile.FieldType.int)) ∈ lw_all := lw_g (lw_at lw_m5 182 rfl) rfl
theorem q1249 : (Jvm.Cond.methodLink "java/lang/StringLatin1" (65 : Nat) ({ cls := "java/lang/StringUTF16", name := "getChar", desc := "([BI)C" } : Jvm.MethodName)) ∈ lw_all := lw_g (lw_at lw_m5 183 rfl) rfl
theorem q1291 : (Jvm.Cond.static ({ cls := "java/lang/StringLatin1", name := "compareToUTF16", desc := "([B[BII)I" } : Jvm.MethodName)) ∈ lw_all := lw_g (lw_at lw_m5 225 rfl) rfl
theorem q1292 : (Jvm.Cond.code ({ cls := "java/lang/StringLatin1", name := "compareToUTF16", desc := "([B[BII)I" } : Jvm.MethodName) prog_43_method_17_code (4 : Nat) (Option.some Jvm.ClassFile.FieldType.int)) ∈ lw_all := lw_g (lw_at lw_m5 226 rfl) rfl
theorem q1293 : (Jvm.Cond.methodLink "java/lang/StringLatin1" (62 : Nat) ({ cls := "java/lang/String", name := "checkOffset", desc := "(II)V" } : Jvm.MethodName)) ∈ lw_all := lw_g (lw_at lw_m5 227 rfl) rfl
theorem q1628 : (Jvm.Cond.static ({ cls := "java/lang/StringLatin1", name := "canEncode", desc := "(C)Z" } : Jvm.MethodName)) ∈ lw_all := lw_g (lw_at lw_m7 82 rfl) rfl
theorem q1629 : (Jvm.Cond.code ({ cls := "java/lang/StringLatin1", name := "canEncode", desc := "(C)Z" } : Jvm.MethodName) prog_43_method_3_code (1 : Nat) (Option.some Jvm.ClassFile.FieldType.boolean)) ∈ lw_all := lw_g (lw_at lw_m7 83 rfl) rfl
theorem q1635 : (Jvm.Cond.static ({ cls := "java/lang/StringLatin1", name := "inflate", desc := "([BI[BII)V" } : Jvm.MethodName)) ∈ lw_all := lw_g (lw_at lw_m7 89 rfl) rfl
theorem q1636 : (Jvm.Cond.code ({ cls := "java/lang/StringLatin1", name := "inflate", desc := "([BI[BII)V" } : Jvm.MethodName) prog_43_method_50_code (5 : Nat) (Option.none : Option Jvm.ClassFile.FieldType)) ∈ lw_all := lw_g (lw_at lw_m7 90 rfl) rfl
theorem q1637 : (Jvm.Cond.methodLink "java/lang/StringLatin1" (240 : Nat) ({ cls := "java/lang/StringUTF16", name := "inflate", desc := "([BI[BII)V" } : Jvm.MethodName)) ∈ lw_all := lw_g (lw_at lw_m7 91 rfl) rfl
theorem q1836 : (Jvm.Cond.static ({ cls := "java/lang/StringLatin1", name := "indexOf", desc := "([B[B)I" } : Jvm.MethodName)) ∈ lw_all := lw_g (lw_at lw_m8 50 rfl) rfl
theorem q1837 : (Jvm.Cond.code ({ cls := "java/lang/StringLatin1", name := "indexOf", desc := "([B[B)I" } : Jvm.MethodName) prog_43_method_24_code (2 : Nat) (Option.some Jvm.ClassFile.FieldType.int)) ∈ lw_all := lw_g (lw_at lw_m8 51 rfl) rfl
theorem q1838 : (Jvm.Cond.methodLink "java/lang/StringLatin1" (99 : Nat) ({ cls := "java/lang/StringLatin1", name := "indexOf", desc := "([BI[BII)I" } : Jvm.MethodName)) ∈ lw_all := lw_g (lw_at lw_m8 52 rfl) rfl
theorem q1839 : (Jvm.Cond.static ({ cls := "java/lang/StringLatin1", name := "indexOf", desc := "([BI[BII)I" } : Jvm.MethodName)) ∈ lw_all := lw_g (lw_at lw_m8 53 rfl) rfl
theorem q1840 : (Jvm.Cond.code ({ cls := "java/lang/StringLatin1", name := "indexOf", desc := "([BI[BII)I" } : Jvm.MethodName) prog_43_method_25_code (11 : Nat) (Option.some Jvm.ClassFile.FieldType.int)) ∈ lw_all := lw_g (lw_at lw_m8 54 rfl) rfl
theorem q2501 : (Jvm.Cond.static ({ cls := "java/lang/StringLatin1", name := "charAt", desc := "([BI)C" } : Jvm.MethodName)) ∈ lw_all := lw_g (lw_at lw_m10 235 rfl) rfl
theorem q2502 : (Jvm.Cond.code ({ cls := "java/lang/StringLatin1", name := "charAt", desc := "([BI)C" } : Jvm.MethodName) prog_43_method_2_code (2 : Nat) (Option.some Jvm.ClassFile.FieldType.char)) ∈ lw_all := lw_g (lw_at lw_m10 236 rfl) rfl
theorem q2503 : (Jvm.Cond.methodLink "java/lang/StringLatin1" (9 : Nat) ({ cls := "java/lang/String", name := "checkIndex", desc := "(II)V" } : Jvm.MethodName)) ∈ lw_all := lw_g (lw_at lw_m10 237 rfl) rfl
/-! java/util/AbstractMap -/
set_option maxRecDepth 100000
def RJ3 : String := "java/util/AbstractMap"
abbrev cJ3_init : ByteArray := prog_52_method_1_code
def yJ3_init : MethodName := ⟨RJ3, "<init>", "()V"⟩
theorem dJ3_init_0 : decode cJ3_init 0 = .ok (.aload_n 0, 1) := by decide +kernel
theorem dJ3_init_1 : decode cJ3_init 1 = .ok (.invokespecial 1, 3) := by decide +kernel
theorem dJ3_init_4 : decode cJ3_init 4 = .ok (.return_, 1) := by decide +kernel
theorem q112 : (Jvm.Cond.initialized "java/util/AbstractMap") ∈ lw_all := lw_g (lw_at lw_m1 6 rfl) rfl
theorem q221 : (Jvm.Cond.instanceMethod ({ cls := "java/util/AbstractMap", name := "<init>", desc := "()V" } : Jvm.MethodName)) ∈ lw_all := lw_g (lw_at lw_m1 115 rfl) rfl
theorem q222 : (Jvm.Cond.code ({ cls := "java/util/AbstractMap", name := "<init>", desc := "()V" } : Jvm.MethodName) prog_52_method_1_code (1 : Nat) (Option.none : Option Jvm.ClassFile.FieldType)) ∈ lw_all := lw_g (lw_at lw_m1 116 rfl) rfl
theorem q223 : (Jvm.Cond.methodLink "java/util/AbstractMap" (1 : Nat) ({ cls := "java/lang/Object", name := "<init>", desc := "()V" } : Jvm.MethodName)) ∈ lw_all := lw_g (lw_at lw_m1 117 rfl) rfl
theorem q253 : (Jvm.Cond.soleField "java/util/AbstractMap" "keySet") ∈ lw_all := lw_g (lw_at lw_m1 147 rfl) rfl
theorem q255 : (Jvm.Cond.soleField "java/util/AbstractMap" "values") ∈ lw_all := lw_g (lw_at lw_m1 149 rfl) rfl
/-! java/lang/Long -/
set_option maxRecDepth 100000
def RJ31 : String := "java/lang/Long"
abbrev cJ31_numberOfLeadingZeros : ByteArray := prog_37_method_48_code
def yJ31_numberOfLeadingZeros : MethodName := ⟨RJ31, "numberOfLeadingZeros", "(J)I"⟩
def dkwJ31_numberOfLeadingZeros_1 : List UInt8 := [184, 1, 52, 172]
abbrev dktJ31_numberOfLeadingZeros_1 : List UInt8 := dkwJ31_numberOfLeadingZeros_1 ++ []
def dkwJ31_numberOfLeadingZeros_0 : List UInt8 := [30, 16, 32, 125, 136, 61, 28, 154, 0, 14, 16, 32, 30, 136, 184, 1, 52, 96, 167, 0, 7, 28]
abbrev dktJ31_numberOfLeadingZeros_0 : List UInt8 := dkwJ31_numberOfLeadingZeros_0 ++ dktJ31_numberOfLeadingZeros_1
theorem dksJ31_numberOfLeadingZeros_0 : cJ31_numberOfLeadingZeros.data.toList.drop 0 = dktJ31_numberOfLeadingZeros_0 := by decide +kernel
theorem dksJ31_numberOfLeadingZeros_1 : cJ31_numberOfLeadingZeros.data.toList.drop 22 = dktJ31_numberOfLeadingZeros_1 := dk_seg dksJ31_numberOfLeadingZeros_0 22 rfl rfl
theorem dJ31_numberOfLeadingZeros_0 : decode cJ31_numberOfLeadingZeros 0 = .ok (.lload_n 0, 1) := dk_30 (dk_at dksJ31_numberOfLeadingZeros_0 0 rfl rfl)
theorem dJ31_numberOfLeadingZeros_1 : decode cJ31_numberOfLeadingZeros 1 = .ok (.bipush 32, 2) := dk_16 32 (dk_at dksJ31_numberOfLeadingZeros_0 1 rfl rfl)
theorem dJ31_numberOfLeadingZeros_3 : decode cJ31_numberOfLeadingZeros 3 = .ok (.lushr, 1) := dk_125 (dk_at dksJ31_numberOfLeadingZeros_0 3 rfl rfl)
theorem dJ31_numberOfLeadingZeros_4 : decode cJ31_numberOfLeadingZeros 4 = .ok (.l2i, 1) := dk_136 (dk_at dksJ31_numberOfLeadingZeros_0 4 rfl rfl)
theorem dJ31_numberOfLeadingZeros_5 : decode cJ31_numberOfLeadingZeros 5 = .ok (.istore_n 2, 1) := dk_61 (dk_at dksJ31_numberOfLeadingZeros_0 5 rfl rfl)
theorem dJ31_numberOfLeadingZeros_6 : decode cJ31_numberOfLeadingZeros 6 = .ok (.iload_n 2, 1) := dk_28 (dk_at dksJ31_numberOfLeadingZeros_0 6 rfl rfl)
theorem dJ31_numberOfLeadingZeros_7 : decode cJ31_numberOfLeadingZeros 7 = .ok (.ifCond .ne 14, 3) := dk_154 0 14 (dk_at dksJ31_numberOfLeadingZeros_0 7 rfl rfl)
theorem dJ31_numberOfLeadingZeros_10 : decode cJ31_numberOfLeadingZeros 10 = .ok (.bipush 32, 2) := dk_16 32 (dk_at dksJ31_numberOfLeadingZeros_0 10 rfl rfl)
theorem dJ31_numberOfLeadingZeros_12 : decode cJ31_numberOfLeadingZeros 12 = .ok (.lload_n 0, 1) := dk_30 (dk_at dksJ31_numberOfLeadingZeros_0 12 rfl rfl)
theorem dJ31_numberOfLeadingZeros_13 : decode cJ31_numberOfLeadingZeros 13 = .ok (.l2i, 1) := dk_136 (dk_at dksJ31_numberOfLeadingZeros_0 13 rfl rfl)
theorem dJ31_numberOfLeadingZeros_14 : decode cJ31_numberOfLeadingZeros 14 = .ok (.invokestatic 308, 3) := dk_184 1 52 (dk_at dksJ31_numberOfLeadingZeros_0 14 rfl rfl)
theorem dJ31_numberOfLeadingZeros_17 : decode cJ31_numberOfLeadingZeros 17 = .ok (.iadd, 1) := dk_96 (dk_at dksJ31_numberOfLeadingZeros_0 17 rfl rfl)
theorem dJ31_numberOfLeadingZeros_18 : decode cJ31_numberOfLeadingZeros 18 = .ok (.goto 7, 3) := dk_167 0 7 (dk_at dksJ31_numberOfLeadingZeros_0 18 rfl rfl)
theorem dJ31_numberOfLeadingZeros_21 : decode cJ31_numberOfLeadingZeros 21 = .ok (.iload_n 2, 1) := dk_28 (dk_at dksJ31_numberOfLeadingZeros_0 21 rfl rfl)
theorem dJ31_numberOfLeadingZeros_22 : decode cJ31_numberOfLeadingZeros 22 = .ok (.invokestatic 308, 3) := dk_184 1 52 (dk_at dksJ31_numberOfLeadingZeros_1 0 rfl rfl)
theorem dJ31_numberOfLeadingZeros_25 : decode cJ31_numberOfLeadingZeros 25 = .ok (.ireturn, 1) := dk_172 (dk_at dksJ31_numberOfLeadingZeros_1 3 rfl rfl)
abbrev cJ31_numberOfTrailingZeros : ByteArray := prog_37_method_49_code
def yJ31_numberOfTrailingZeros : MethodName := ⟨RJ31, "numberOfTrailingZeros", "(J)I"⟩
def dkwJ31_numberOfTrailingZeros_1 : List UInt8 := [184, 1, 55, 172]
abbrev dktJ31_numberOfTrailingZeros_1 : List UInt8 := dkwJ31_numberOfTrailingZeros_1 ++ []
def dkwJ31_numberOfTrailingZeros_0 : List UInt8 := [30, 136, 61, 28, 154, 0, 17, 16, 32, 30, 16, 32, 125, 136, 184, 1, 55, 96, 167, 0, 7, 28]
abbrev dktJ31_numberOfTrailingZeros_0 : List UInt8 := dkwJ31_numberOfTrailingZeros_0 ++ dktJ31_numberOfTrailingZeros_1
theorem dksJ31_numberOfTrailingZeros_0 : cJ31_numberOfTrailingZeros.data.toList.drop 0 = dktJ31_numberOfTrailingZeros_0 := by decide +kernel
theorem dksJ31_numberOfTrailingZeros_1 : cJ31_numberOfTrailingZeros.data.toList.drop 22 = dktJ31_numberOfTrailingZeros_1 := dk_seg dksJ31_numberOfTrailingZeros_0 22 rfl rfl
theorem dJ31_numberOfTrailingZeros_0 : decode cJ31_numberOfTrailingZeros 0 = .ok (.lload_n 0, 1) := dk_30 (dk_at dksJ31_numberOfTrailingZeros_0 0 rfl rfl)
theorem dJ31_numberOfTrailingZeros_1 : decode cJ31_numberOfTrailingZeros 1 = .ok (.l2i, 1) := dk_136 (dk_at dksJ31_numberOfTrailingZeros_0 1 rfl rfl)
theorem dJ31_numberOfTrailingZeros_2 : decode cJ31_numberOfTrailingZeros 2 = .ok (.istore_n 2, 1) := dk_61 (dk_at dksJ31_numberOfTrailingZeros_0 2 rfl rfl)
theorem dJ31_numberOfTrailingZeros_3 : decode cJ31_numberOfTrailingZeros 3 = .ok (.iload_n 2, 1) := dk_28 (dk_at dksJ31_numberOfTrailingZeros_0 3 rfl rfl)
theorem dJ31_numberOfTrailingZeros_4 : decode cJ31_numberOfTrailingZeros 4 = .ok (.ifCond .ne 17, 3) := dk_154 0 17 (dk_at dksJ31_numberOfTrailingZeros_0 4 rfl rfl)
theorem dJ31_numberOfTrailingZeros_7 : decode cJ31_numberOfTrailingZeros 7 = .ok (.bipush 32, 2) := dk_16 32 (dk_at dksJ31_numberOfTrailingZeros_0 7 rfl rfl)
theorem dJ31_numberOfTrailingZeros_9 : decode cJ31_numberOfTrailingZeros 9 = .ok (.lload_n 0, 1) := dk_30 (dk_at dksJ31_numberOfTrailingZeros_0 9 rfl rfl)
theorem dJ31_numberOfTrailingZeros_10 : decode cJ31_numberOfTrailingZeros 10 = .ok (.bipush 32, 2) := dk_16 32 (dk_at dksJ31_numberOfTrailingZeros_0 10 rfl rfl)
theorem dJ31_numberOfTrailingZeros_12 : decode cJ31_numberOfTrailingZeros 12 = .ok (.lushr, 1) := dk_125 (dk_at dksJ31_numberOfTrailingZeros_0 12 rfl rfl)
theorem dJ31_numberOfTrailingZeros_13 : decode cJ31_numberOfTrailingZeros 13 = .ok (.l2i, 1) := dk_136 (dk_at dksJ31_numberOfTrailingZeros_0 13 rfl rfl)
theorem dJ31_numberOfTrailingZeros_14 : decode cJ31_numberOfTrailingZeros 14 = .ok (.invokestatic 311, 3) := dk_184 1 55 (dk_at dksJ31_numberOfTrailingZeros_0 14 rfl rfl)
theorem dJ31_numberOfTrailingZeros_17 : decode cJ31_numberOfTrailingZeros 17 = .ok (.iadd, 1) := dk_96 (dk_at dksJ31_numberOfTrailingZeros_0 17 rfl rfl)
theorem dJ31_numberOfTrailingZeros_18 : decode cJ31_numberOfTrailingZeros 18 = .ok (.goto 7, 3) := dk_167 0 7 (dk_at dksJ31_numberOfTrailingZeros_0 18 rfl rfl)
theorem dJ31_numberOfTrailingZeros_21 : decode cJ31_numberOfTrailingZeros 21 = .ok (.iload_n 2, 1) := dk_28 (dk_at dksJ31_numberOfTrailingZeros_0 21 rfl rfl)
theorem dJ31_numberOfTrailingZeros_22 : decode cJ31_numberOfTrailingZeros 22 = .ok (.invokestatic 311, 3) := dk_184 1 55 (dk_at dksJ31_numberOfTrailingZeros_1 0 rfl rfl)
theorem dJ31_numberOfTrailingZeros_25 : decode cJ31_numberOfTrailingZeros 25 = .ok (.ireturn, 1) := dk_172 (dk_at dksJ31_numberOfTrailingZeros_1 3 rfl rfl)
theorem q144 : (Jvm.Cond.initialized "java/lang/Long") ∈ lw_all := lw_g (lw_at lw_m1 38 rfl) rfl
theorem q1197 : (Jvm.Cond.static ({ cls := "java/lang/Long", name := "numberOfLeadingZeros", desc := "(J)I" } : Jvm.MethodName)) ∈ lw_all := lw_g (lw_at lw_m5 131 rfl) rfl
theorem q1198 : (Jvm.Cond.code ({ cls := "java/lang/Long", name := "numberOfLeadingZeros", desc := "(J)I" } : Jvm.MethodName) prog_37_method_48_code (3 : Nat) (Option.some Jvm.ClassFile.FieldType.int)) ∈ lw_all := lw_g (lw_at lw_m5 132 rfl) rfl
theorem q1199 : (Jvm.Cond.methodLink "java/lang/Long" (308 : Nat) ({ cls := "java/lang/Integer", name := "numberOfLeadingZeros", desc := "(I)I" } : Jvm.MethodName)) ∈ lw_all := lw_g (lw_at lw_m5 133 rfl) rfl
theorem q1203 : (Jvm.Cond.static ({ cls := "java/lang/Long", name := "numberOfTrailingZeros", desc := "(J)I" } : Jvm.MethodName)) ∈ lw_all := lw_g (lw_at lw_m5 137 rfl) rfl
theorem q1204 : (Jvm.Cond.code ({ cls := "java/lang/Long", name := "numberOfTrailingZeros", desc := "(J)I" } : Jvm.MethodName) prog_37_method_49_code (3 : Nat) (Option.some Jvm.ClassFile.FieldType.int)) ∈ lw_all := lw_g (lw_at lw_m5 138 rfl) rfl
theorem q1205 : (Jvm.Cond.methodLink "java/lang/Long" (311 : Nat) ({ cls := "java/lang/Integer", name := "numberOfTrailingZeros", desc := "(I)I" } : Jvm.MethodName)) ∈ lw_all := lw_g (lw_at lw_m5 139 rfl) rfl
/-! java/lang/AbstractStringBuilder -/
set_option maxRecDepth 100000
def RJ32 : String := "java/lang/AbstractStringBuilder"
abbrev cJ32_compareTo : ByteArray := prog_27_method_5_code
def yJ32_compareTo : MethodName := ⟨RJ32, "compareTo", "(Ljava/lang/AbstractStringBuilder;)I"⟩
def dkwJ32_compareTo_4 : List UInt8 := [184, 0, 97, 172]
abbrev dktJ32_compareTo_4 : List UInt8 := dkwJ32_compareTo_4 ++ []
def dkwJ32_compareTo_3 : List UInt8 := [182, 0, 83, 153, 0, 15, 44, 45, 21, 4, 21, 5, 184, 0, 94, 167, 0, 12, 44, 45, 21, 4, 21, 5]
abbrev dktJ32_compareTo_3 : List UInt8 := dkwJ32_compareTo_3 ++ dktJ32_compareTo_4
def dkwJ32_compareTo_2 : List UInt8 := [45, 21, 4, 21, 5, 184, 0, 87, 167, 0, 12, 44, 45, 21, 4, 21, 5, 184, 0, 93, 172, 42]
abbrev dktJ32_compareTo_2 : List UInt8 := dkwJ32_compareTo_2 ++ dktJ32_compareTo_3
def dkwJ32_compareTo_1 : List UInt8 := [180, 0, 79, 54, 5, 42, 180, 0, 22, 43, 180, 0, 22, 160, 0, 32, 42, 182, 0, 83, 153, 0, 15, 44]
abbrev dktJ32_compareTo_1 : List UInt8 := dkwJ32_compareTo_1 ++ dktJ32_compareTo_2
def dkwJ32_compareTo_0 : List UInt8 := [42, 43, 166, 0, 5, 3, 172, 42, 180, 0, 15, 77, 43, 180, 0, 15, 78, 42, 180, 0, 79, 54, 4, 43]
abbrev dktJ32_compareTo_0 : List UInt8 := dkwJ32_compareTo_0 ++ dktJ32_compareTo_1
theorem dksJ32_compareTo_0 : cJ32_compareTo.data.toList.drop 0 = dktJ32_compareTo_0 := by decide +kernel
theorem dksJ32_compareTo_1 : cJ32_compareTo.data.toList.drop 24 = dktJ32_compareTo_1 := dk_seg dksJ32_compareTo_0 24 rfl rfl
theorem dksJ32_compareTo_2 : cJ32_compareTo.data.toList.drop 48 = dktJ32_compareTo_2 := dk_seg dksJ32_compareTo_1 24 rfl rfl
theorem dksJ32_compareTo_3 : cJ32_compareTo.data.toList.drop 70 = dktJ32_compareTo_3 := dk_seg dksJ32_compareTo_2 22 rfl rfl
theorem dksJ32_compareTo_4 : cJ32_compareTo.data.toList.drop 94 = dktJ32_compareTo_4 := dk_seg dksJ32_compareTo_3 24 rfl rfl
theorem dJ32_compareTo_0 : decode cJ32_compareTo 0 = .ok (.aload_n 0, 1) := dk_42 (dk_at dksJ32_compareTo_0 0 rfl rfl)
theorem dJ32_compareTo_1 : decode cJ32_compareTo 1 = .ok (.aload_n 1, 1) := dk_43 (dk_at dksJ32_compareTo_0 1 rfl rfl)
theorem dJ32_compareTo_2 : decode cJ32_compareTo 2 = .ok (.if_acmp .ne 5, 3) := dk_166 0 5 (dk_at dksJ32_compareTo_0 2 rfl rfl)
theorem dJ32_compareTo_5 : decode cJ32_compareTo 5 = .ok (.iconst 0, 1) := dk_3 (dk_at dksJ32_compareTo_0 5 rfl rfl)
theorem dJ32_compareTo_6 : decode cJ32_compareTo 6 = .ok (.ireturn, 1) := dk_172 (dk_at dksJ32_compareTo_0 6 rfl rfl)
theorem dJ32_compareTo_7 : decode cJ32_compareTo 7 = .ok (.aload_n 0, 1) := dk_42 (dk_at dksJ32_compareTo_0 7 rfl rfl)
theorem dJ32_compareTo_8 : decode cJ32_compareTo 8 = .ok (.getfield 15, 3) := dk_180 0 15 (dk_at dksJ32_compareTo_0 8 rfl rfl)
theorem dJ32_compareTo_11 : decode cJ32_compareTo 11 = .ok (.astore_n 2, 1) := dk_77 (dk_at dksJ32_compareTo_0 11 rfl rfl)
theorem dJ32_compareTo_12 : decode cJ32_compareTo 12 = .ok (.aload_n 1, 1) := dk_43 (dk_at dksJ32_compareTo_0 12 rfl rfl)
theorem dJ32_compareTo_13 : decode cJ32_compareTo 13 = .ok (.getfield 15, 3) := dk_180 0 15 (dk_at dksJ32_compareTo_0 13 rfl rfl)
theorem dJ32_compareTo_16 : decode cJ32_compareTo 16 = .ok (.astore_n 3, 1) := dk_78 (dk_at dksJ32_compareTo_0 16 rfl rfl)
theorem dJ32_compareTo_17 : decode cJ32_compareTo 17 = .ok (.aload_n 0, 1) := dk_42 (dk_at dksJ32_compareTo_0 17 rfl rfl)
theorem dJ32_compareTo_18 : decode cJ32_compareTo 18 = .ok (.getfield 79, 3) := dk_180 0 79 (dk_at dksJ32_compareTo_0 18 rfl rfl)
theorem dJ32_compareTo_21 : decode cJ32_compareTo 21 = .ok (.istore 4, 2) := dk_54 4 (dk_at dksJ32_compareTo_0 21 rfl rfl)
theorem dJ32_compareTo_23 : decode cJ32_compareTo 23 = .ok (.aload_n 1, 1) := dk_43 (dk_at dksJ32_compareTo_0 23 rfl rfl)
theorem dJ32_compareTo_24 : decode cJ32_compareTo 24 = .ok (.getfield 79, 3) := dk_180 0 79 (dk_at dksJ32_compareTo_1 0 rfl rfl)
theorem dJ32_compareTo_27 : decode cJ32_compareTo 27 = .ok (.istore 5, 2) := dk_54 5 (dk_at dksJ32_compareTo_1 3 rfl rfl)
theorem dJ32_compareTo_29 : decode cJ32_compareTo 29 = .ok (.aload_n 0, 1) := dk_42 (dk_at dksJ32_compareTo_1 5 rfl rfl)
theorem dJ32_compareTo_30 : decode cJ32_compareTo 30 = .ok (.getfield 22, 3) := dk_180 0 22 (dk_at dksJ32_compareTo_1 6 rfl rfl)
theorem dJ32_compareTo_33 : decode cJ32_compareTo 33 = .ok (.aload_n 1, 1) := dk_43 (dk_at dksJ32_compareTo_1 9 rfl rfl)
theorem dJ32_compareTo_34 : decode cJ32_compareTo 34 = .ok (.getfield 22, 3) := dk_180 0 22 (dk_at dksJ32_compareTo_1 10 rfl rfl)
theorem dJ32_compareTo_37 : decode cJ32_compareTo 37 = .ok (.if_icmp .ne 32, 3) := dk_160 0 32 (dk_at dksJ32_compareTo_1 13 rfl rfl)
theorem dJ32_compareTo_40 : decode cJ32_compareTo 40 = .ok (.aload_n 0, 1) := dk_42 (dk_at dksJ32_compareTo_1 16 rfl rfl)
theorem dJ32_compareTo_41 : decode cJ32_compareTo 41 = .ok (.invokevirtual 83, 3) := dk_182 0 83 (dk_at dksJ32_compareTo_1 17 rfl rfl)
theorem dJ32_compareTo_44 : decode cJ32_compareTo 44 = .ok (.ifCond .eq 15, 3) := dk_153 0 15 (dk_at dksJ32_compareTo_1 20 rfl rfl)
theorem dJ32_compareTo_47 : decode cJ32_compareTo 47 = .ok (.aload_n 2, 1) := dk_44 (dk_at dksJ32_compareTo_1 23 rfl rfl)
theorem dJ32_compareTo_48 : decode cJ32_compareTo 48 = .ok (.aload_n 3, 1) := dk_45 (dk_at dksJ32_compareTo_2 0 rfl rfl)
theorem dJ32_compareTo_49 : decode cJ32_compareTo 49 = .ok (.iload 4, 2) := dk_21 4 (dk_at dksJ32_compareTo_2 1 rfl rfl)
theorem dJ32_compareTo_51 : decode cJ32_compareTo 51 = .ok (.iload 5, 2) := dk_21 5 (dk_at dksJ32_compareTo_2 3 rfl rfl)
theorem dJ32_compareTo_53 : decode cJ32_compareTo 53 = .ok (.invokestatic 87, 3) := dk_184 0 87 (dk_at dksJ32_compareTo_2 5 rfl rfl)
theorem dJ32_compareTo_56 : decode cJ32_compareTo 56 = .ok (.goto 12, 3) := dk_167 0 12 (dk_at dksJ32_compareTo_2 8 rfl rfl)
theorem dJ32_compareTo_59 : decode cJ32_compareTo 59 = .ok (.aload_n 2, 1) := dk_44 (dk_at dksJ32_compareTo_2 11 rfl rfl)
theorem dJ32_compareTo_60 : decode cJ32_compareTo 60 = .ok (.aload_n 3, 1) := dk_45 (dk_at dksJ32_compareTo_2 12 rfl rfl)
theorem dJ32_compareTo_61 : decode cJ32_compareTo 61 = .ok (.iload 4, 2) := dk_21 4 (dk_at dksJ32_compareTo_2 13 rfl rfl)
theorem dJ32_compareTo_63 : decode cJ32_compareTo 63 = .ok (.iload 5, 2) := dk_21 5 (dk_at dksJ32_compareTo_2 15 rfl rfl)
theorem dJ32_compareTo_65 : decode cJ32_compareTo 65 = .ok (.invokestatic 93, 3) := dk_184 0 93 (dk_at dksJ32_compareTo_2 17 rfl rfl)
theorem dJ32_compareTo_68 : decode cJ32_compareTo 68 = .ok (.ireturn, 1) := dk_172 (dk_at dksJ32_compareTo_2 20 rfl rfl)
theorem dJ32_compareTo_69 : decode cJ32_compareTo 69 = .ok (.aload_n 0, 1) := dk_42 (dk_at dksJ32_compareTo_2 21 rfl rfl)
theorem dJ32_compareTo_70 : decode cJ32_compareTo 70 = .ok (.invokevirtual 83, 3) := dk_182 0 83 (dk_at dksJ32_compareTo_3 0 rfl rfl)
theorem dJ32_compareTo_73 : decode cJ32_compareTo 73 = .ok (.ifCond .eq 15, 3) := dk_153 0 15 (dk_at dksJ32_compareTo_3 3 rfl rfl)
theorem dJ32_compareTo_76 : decode cJ32_compareTo 76 = .ok (.aload_n 2, 1) := dk_44 (dk_at dksJ32_compareTo_3 6 rfl rfl)
theorem dJ32_compareTo_77 : decode cJ32_compareTo 77 = .ok (.aload_n 3, 1) := dk_45 (dk_at dksJ32_compareTo_3 7 rfl rfl)
theorem dJ32_compareTo_78 : decode cJ32_compareTo 78 = .ok (.iload 4, 2) := dk_21 4 (dk_at dksJ32_compareTo_3 8 rfl rfl)
theorem dJ32_compareTo_80 : decode cJ32_compareTo 80 = .ok (.iload 5, 2) := dk_21 5 (dk_at dksJ32_compareTo_3 10 rfl rfl)
theorem dJ32_compareTo_82 : decode cJ32_compareTo 82 = .ok (.invokestatic 94, 3) := dk_184 0 94 (dk_at dksJ32_compareTo_3 12 rfl rfl)
theorem dJ32_compareTo_85 : decode cJ32_compareTo 85 = .ok (.goto 12, 3) := dk_167 0 12 (dk_at dksJ32_compareTo_3 15 rfl rfl)
theorem dJ32_compareTo_88 : decode cJ32_compareTo 88 = .ok (.aload_n 2, 1) := dk_44 (dk_at dksJ32_compareTo_3 18 rfl rfl)
theorem dJ32_compareTo_89 : decode cJ32_compareTo 89 = .ok (.aload_n 3, 1) := dk_45 (dk_at dksJ32_compareTo_3 19 rfl rfl)
theorem dJ32_compareTo_90 : decode cJ32_compareTo 90 = .ok (.iload 4, 2) := dk_21 4 (dk_at dksJ32_compareTo_3 20 rfl rfl)
theorem dJ32_compareTo_92 : decode cJ32_compareTo 92 = .ok (.iload 5, 2) := dk_21 5 (dk_at dksJ32_compareTo_3 22 rfl rfl)
theorem dJ32_compareTo_94 : decode cJ32_compareTo 94 = .ok (.invokestatic 97, 3) := dk_184 0 97 (dk_at dksJ32_compareTo_4 0 rfl rfl)
theorem dJ32_compareTo_97 : decode cJ32_compareTo 97 = .ok (.ireturn, 1) := dk_172 (dk_at dksJ32_compareTo_4 3 rfl rfl)
abbrev cJ32_isLatin1 : ByteArray := prog_27_method_68_code
def yJ32_isLatin1 : MethodName := ⟨RJ32, "isLatin1", "()Z"⟩
def dkwJ32_isLatin1_0 : List UInt8 := [178, 0, 18, 153, 0, 14, 42, 180, 0, 22, 154, 0, 7, 4, 167, 0, 4, 3, 172]
abbrev dktJ32_isLatin1_0 : List UInt8 := dkwJ32_isLatin1_0 ++ []
theorem dksJ32_isLatin1_0 : cJ32_isLatin1.data.toList.drop 0 = dktJ32_isLatin1_0 := by decide +kernel
theorem dJ32_isLatin1_0 : decode cJ32_isLatin1 0 = .ok (.getstatic 18, 3) := dk_178 0 18 (dk_at dksJ32_isLatin1_0 0 rfl rfl)
theorem dJ32_isLatin1_3 : decode cJ32_isLatin1 3 = .ok (.ifCond .eq 14, 3) := dk_153 0 14 (dk_at dksJ32_isLatin1_0 3 rfl rfl)
theorem dJ32_isLatin1_6 : decode cJ32_isLatin1 6 = .ok (.aload_n 0, 1) := dk_42 (dk_at dksJ32_isLatin1_0 6 rfl rfl)
theorem dJ32_isLatin1_7 : decode cJ32_isLatin1 7 = .ok (.getfield 22, 3) := dk_180 0 22 (dk_at dksJ32_isLatin1_0 7 rfl rfl)
theorem dJ32_isLatin1_10 : decode cJ32_isLatin1 10 = .ok (.ifCond .ne 7, 3) := dk_154 0 7 (dk_at dksJ32_isLatin1_0 10 rfl rfl)
theorem dJ32_isLatin1_13 : decode cJ32_isLatin1 13 = .ok (.iconst 1, 1) := dk_4 (dk_at dksJ32_isLatin1_0 13 rfl rfl)
theorem dJ32_isLatin1_14 : decode cJ32_isLatin1 14 = .ok (.goto 4, 3) := dk_167 0 4 (dk_at dksJ32_isLatin1_0 14 rfl rfl)
theorem dJ32_isLatin1_17 : decode cJ32_isLatin1 17 = .ok (.iconst 0, 1) := dk_3 (dk_at dksJ32_isLatin1_0 17 rfl rfl)
theorem dJ32_isLatin1_18 : decode cJ32_isLatin1 18 = .ok (.ireturn, 1) := dk_172 (dk_at dksJ32_isLatin1_0 18 rfl rfl)
abbrev cJ32_init : ByteArray := prog_27_method_2_code
def yJ32_init : MethodName := ⟨RJ32, "<init>", "(I)V"⟩
def dkwJ32_init_1 : List UInt8 := [167, 0, 16, 42, 27, 184, 0, 26, 181, 0, 15, 42, 4, 181, 0, 22, 177]
abbrev dktJ32_init_1 : List UInt8 := dkwJ32_init_1 ++ []
def dkwJ32_init_0 : List UInt8 := [42, 183, 0, 3, 178, 0, 18, 153, 0, 18, 42, 27, 188, 8, 181, 0, 15, 42, 3, 181, 0, 22]
abbrev dktJ32_init_0 : List UInt8 := dkwJ32_init_0 ++ dktJ32_init_1
theorem dksJ32_init_0 : cJ32_init.data.toList.drop 0 = dktJ32_init_0 := by decide +kernel
theorem dksJ32_init_1 : cJ32_init.data.toList.drop 22 = dktJ32_init_1 := dk_seg dksJ32_init_0 22 rfl rfl
theorem dJ32_init_0 : decode cJ32_init 0 = .ok (.aload_n 0, 1) := dk_42 (dk_at dksJ32_init_0 0 rfl rfl)
theorem dJ32_init_1 : decode cJ32_init 1 = .ok (.invokespecial 3, 3) := dk_183 0 3 (dk_at dksJ32_init_0 1 rfl rfl)
theorem dJ32_init_4 : decode cJ32_init 4 = .ok (.getstatic 18, 3) := dk_178 0 18 (dk_at dksJ32_init_0 4 rfl rfl)
theorem dJ32_init_7 : decode cJ32_init 7 = .ok (.ifCond .eq 18, 3) := dk_153 0 18 (dk_at dksJ32_init_0 7 rfl rfl)
theorem dJ32_init_10 : decode cJ32_init 10 = .ok (.aload_n 0, 1) := dk_42 (dk_at dksJ32_init_0 10 rfl rfl)
theorem dJ32_init_11 : decode cJ32_init 11 = .ok (.iload_n 1, 1) := dk_27 (dk_at dksJ32_init_0 11 rfl rfl)
theorem dJ32_init_12 : decode cJ32_init 12 = .ok (.newarray .byte, 2) := dk_188_8 (dk_at dksJ32_init_0 12 rfl rfl)
theorem dJ32_init_14 : decode cJ32_init 14 = .ok (.putfield 15, 3) := dk_181 0 15 (dk_at dksJ32_init_0 14 rfl rfl)
theorem dJ32_init_17 : decode cJ32_init 17 = .ok (.aload_n 0, 1) := dk_42 (dk_at dksJ32_init_0 17 rfl rfl)
theorem dJ32_init_18 : decode cJ32_init 18 = .ok (.iconst 0, 1) := dk_3 (dk_at dksJ32_init_0 18 rfl rfl)
theorem dJ32_init_19 : decode cJ32_init 19 = .ok (.putfield 22, 3) := dk_181 0 22 (dk_at dksJ32_init_0 19 rfl rfl)
theorem dJ32_init_22 : decode cJ32_init 22 = .ok (.goto 16, 3) := dk_167 0 16 (dk_at dksJ32_init_1 0 rfl rfl)
theorem dJ32_init_25 : decode cJ32_init 25 = .ok (.aload_n 0, 1) := dk_42 (dk_at dksJ32_init_1 3 rfl rfl)
theorem dJ32_init_26 : decode cJ32_init 26 = .ok (.iload_n 1, 1) := dk_27 (dk_at dksJ32_init_1 4 rfl rfl)
theorem dJ32_init_27 : decode cJ32_init 27 = .ok (.invokestatic 26, 3) := dk_184 0 26 (dk_at dksJ32_init_1 5 rfl rfl)
theorem dJ32_init_30 : decode cJ32_init 30 = .ok (.putfield 15, 3) := dk_181 0 15 (dk_at dksJ32_init_1 8 rfl rfl)
theorem dJ32_init_33 : decode cJ32_init 33 = .ok (.aload_n 0, 1) := dk_42 (dk_at dksJ32_init_1 11 rfl rfl)
theorem dJ32_init_34 : decode cJ32_init 34 = .ok (.iconst 1, 1) := dk_4 (dk_at dksJ32_init_1 12 rfl rfl)
theorem dJ32_init_35 : decode cJ32_init 35 = .ok (.putfield 22, 3) := dk_181 0 22 (dk_at dksJ32_init_1 13 rfl rfl)
theorem dJ32_init_38 : decode cJ32_init 38 = .ok (.return_, 1) := dk_177 (dk_at dksJ32_init_1 16 rfl rfl)
abbrev cJ32_append : ByteArray := prog_27_method_31_code
def yJ32_append : MethodName := ⟨RJ32, "append", "(C)Ljava/lang/AbstractStringBuilder;"⟩
def dkwJ32_append_3 : List UInt8 := [181, 0, 79, 27, 184, 0, 197, 42, 176]
abbrev dktJ32_append_3 : List UInt8 := dkwJ32_append_3 ++ []
def dkwJ32_append_2 : List UInt8 := [182, 0, 83, 153, 0, 7, 42, 182, 0, 195, 42, 180, 0, 15, 42, 89, 180, 0, 79, 90, 4, 96]
abbrev dktJ32_append_2 : List UInt8 := dkwJ32_append_2 ++ dktJ32_append_3
def dkwJ32_append_1 : List UInt8 := [42, 180, 0, 15, 42, 89, 180, 0, 79, 90, 4, 96, 181, 0, 79, 27, 145, 84, 167, 0, 33, 42]
abbrev dktJ32_append_1 : List UInt8 := dkwJ32_append_1 ++ dktJ32_append_2
def dkwJ32_append_0 : List UInt8 := [42, 42, 180, 0, 79, 4, 96, 182, 0, 100, 42, 182, 0, 83, 153, 0, 31, 27, 184, 0, 191, 153, 0, 24]
abbrev dktJ32_append_0 : List UInt8 := dkwJ32_append_0 ++ dktJ32_append_1
theorem dksJ32_append_0 : cJ32_append.data.toList.drop 0 = dktJ32_append_0 := by decide +kernel
theorem dksJ32_append_1 : cJ32_append.data.toList.drop 24 = dktJ32_append_1 := dk_seg dksJ32_append_0 24 rfl rfl
theorem dksJ32_append_2 : cJ32_append.data.toList.drop 46 = dktJ32_append_2 := dk_seg dksJ32_append_1 22 rfl rfl
theorem dksJ32_append_3 : cJ32_append.data.toList.drop 68 = dktJ32_append_3 := dk_seg dksJ32_append_2 22 rfl rfl
theorem dJ32_append_0 : decode cJ32_append 0 = .ok (.aload_n 0, 1) := dk_42 (dk_at dksJ32_append_0 0 rfl rfl)
theorem dJ32_append_1 : decode cJ32_append 1 = .ok (.aload_n 0, 1) := dk_42 (dk_at dksJ32_append_0 1 rfl rfl)
theorem dJ32_append_2 : decode cJ32_append 2 = .ok (.getfield 79, 3) := dk_180 0 79 (dk_at dksJ32_append_0 2 rfl rfl)
theorem dJ32_append_5 : decode cJ32_append 5 = .ok (.iconst 1, 1) := dk_4 (dk_at dksJ32_append_0 5 rfl rfl)
theorem dJ32_append_6 : decode cJ32_append 6 = .ok (.iadd, 1) := dk_96 (dk_at dksJ32_append_0 6 rfl rfl)
theorem dJ32_append_7 : decode cJ32_append 7 = .ok (.invokevirtual 100, 3) := dk_182 0 100 (dk_at dksJ32_append_0 7 rfl rfl)
theorem dJ32_append_10 : decode cJ32_append 10 = .ok (.aload_n 0, 1) := dk_42 (dk_at dksJ32_append_0 10 rfl rfl)
theorem dJ32_append_11 : decode cJ32_append 11 = .ok (.invokevirtual 83, 3) := dk_182 0 83 (dk_at dksJ32_append_0 11 rfl rfl)
theorem dJ32_append_14 : decode cJ32_append 14 = .ok (.ifCond .eq 31, 3) := dk_153 0 31 (dk_at dksJ32_append_0 14 rfl rfl)
theorem dJ32_append_17 : decode cJ32_append 17 = .ok (.iload_n 1, 1) := dk_27 (dk_at dksJ32_append_0 17 rfl rfl)
theorem dJ32_append_18 : decode cJ32_append 18 = .ok (.invokestatic 191, 3) := dk_184 0 191 (dk_at dksJ32_append_0 18 rfl rfl)
theorem dJ32_append_21 : decode cJ32_append 21 = .ok (.ifCond .eq 24, 3) := dk_153 0 24 (dk_at dksJ32_append_0 21 rfl rfl)
theorem dJ32_append_24 : decode cJ32_append 24 = .ok (.aload_n 0, 1) := dk_42 (dk_at dksJ32_append_1 0 rfl rfl)
theorem dJ32_append_25 : decode cJ32_append 25 = .ok (.getfield 15, 3) := dk_180 0 15 (dk_at dksJ32_append_1 1 rfl rfl)
theorem dJ32_append_28 : decode cJ32_append 28 = .ok (.aload_n 0, 1) := dk_42 (dk_at dksJ32_append_1 4 rfl rfl)
theorem dJ32_append_29 : decode cJ32_append 29 = .ok (.dup, 1) := dk_89 (dk_at dksJ32_append_1 5 rfl rfl)
theorem dJ32_append_30 : decode cJ32_append 30 = .ok (.getfield 79, 3) := dk_180 0 79 (dk_at dksJ32_append_1 6 rfl rfl)
theorem dJ32_append_33 : decode cJ32_append 33 = .ok (.dup_x1, 1) := dk_90 (dk_at dksJ32_append_1 9 rfl rfl)
theorem dJ32_append_34 : decode cJ32_append 34 = .ok (.iconst 1, 1) := dk_4 (dk_at dksJ32_append_1 10 rfl rfl)
theorem dJ32_append_35 : decode cJ32_append 35 = .ok (.iadd, 1) := dk_96 (dk_at dksJ32_append_1 11 rfl rfl)
theorem dJ32_append_36 : decode cJ32_append 36 = .ok (.putfield 79, 3) := dk_181 0 79 (dk_at dksJ32_append_1 12 rfl rfl)
theorem dJ32_append_39 : decode cJ32_append 39 = .ok (.iload_n 1, 1) := dk_27 (dk_at dksJ32_append_1 15 rfl rfl)
theorem dJ32_append_40 : decode cJ32_append 40 = .ok (.i2b, 1) := dk_145 (dk_at dksJ32_append_1 16 rfl rfl)
theorem dJ32_append_41 : decode cJ32_append 41 = .ok (.bastore, 1) := dk_84 (dk_at dksJ32_append_1 17 rfl rfl)
theorem dJ32_append_42 : decode cJ32_append 42 = .ok (.goto 33, 3) := dk_167 0 33 (dk_at dksJ32_append_1 18 rfl rfl)
theorem dJ32_append_45 : decode cJ32_append 45 = .ok (.aload_n 0, 1) := dk_42 (dk_at dksJ32_append_1 21 rfl rfl)
theorem dJ32_append_46 : decode cJ32_append 46 = .ok (.invokevirtual 83, 3) := dk_182 0 83 (dk_at dksJ32_append_2 0 rfl rfl)
theorem dJ32_append_49 : decode cJ32_append 49 = .ok (.ifCond .eq 7, 3) := dk_153 0 7 (dk_at dksJ32_append_2 3 rfl rfl)
theorem dJ32_append_52 : decode cJ32_append 52 = .ok (.aload_n 0, 1) := dk_42 (dk_at dksJ32_append_2 6 rfl rfl)
theorem dJ32_append_53 : decode cJ32_append 53 = .ok (.invokevirtual 195, 3) := dk_182 0 195 (dk_at dksJ32_append_2 7 rfl rfl)
theorem dJ32_append_56 : decode cJ32_append 56 = .ok (.aload_n 0, 1) := dk_42 (dk_at dksJ32_append_2 10 rfl rfl)
theorem dJ32_append_57 : decode cJ32_append 57 = .ok (.getfield 15, 3) := dk_180 0 15 (dk_at dksJ32_append_2 11 rfl rfl)
theorem dJ32_append_60 : decode cJ32_append 60 = .ok (.aload_n 0, 1) := dk_42 (dk_at dksJ32_append_2 14 rfl rfl)
theorem dJ32_append_61 : decode cJ32_append 61 = .ok (.dup, 1) := dk_89 (dk_at dksJ32_append_2 15 rfl rfl)
theorem dJ32_append_62 : decode cJ32_append 62 = .ok (.getfield 79, 3) := dk_180 0 79 (dk_at dksJ32_append_2 16 rfl rfl)
theorem dJ32_append_65 : decode cJ32_append 65 = .ok (.dup_x1, 1) := dk_90 (dk_at dksJ32_append_2 19 rfl rfl)
theorem dJ32_append_66 : decode cJ32_append 66 = .ok (.iconst 1, 1) := dk_4 (dk_at dksJ32_append_2 20 rfl rfl)
theorem dJ32_append_67 : decode cJ32_append 67 = .ok (.iadd, 1) := dk_96 (dk_at dksJ32_append_2 21 rfl rfl)
theorem dJ32_append_68 : decode cJ32_append 68 = .ok (.putfield 79, 3) := dk_181 0 79 (dk_at dksJ32_append_3 0 rfl rfl)
theorem dJ32_append_71 : decode cJ32_append 71 = .ok (.iload_n 1, 1) := dk_27 (dk_at dksJ32_append_3 3 rfl rfl)
theorem dJ32_append_72 : decode cJ32_append 72 = .ok (.invokestatic 197, 3) := dk_184 0 197 (dk_at dksJ32_append_3 4 rfl rfl)
theorem dJ32_append_75 : decode cJ32_append 75 = .ok (.aload_n 0, 1) := dk_42 (dk_at dksJ32_append_3 7 rfl rfl)
theorem dJ32_append_76 : decode cJ32_append 76 = .ok (.areturn, 1) := dk_176 (dk_at dksJ32_append_3 8 rfl rfl)
abbrev cJ32_ensureCapacityInternal : ByteArray := prog_27_method_9_code
def yJ32_ensureCapacityInternal : MethodName := ⟨RJ32, "ensureCapacityInternal", "(I)V"⟩
def dkwJ32_ensureCapacityInternal_1 : List UInt8 := [182, 0, 104, 42, 180, 0, 22, 120, 184, 0, 108, 181, 0, 15, 177]
abbrev dktJ32_ensureCapacityInternal_1 : List UInt8 := dkwJ32_ensureCapacityInternal_1 ++ []
def dkwJ32_ensureCapacityInternal_0 : List UInt8 := [42, 180, 0, 15, 190, 42, 180, 0, 22, 122, 61, 27, 28, 100, 158, 0, 24, 42, 42, 180, 0, 15, 42, 27]
abbrev dktJ32_ensureCapacityInternal_0 : List UInt8 := dkwJ32_ensureCapacityInternal_0 ++ dktJ32_ensureCapacityInternal_1
theorem dksJ32_ensureCapacityInternal_0 : cJ32_ensureCapacityInternal.data.toList.drop 0 = dktJ32_ensureCapacityInternal_0 := by decide +kernel
theorem dksJ32_ensureCapacityInternal_1 : cJ32_ensureCapacityInternal.data.toList.drop 24 = dktJ32_ensureCapacityInternal_1 := dk_seg dksJ32_ensureCapacityInternal_0 24 rfl rfl
theorem dJ32_ensureCapacityInternal_0 : decode cJ32_ensureCapacityInternal 0 = .ok (.aload_n 0, 1) := dk_42 (dk_at dksJ32_ensureCapacityInternal_0 0 rfl rfl)
theorem dJ32_ensureCapacityInternal_1 : decode cJ32_ensureCapacityInternal 1 = .ok (.getfield 15, 3) := dk_180 0 15 (dk_at dksJ32_ensureCapacityInternal_0 1 rfl rfl)
theorem dJ32_ensureCapacityInternal_4 : decode cJ32_ensureCapacityInternal 4 = .ok (.arraylength, 1) := dk_190 (dk_at dksJ32_ensureCapacityInternal_0 4 rfl rfl)
theorem dJ32_ensureCapacityInternal_5 : decode cJ32_ensureCapacityInternal 5 = .ok (.aload_n 0, 1) := dk_42 (dk_at dksJ32_ensureCapacityInternal_0 5 rfl rfl)
theorem dJ32_ensureCapacityInternal_6 : decode cJ32_ensureCapacityInternal 6 = .ok (.getfield 22, 3) := dk_180 0 22 (dk_at dksJ32_ensureCapacityInternal_0 6 rfl rfl)
theorem dJ32_ensureCapacityInternal_9 : decode cJ32_ensureCapacityInternal 9 = .ok (.ishr, 1) := dk_122 (dk_at dksJ32_ensureCapacityInternal_0 9 rfl rfl)
theorem dJ32_ensureCapacityInternal_10 : decode cJ32_ensureCapacityInternal 10 = .ok (.istore_n 2, 1) := dk_61 (dk_at dksJ32_ensureCapacityInternal_0 10 rfl rfl)
theorem dJ32_ensureCapacityInternal_11 : decode cJ32_ensureCapacityInternal 11 = .ok (.iload_n 1, 1) := dk_27 (dk_at dksJ32_ensureCapacityInternal_0 11 rfl rfl)
theorem dJ32_ensureCapacityInternal_12 : decode cJ32_ensureCapacityInternal 12 = .ok (.iload_n 2, 1) := dk_28 (dk_at dksJ32_ensureCapacityInternal_0 12 rfl rfl)
theorem dJ32_ensureCapacityInternal_13 : decode cJ32_ensureCapacityInternal 13 = .ok (.isub, 1) := dk_100 (dk_at dksJ32_ensureCapacityInternal_0 13 rfl rfl)
theorem dJ32_ensureCapacityInternal_14 : decode cJ32_ensureCapacityInternal 14 = .ok (.ifCond .le 24, 3) := dk_158 0 24 (dk_at dksJ32_ensureCapacityInternal_0 14 rfl rfl)
theorem dJ32_ensureCapacityInternal_17 : decode cJ32_ensureCapacityInternal 17 = .ok (.aload_n 0, 1) := dk_42 (dk_at dksJ32_ensureCapacityInternal_0 17 rfl rfl)
theorem dJ32_ensureCapacityInternal_18 : decode cJ32_ensureCapacityInternal 18 = .ok (.aload_n 0, 1) := dk_42 (dk_at dksJ32_ensureCapacityInternal_0 18 rfl rfl)
theorem dJ32_ensureCapacityInternal_19 : decode cJ32_ensureCapacityInternal 19 = .ok (.getfield 15, 3) := dk_180 0 15 (dk_at dksJ32_ensureCapacityInternal_0 19 rfl rfl)
theorem dJ32_ensureCapacityInternal_22 : decode cJ32_ensureCapacityInternal 22 = .ok (.aload_n 0, 1) := dk_42 (dk_at dksJ32_ensureCapacityInternal_0 22 rfl rfl)
theorem dJ32_ensureCapacityInternal_23 : decode cJ32_ensureCapacityInternal 23 = .ok (.iload_n 1, 1) := dk_27 (dk_at dksJ32_ensureCapacityInternal_0 23 rfl rfl)
theorem dJ32_ensureCapacityInternal_24 : decode cJ32_ensureCapacityInternal 24 = .ok (.invokevirtual 104, 3) := dk_182 0 104 (dk_at dksJ32_ensureCapacityInternal_1 0 rfl rfl)
theorem dJ32_ensureCapacityInternal_27 : decode cJ32_ensureCapacityInternal 27 = .ok (.aload_n 0, 1) := dk_42 (dk_at dksJ32_ensureCapacityInternal_1 3 rfl rfl)
theorem dJ32_ensureCapacityInternal_28 : decode cJ32_ensureCapacityInternal 28 = .ok (.getfield 22, 3) := dk_180 0 22 (dk_at dksJ32_ensureCapacityInternal_1 4 rfl rfl)
theorem dJ32_ensureCapacityInternal_31 : decode cJ32_ensureCapacityInternal 31 = .ok (.ishl, 1) := dk_120 (dk_at dksJ32_ensureCapacityInternal_1 7 rfl rfl)
theorem dJ32_ensureCapacityInternal_32 : decode cJ32_ensureCapacityInternal 32 = .ok (.invokestatic 108, 3) := dk_184 0 108 (dk_at dksJ32_ensureCapacityInternal_1 8 rfl rfl)
theorem dJ32_ensureCapacityInternal_35 : decode cJ32_ensureCapacityInternal 35 = .ok (.putfield 15, 3) := dk_181 0 15 (dk_at dksJ32_ensureCapacityInternal_1 11 rfl rfl)
theorem dJ32_ensureCapacityInternal_38 : decode cJ32_ensureCapacityInternal 38 = .ok (.return_, 1) := dk_177 (dk_at dksJ32_ensureCapacityInternal_1 14 rfl rfl)
abbrev cJ32_newCapacity : ByteArray := prog_27_method_10_code
def yJ32_newCapacity : MethodName := ⟨RJ32, "newCapacity", "(I)I"⟩
def dkwJ32_newCapacity_2 : List UInt8 := [183, 0, 124, 191, 21, 5, 42, 180, 0, 22, 122, 172]
abbrev dktJ32_newCapacity_2 : List UInt8 := dkwJ32_newCapacity_2 ++ []
def dkwJ32_newCapacity_1 : List UInt8 := [180, 0, 22, 120, 96, 184, 0, 114, 54, 5, 21, 5, 18, 39, 160, 0, 13, 187, 0, 120, 89, 18, 122]
abbrev dktJ32_newCapacity_1 : List UInt8 := dkwJ32_newCapacity_1 ++ dktJ32_newCapacity_2
def dkwJ32_newCapacity_0 : List UInt8 := [42, 180, 0, 15, 190, 61, 27, 42, 180, 0, 22, 120, 62, 29, 28, 100, 54, 4, 28, 21, 4, 28, 5, 42]
abbrev dktJ32_newCapacity_0 : List UInt8 := dkwJ32_newCapacity_0 ++ dktJ32_newCapacity_1
theorem dksJ32_newCapacity_0 : cJ32_newCapacity.data.toList.drop 0 = dktJ32_newCapacity_0 := by decide +kernel
theorem dksJ32_newCapacity_1 : cJ32_newCapacity.data.toList.drop 24 = dktJ32_newCapacity_1 := dk_seg dksJ32_newCapacity_0 24 rfl rfl
theorem dksJ32_newCapacity_2 : cJ32_newCapacity.data.toList.drop 47 = dktJ32_newCapacity_2 := dk_seg dksJ32_newCapacity_1 23 rfl rfl
theorem dJ32_newCapacity_0 : decode cJ32_newCapacity 0 = .ok (.aload_n 0, 1) := dk_42 (dk_at dksJ32_newCapacity_0 0 rfl rfl)
theorem dJ32_newCapacity_1 : decode cJ32_newCapacity 1 = .ok (.getfield 15, 3) := dk_180 0 15 (dk_at dksJ32_newCapacity_0 1 rfl rfl)
theorem dJ32_newCapacity_4 : decode cJ32_newCapacity 4 = .ok (.arraylength, 1) := dk_190 (dk_at dksJ32_newCapacity_0 4 rfl rfl)
theorem dJ32_newCapacity_5 : decode cJ32_newCapacity 5 = .ok (.istore_n 2, 1) := dk_61 (dk_at dksJ32_newCapacity_0 5 rfl rfl)
theorem dJ32_newCapacity_6 : decode cJ32_newCapacity 6 = .ok (.iload_n 1, 1) := dk_27 (dk_at dksJ32_newCapacity_0 6 rfl rfl)
theorem dJ32_newCapacity_7 : decode cJ32_newCapacity 7 = .ok (.aload_n 0, 1) := dk_42 (dk_at dksJ32_newCapacity_0 7 rfl rfl)
theorem dJ32_newCapacity_8 : decode cJ32_newCapacity 8 = .ok (.getfield 22, 3) := dk_180 0 22 (dk_at dksJ32_newCapacity_0 8 rfl rfl)
theorem dJ32_newCapacity_11 : decode cJ32_newCapacity 11 = .ok (.ishl, 1) := dk_120 (dk_at dksJ32_newCapacity_0 11 rfl rfl)
theorem dJ32_newCapacity_12 : decode cJ32_newCapacity 12 = .ok (.istore_n 3, 1) := dk_62 (dk_at dksJ32_newCapacity_0 12 rfl rfl)
theorem dJ32_newCapacity_13 : decode cJ32_newCapacity 13 = .ok (.iload_n 3, 1) := dk_29 (dk_at dksJ32_newCapacity_0 13 rfl rfl)
theorem dJ32_newCapacity_14 : decode cJ32_newCapacity 14 = .ok (.iload_n 2, 1) := dk_28 (dk_at dksJ32_newCapacity_0 14 rfl rfl)
theorem dJ32_newCapacity_15 : decode cJ32_newCapacity 15 = .ok (.isub, 1) := dk_100 (dk_at dksJ32_newCapacity_0 15 rfl rfl)
theorem dJ32_newCapacity_16 : decode cJ32_newCapacity 16 = .ok (.istore 4, 2) := dk_54 4 (dk_at dksJ32_newCapacity_0 16 rfl rfl)
theorem dJ32_newCapacity_18 : decode cJ32_newCapacity 18 = .ok (.iload_n 2, 1) := dk_28 (dk_at dksJ32_newCapacity_0 18 rfl rfl)
theorem dJ32_newCapacity_19 : decode cJ32_newCapacity 19 = .ok (.iload 4, 2) := dk_21 4 (dk_at dksJ32_newCapacity_0 19 rfl rfl)
theorem dJ32_newCapacity_21 : decode cJ32_newCapacity 21 = .ok (.iload_n 2, 1) := dk_28 (dk_at dksJ32_newCapacity_0 21 rfl rfl)
theorem dJ32_newCapacity_22 : decode cJ32_newCapacity 22 = .ok (.iconst 2, 1) := dk_5 (dk_at dksJ32_newCapacity_0 22 rfl rfl)
theorem dJ32_newCapacity_23 : decode cJ32_newCapacity 23 = .ok (.aload_n 0, 1) := dk_42 (dk_at dksJ32_newCapacity_0 23 rfl rfl)
theorem dJ32_newCapacity_24 : decode cJ32_newCapacity 24 = .ok (.getfield 22, 3) := dk_180 0 22 (dk_at dksJ32_newCapacity_1 0 rfl rfl)
theorem dJ32_newCapacity_27 : decode cJ32_newCapacity 27 = .ok (.ishl, 1) := dk_120 (dk_at dksJ32_newCapacity_1 3 rfl rfl)
theorem dJ32_newCapacity_28 : decode cJ32_newCapacity 28 = .ok (.iadd, 1) := dk_96 (dk_at dksJ32_newCapacity_1 4 rfl rfl)
theorem dJ32_newCapacity_29 : decode cJ32_newCapacity 29 = .ok (.invokestatic 114, 3) := dk_184 0 114 (dk_at dksJ32_newCapacity_1 5 rfl rfl)
theorem dJ32_newCapacity_32 : decode cJ32_newCapacity 32 = .ok (.istore 5, 2) := dk_54 5 (dk_at dksJ32_newCapacity_1 8 rfl rfl)
theorem dJ32_newCapacity_34 : decode cJ32_newCapacity 34 = .ok (.iload 5, 2) := dk_21 5 (dk_at dksJ32_newCapacity_1 10 rfl rfl)
theorem dJ32_newCapacity_36 : decode cJ32_newCapacity 36 = .ok (.ldc 39, 2) := dk_18 39 (dk_at dksJ32_newCapacity_1 12 rfl rfl)
theorem dJ32_newCapacity_38 : decode cJ32_newCapacity 38 = .ok (.if_icmp .ne 13, 3) := dk_160 0 13 (dk_at dksJ32_newCapacity_1 14 rfl rfl)
theorem dJ32_newCapacity_41 : decode cJ32_newCapacity 41 = .ok (.new 120, 3) := dk_187 0 120 (dk_at dksJ32_newCapacity_1 17 rfl rfl)
theorem dJ32_newCapacity_44 : decode cJ32_newCapacity 44 = .ok (.dup, 1) := dk_89 (dk_at dksJ32_newCapacity_1 20 rfl rfl)
theorem dJ32_newCapacity_45 : decode cJ32_newCapacity 45 = .ok (.ldc 122, 2) := dk_18 122 (dk_at dksJ32_newCapacity_1 21 rfl rfl)
theorem dJ32_newCapacity_47 : decode cJ32_newCapacity 47 = .ok (.invokespecial 124, 3) := dk_183 0 124 (dk_at dksJ32_newCapacity_2 0 rfl rfl)
theorem dJ32_newCapacity_50 : decode cJ32_newCapacity 50 = .ok (.athrow, 1) := dk_191 (dk_at dksJ32_newCapacity_2 3 rfl rfl)
theorem dJ32_newCapacity_51 : decode cJ32_newCapacity 51 = .ok (.iload 5, 2) := dk_21 5 (dk_at dksJ32_newCapacity_2 4 rfl rfl)
theorem dJ32_newCapacity_53 : decode cJ32_newCapacity 53 = .ok (.aload_n 0, 1) := dk_42 (dk_at dksJ32_newCapacity_2 6 rfl rfl)
theorem dJ32_newCapacity_54 : decode cJ32_newCapacity 54 = .ok (.getfield 22, 3) := dk_180 0 22 (dk_at dksJ32_newCapacity_2 7 rfl rfl)
theorem dJ32_newCapacity_57 : decode cJ32_newCapacity 57 = .ok (.ishr, 1) := dk_122 (dk_at dksJ32_newCapacity_2 10 rfl rfl)
theorem dJ32_newCapacity_58 : decode cJ32_newCapacity 58 = .ok (.ireturn, 1) := dk_172 (dk_at dksJ32_newCapacity_2 11 rfl rfl)
abbrev cJ32_inflate : ByteArray := prog_27_method_11_code
def yJ32_inflate : MethodName := ⟨RJ32, "inflate", "()V"⟩
def dkwJ32_inflate_1 : List UInt8 := [42, 180, 0, 79, 184, 0, 125, 42, 43, 181, 0, 15, 42, 4, 181, 0, 22, 177]
abbrev dktJ32_inflate_1 : List UInt8 := dkwJ32_inflate_1 ++ []
def dkwJ32_inflate_0 : List UInt8 := [42, 182, 0, 83, 154, 0, 4, 177, 42, 180, 0, 15, 190, 184, 0, 26, 76, 42, 180, 0, 15, 3, 43, 3]
abbrev dktJ32_inflate_0 : List UInt8 := dkwJ32_inflate_0 ++ dktJ32_inflate_1
theorem dksJ32_inflate_0 : cJ32_inflate.data.toList.drop 0 = dktJ32_inflate_0 := by decide +kernel
theorem dksJ32_inflate_1 : cJ32_inflate.data.toList.drop 24 = dktJ32_inflate_1 := dk_seg dksJ32_inflate_0 24 rfl rfl
theorem dJ32_inflate_0 : decode cJ32_inflate 0 = .ok (.aload_n 0, 1) := dk_42 (dk_at dksJ32_inflate_0 0 rfl rfl)
theorem dJ32_inflate_1 : decode cJ32_inflate 1 = .ok (.invokevirtual 83, 3) := dk_182 0 83 (dk_at dksJ32_inflate_0 1 rfl rfl)
theorem dJ32_inflate_4 : decode cJ32_inflate 4 = .ok (.ifCond .ne 4, 3) := dk_154 0 4 (dk_at dksJ32_inflate_0 4 rfl rfl)
theorem dJ32_inflate_7 : decode cJ32_inflate 7 = .ok (.return_, 1) := dk_177 (dk_at dksJ32_inflate_0 7 rfl rfl)
theorem dJ32_inflate_8 : decode cJ32_inflate 8 = .ok (.aload_n 0, 1) := dk_42 (dk_at dksJ32_inflate_0 8 rfl rfl)
theorem dJ32_inflate_9 : decode cJ32_inflate 9 = .ok (.getfield 15, 3) := dk_180 0 15 (dk_at dksJ32_inflate_0 9 rfl rfl)
theorem dJ32_inflate_12 : decode cJ32_inflate 12 = .ok (.arraylength, 1) := dk_190 (dk_at dksJ32_inflate_0 12 rfl rfl)
theorem dJ32_inflate_13 : decode cJ32_inflate 13 = .ok (.invokestatic 26, 3) := dk_184 0 26 (dk_at dksJ32_inflate_0 13 rfl rfl)
theorem dJ32_inflate_16 : decode cJ32_inflate 16 = .ok (.astore_n 1, 1) := dk_76 (dk_at dksJ32_inflate_0 16 rfl rfl)
theorem dJ32_inflate_17 : decode cJ32_inflate 17 = .ok (.aload_n 0, 1) := dk_42 (dk_at dksJ32_inflate_0 17 rfl rfl)
theorem dJ32_inflate_18 : decode cJ32_inflate 18 = .ok (.getfield 15, 3) := dk_180 0 15 (dk_at dksJ32_inflate_0 18 rfl rfl)
theorem dJ32_inflate_21 : decode cJ32_inflate 21 = .ok (.iconst 0, 1) := dk_3 (dk_at dksJ32_inflate_0 21 rfl rfl)
theorem dJ32_inflate_22 : decode cJ32_inflate 22 = .ok (.aload_n 1, 1) := dk_43 (dk_at dksJ32_inflate_0 22 rfl rfl)
theorem dJ32_inflate_23 : decode cJ32_inflate 23 = .ok (.iconst 0, 1) := dk_3 (dk_at dksJ32_inflate_0 23 rfl rfl)
theorem dJ32_inflate_24 : decode cJ32_inflate 24 = .ok (.aload_n 0, 1) := dk_42 (dk_at dksJ32_inflate_1 0 rfl rfl)
theorem dJ32_inflate_25 : decode cJ32_inflate 25 = .ok (.getfield 79, 3) := dk_180 0 79 (dk_at dksJ32_inflate_1 1 rfl rfl)
theorem dJ32_inflate_28 : decode cJ32_inflate 28 = .ok (.invokestatic 125, 3) := dk_184 0 125 (dk_at dksJ32_inflate_1 4 rfl rfl)
theorem dJ32_inflate_31 : decode cJ32_inflate 31 = .ok (.aload_n 0, 1) := dk_42 (dk_at dksJ32_inflate_1 7 rfl rfl)
theorem dJ32_inflate_32 : decode cJ32_inflate 32 = .ok (.aload_n 1, 1) := dk_43 (dk_at dksJ32_inflate_1 8 rfl rfl)
theorem dJ32_inflate_33 : decode cJ32_inflate 33 = .ok (.putfield 15, 3) := dk_181 0 15 (dk_at dksJ32_inflate_1 9 rfl rfl)
theorem dJ32_inflate_36 : decode cJ32_inflate 36 = .ok (.aload_n 0, 1) := dk_42 (dk_at dksJ32_inflate_1 12 rfl rfl)
theorem dJ32_inflate_37 : decode cJ32_inflate 37 = .ok (.iconst 1, 1) := dk_4 (dk_at dksJ32_inflate_1 13 rfl rfl)
theorem dJ32_inflate_38 : decode cJ32_inflate 38 = .ok (.putfield 22, 3) := dk_181 0 22 (dk_at dksJ32_inflate_1 14 rfl rfl)
theorem dJ32_inflate_41 : decode cJ32_inflate 41 = .ok (.return_, 1) := dk_177 (dk_at dksJ32_inflate_1 17 rfl rfl)
abbrev cJ32_getValue : ByteArray := prog_27_method_64_code
def yJ32_getValue : MethodName := ⟨RJ32, "getValue", "()[B"⟩
theorem dJ32_getValue_0 : decode cJ32_getValue 0 = .ok (.aload_n 0, 1) := by decide +kernel
theorem dJ32_getValue_1 : decode cJ32_getValue 1 = .ok (.getfield 15, 3) := by decide +kernel
theorem dJ32_getValue_4 : decode cJ32_getValue 4 = .ok (.areturn, 1) := by decide +kernel
abbrev cJ32_length : ByteArray := prog_27_method_6_code
def yJ32_length : MethodName := ⟨RJ32, "length", "()I"⟩
theorem dJ32_length_0 : decode cJ32_length 0 = .ok (.aload_n 0, 1) := by decide +kernel
theorem dJ32_length_1 : decode cJ32_length 1 = .ok (.getfield 79, 3) := by decide +kernel
theorem dJ32_length_4 : decode cJ32_length 4 = .ok (.ireturn, 1) := by decide +kernel
abbrev cJ32_append_2 : ByteArray := prog_27_method_22_code
def yJ32_append_2 : MethodName := ⟨RJ32, "append", "(Ljava/lang/String;)Ljava/lang/AbstractStringBuilder;"⟩
def dkwJ32_append_2_1 : List UInt8 := [42, 42, 180, 0, 79, 43, 182, 0, 208, 42, 89, 180, 0, 79, 28, 96, 181, 0, 79, 42, 176]
abbrev dktJ32_append_2_1 : List UInt8 := dkwJ32_append_2_1 ++ []
def dkwJ32_append_2_0 : List UInt8 := [43, 199, 0, 8, 42, 182, 0, 204, 176, 43, 182, 0, 32, 61, 42, 42, 180, 0, 79, 28, 96, 182, 0, 100]
abbrev dktJ32_append_2_0 : List UInt8 := dkwJ32_append_2_0 ++ dktJ32_append_2_1
theorem dksJ32_append_2_0 : cJ32_append_2.data.toList.drop 0 = dktJ32_append_2_0 := by decide +kernel
theorem dksJ32_append_2_1 : cJ32_append_2.data.toList.drop 24 = dktJ32_append_2_1 := dk_seg dksJ32_append_2_0 24 rfl rfl
theorem dJ32_append_2_0 : decode cJ32_append_2 0 = .ok (.aload_n 1, 1) := dk_43 (dk_at dksJ32_append_2_0 0 rfl rfl)
theorem dJ32_append_2_1 : decode cJ32_append_2 1 = .ok (.ifnonnull 8, 3) := dk_199 0 8 (dk_at dksJ32_append_2_0 1 rfl rfl)
theorem dJ32_append_2_4 : decode cJ32_append_2 4 = .ok (.aload_n 0, 1) := dk_42 (dk_at dksJ32_append_2_0 4 rfl rfl)
theorem dJ32_append_2_5 : decode cJ32_append_2 5 = .ok (.invokevirtual 204, 3) := dk_182 0 204 (dk_at dksJ32_append_2_0 5 rfl rfl)
theorem dJ32_append_2_8 : decode cJ32_append_2 8 = .ok (.areturn, 1) := dk_176 (dk_at dksJ32_append_2_0 8 rfl rfl)
theorem dJ32_append_2_9 : decode cJ32_append_2 9 = .ok (.aload_n 1, 1) := dk_43 (dk_at dksJ32_append_2_0 9 rfl rfl)
theorem dJ32_append_2_10 : decode cJ32_append_2 10 = .ok (.invokevirtual 32, 3) := dk_182 0 32 (dk_at dksJ32_append_2_0 10 rfl rfl)
theorem dJ32_append_2_13 : decode cJ32_append_2 13 = .ok (.istore_n 2, 1) := dk_61 (dk_at dksJ32_append_2_0 13 rfl rfl)
theorem dJ32_append_2_14 : decode cJ32_append_2 14 = .ok (.aload_n 0, 1) := dk_42 (dk_at dksJ32_append_2_0 14 rfl rfl)
theorem dJ32_append_2_15 : decode cJ32_append_2 15 = .ok (.aload_n 0, 1) := dk_42 (dk_at dksJ32_append_2_0 15 rfl rfl)
theorem dJ32_append_2_16 : decode cJ32_append_2 16 = .ok (.getfield 79, 3) := dk_180 0 79 (dk_at dksJ32_append_2_0 16 rfl rfl)
theorem dJ32_append_2_19 : decode cJ32_append_2 19 = .ok (.iload_n 2, 1) := dk_28 (dk_at dksJ32_append_2_0 19 rfl rfl)
theorem dJ32_append_2_20 : decode cJ32_append_2 20 = .ok (.iadd, 1) := dk_96 (dk_at dksJ32_append_2_0 20 rfl rfl)
theorem dJ32_append_2_21 : decode cJ32_append_2 21 = .ok (.invokevirtual 100, 3) := dk_182 0 100 (dk_at dksJ32_append_2_0 21 rfl rfl)
theorem dJ32_append_2_24 : decode cJ32_append_2 24 = .ok (.aload_n 0, 1) := dk_42 (dk_at dksJ32_append_2_1 0 rfl rfl)
theorem dJ32_append_2_25 : decode cJ32_append_2 25 = .ok (.aload_n 0, 1) := dk_42 (dk_at dksJ32_append_2_1 1 rfl rfl)
theorem dJ32_append_2_26 : decode cJ32_append_2 26 = .ok (.getfield 79, 3) := dk_180 0 79 (dk_at dksJ32_append_2_1 2 rfl rfl)
theorem dJ32_append_2_29 : decode cJ32_append_2 29 = .ok (.aload_n 1, 1) := dk_43 (dk_at dksJ32_append_2_1 5 rfl rfl)
theorem dJ32_append_2_30 : decode cJ32_append_2 30 = .ok (.invokevirtual 208, 3) := dk_182 0 208 (dk_at dksJ32_append_2_1 6 rfl rfl)
theorem dJ32_append_2_33 : decode cJ32_append_2 33 = .ok (.aload_n 0, 1) := dk_42 (dk_at dksJ32_append_2_1 9 rfl rfl)
theorem dJ32_append_2_34 : decode cJ32_append_2 34 = .ok (.dup, 1) := dk_89 (dk_at dksJ32_append_2_1 10 rfl rfl)
theorem dJ32_append_2_35 : decode cJ32_append_2 35 = .ok (.getfield 79, 3) := dk_180 0 79 (dk_at dksJ32_append_2_1 11 rfl rfl)
theorem dJ32_append_2_38 : decode cJ32_append_2 38 = .ok (.iload_n 2, 1) := dk_28 (dk_at dksJ32_append_2_1 14 rfl rfl)
theorem dJ32_append_2_39 : decode cJ32_append_2 39 = .ok (.iadd, 1) := dk_96 (dk_at dksJ32_append_2_1 15 rfl rfl)
theorem dJ32_append_2_40 : decode cJ32_append_2 40 = .ok (.putfield 79, 3) := dk_181 0 79 (dk_at dksJ32_append_2_1 16 rfl rfl)
theorem dJ32_append_2_43 : decode cJ32_append_2 43 = .ok (.aload_n 0, 1) := dk_42 (dk_at dksJ32_append_2_1 19 rfl rfl)
theorem dJ32_append_2_44 : decode cJ32_append_2 44 = .ok (.areturn, 1) := dk_176 (dk_at dksJ32_append_2_1 20 rfl rfl)
abbrev cJ32_appendNull : ByteArray := prog_27_method_26_code
def yJ32_appendNull : MethodName := ⟨RJ32, "appendNull", "()Ljava/lang/AbstractStringBuilder;"⟩
def dkwJ32_appendNull_3 : List UInt8 := [184, 0, 226, 60, 42, 27, 181, 0, 79, 42, 176]
abbrev dktJ32_appendNull_3 : List UInt8 := dkwJ32_appendNull_3 ++ []
def dkwJ32_appendNull_2 : List UInt8 := [16, 108, 84, 44, 27, 132, 1, 1, 16, 108, 84, 167, 0, 17, 44, 27, 16, 110, 16, 117, 16, 108, 16, 108]
abbrev dktJ32_appendNull_2 : List UInt8 := dkwJ32_appendNull_2 ++ dktJ32_appendNull_3
def dkwJ32_appendNull_1 : List UInt8 := [153, 0, 38, 44, 27, 132, 1, 1, 16, 110, 84, 44, 27, 132, 1, 1, 16, 117, 84, 44, 27, 132, 1, 1]
abbrev dktJ32_appendNull_1 : List UInt8 := dkwJ32_appendNull_1 ++ dktJ32_appendNull_2
def dkwJ32_appendNull_0 : List UInt8 := [42, 42, 180, 0, 79, 7, 96, 182, 0, 100, 42, 180, 0, 79, 60, 42, 180, 0, 15, 77, 42, 182, 0, 83]
abbrev dktJ32_appendNull_0 : List UInt8 := dkwJ32_appendNull_0 ++ dktJ32_appendNull_1
theorem dksJ32_appendNull_0 : cJ32_appendNull.data.toList.drop 0 = dktJ32_appendNull_0 := by decide +kernel
theorem dksJ32_appendNull_1 : cJ32_appendNull.data.toList.drop 24 = dktJ32_appendNull_1 := dk_seg dksJ32_appendNull_0 24 rfl rfl
theorem dksJ32_appendNull_2 : cJ32_appendNull.data.toList.drop 48 = dktJ32_appendNull_2 := dk_seg dksJ32_appendNull_1 24 rfl rfl
theorem dksJ32_appendNull_3 : cJ32_appendNull.data.toList.drop 72 = dktJ32_appendNull_3 := dk_seg dksJ32_appendNull_2 24 rfl rfl
theorem dJ32_appendNull_0 : decode cJ32_appendNull 0 = .ok (.aload_n 0, 1) := dk_42 (dk_at dksJ32_appendNull_0 0 rfl rfl)
theorem dJ32_appendNull_1 : decode cJ32_appendNull 1 = .ok (.aload_n 0, 1) := dk_42 (dk_at dksJ32_appendNull_0 1 rfl rfl)
theorem dJ32_appendNull_2 : decode cJ32_appendNull 2 = .ok (.getfield 79, 3) := dk_180 0 79 (dk_at dksJ32_appendNull_0 2 rfl rfl)
theorem dJ32_appendNull_5 : decode cJ32_appendNull 5 = .ok (.iconst 4, 1) := dk_7 (dk_at dksJ32_appendNull_0 5 rfl rfl)
theorem dJ32_appendNull_6 : decode cJ32_appendNull 6 = .ok (.iadd, 1) := dk_96 (dk_at dksJ32_appendNull_0 6 rfl rfl)
theorem dJ32_appendNull_7 : decode cJ32_appendNull 7 = .ok (.invokevirtual 100, 3) := dk_182 0 100 (dk_at dksJ32_appendNull_0 7 rfl rfl)
theorem dJ32_appendNull_10 : decode cJ32_appendNull 10 = .ok (.aload_n 0, 1) := dk_42 (dk_at dksJ32_appendNull_0 10 rfl rfl)
theorem dJ32_appendNull_11 : decode cJ32_appendNull 11 = .ok (.getfield 79, 3) := dk_180 0 79 (dk_at dksJ32_appendNull_0 11 rfl rfl)
theorem dJ32_appendNull_14 : decode cJ32_appendNull 14 = .ok (.istore_n 1, 1) := dk_60 (dk_at dksJ32_appendNull_0 14 rfl rfl)
theorem dJ32_appendNull_15 : decode cJ32_appendNull 15 = .ok (.aload_n 0, 1) := dk_42 (dk_at dksJ32_appendNull_0 15 rfl rfl)
theorem dJ32_appendNull_16 : decode cJ32_appendNull 16 = .ok (.getfield 15, 3) := dk_180 0 15 (dk_at dksJ32_appendNull_0 16 rfl rfl)
theorem dJ32_appendNull_19 : decode cJ32_appendNull 19 = .ok (.astore_n 2, 1) := dk_77 (dk_at dksJ32_appendNull_0 19 rfl rfl)
theorem dJ32_appendNull_20 : decode cJ32_appendNull 20 = .ok (.aload_n 0, 1) := dk_42 (dk_at dksJ32_appendNull_0 20 rfl rfl)
theorem dJ32_appendNull_21 : decode cJ32_appendNull 21 = .ok (.invokevirtual 83, 3) := dk_182 0 83 (dk_at dksJ32_appendNull_0 21 rfl rfl)
theorem dJ32_appendNull_24 : decode cJ32_appendNull 24 = .ok (.ifCond .eq 38, 3) := dk_153 0 38 (dk_at dksJ32_appendNull_1 0 rfl rfl)
theorem dJ32_appendNull_27 : decode cJ32_appendNull 27 = .ok (.aload_n 2, 1) := dk_44 (dk_at dksJ32_appendNull_1 3 rfl rfl)
theorem dJ32_appendNull_28 : decode cJ32_appendNull 28 = .ok (.iload_n 1, 1) := dk_27 (dk_at dksJ32_appendNull_1 4 rfl rfl)
theorem dJ32_appendNull_29 : decode cJ32_appendNull 29 = .ok (.iinc 1 1, 3) := dk_132 1 1 (dk_at dksJ32_appendNull_1 5 rfl rfl)
theorem dJ32_appendNull_32 : decode cJ32_appendNull 32 = .ok (.bipush 110, 2) := dk_16 110 (dk_at dksJ32_appendNull_1 8 rfl rfl)
theorem dJ32_appendNull_34 : decode cJ32_appendNull 34 = .ok (.bastore, 1) := dk_84 (dk_at dksJ32_appendNull_1 10 rfl rfl)
theorem dJ32_appendNull_35 : decode cJ32_appendNull 35 = .ok (.aload_n 2, 1) := dk_44 (dk_at dksJ32_appendNull_1 11 rfl rfl)
theorem dJ32_appendNull_36 : decode cJ32_appendNull 36 = .ok (.iload_n 1, 1) := dk_27 (dk_at dksJ32_appendNull_1 12 rfl rfl)
theorem dJ32_appendNull_37 : decode cJ32_appendNull 37 = .ok (.iinc 1 1, 3) := dk_132 1 1 (dk_at dksJ32_appendNull_1 13 rfl rfl)
theorem dJ32_appendNull_40 : decode cJ32_appendNull 40 = .ok (.bipush 117, 2) := dk_16 117 (dk_at dksJ32_appendNull_1 16 rfl rfl)
theorem dJ32_appendNull_42 : decode cJ32_appendNull 42 = .ok (.bastore, 1) := dk_84 (dk_at dksJ32_appendNull_1 18 rfl rfl)
theorem dJ32_appendNull_43 : decode cJ32_appendNull 43 = .ok (.aload_n 2, 1) := dk_44 (dk_at dksJ32_appendNull_1 19 rfl rfl)
theorem dJ32_appendNull_44 : decode cJ32_appendNull 44 = .ok (.iload_n 1, 1) := dk_27 (dk_at dksJ32_appendNull_1 20 rfl rfl)
theorem dJ32_appendNull_45 : decode cJ32_appendNull 45 = .ok (.iinc 1 1, 3) := dk_132 1 1 (dk_at dksJ32_appendNull_1 21 rfl rfl)
theorem dJ32_appendNull_48 : decode cJ32_appendNull 48 = .ok (.bipush 108, 2) := dk_16 108 (dk_at dksJ32_appendNull_2 0 rfl rfl)
theorem dJ32_appendNull_50 : decode cJ32_appendNull 50 = .ok (.bastore, 1) := dk_84 (dk_at dksJ32_appendNull_2 2 rfl rfl)
theorem dJ32_appendNull_51 : decode cJ32_appendNull 51 = .ok (.aload_n 2, 1) := dk_44 (dk_at dksJ32_appendNull_2 3 rfl rfl)
theorem dJ32_appendNull_52 : decode cJ32_appendNull 52 = .ok (.iload_n 1, 1) := dk_27 (dk_at dksJ32_appendNull_2 4 rfl rfl)
theorem dJ32_appendNull_53 : decode cJ32_appendNull 53 = .ok (.iinc 1 1, 3) := dk_132 1 1 (dk_at dksJ32_appendNull_2 5 rfl rfl)
theorem dJ32_appendNull_56 : decode cJ32_appendNull 56 = .ok (.bipush 108, 2) := dk_16 108 (dk_at dksJ32_appendNull_2 8 rfl rfl)
theorem dJ32_appendNull_58 : decode cJ32_appendNull 58 = .ok (.bastore, 1) := dk_84 (dk_at dksJ32_appendNull_2 10 rfl rfl)
theorem dJ32_appendNull_59 : decode cJ32_appendNull 59 = .ok (.goto 17, 3) := dk_167 0 17 (dk_at dksJ32_appendNull_2 11 rfl rfl)
theorem dJ32_appendNull_62 : decode cJ32_appendNull 62 = .ok (.aload_n 2, 1) := dk_44 (dk_at dksJ32_appendNull_2 14 rfl rfl)
theorem dJ32_appendNull_63 : decode cJ32_appendNull 63 = .ok (.iload_n 1, 1) := dk_27 (dk_at dksJ32_appendNull_2 15 rfl rfl)
theorem dJ32_appendNull_64 : decode cJ32_appendNull 64 = .ok (.bipush 110, 2) := dk_16 110 (dk_at dksJ32_appendNull_2 16 rfl rfl)
theorem dJ32_appendNull_66 : decode cJ32_appendNull 66 = .ok (.bipush 117, 2) := dk_16 117 (dk_at dksJ32_appendNull_2 18 rfl rfl)
theorem dJ32_appendNull_68 : decode cJ32_appendNull 68 = .ok (.bipush 108, 2) := dk_16 108 (dk_at dksJ32_appendNull_2 20 rfl rfl)
theorem dJ32_appendNull_70 : decode cJ32_appendNull 70 = .ok (.bipush 108, 2) := dk_16 108 (dk_at dksJ32_appendNull_2 22 rfl rfl)
theorem dJ32_appendNull_72 : decode cJ32_appendNull 72 = .ok (.invokestatic 226, 3) := dk_184 0 226 (dk_at dksJ32_appendNull_3 0 rfl rfl)
theorem dJ32_appendNull_75 : decode cJ32_appendNull 75 = .ok (.istore_n 1, 1) := dk_60 (dk_at dksJ32_appendNull_3 3 rfl rfl)
theorem dJ32_appendNull_76 : decode cJ32_appendNull 76 = .ok (.aload_n 0, 1) := dk_42 (dk_at dksJ32_appendNull_3 4 rfl rfl)
theorem dJ32_appendNull_77 : decode cJ32_appendNull 77 = .ok (.iload_n 1, 1) := dk_27 (dk_at dksJ32_appendNull_3 5 rfl rfl)
theorem dJ32_appendNull_78 : decode cJ32_appendNull 78 = .ok (.putfield 79, 3) := dk_181 0 79 (dk_at dksJ32_appendNull_3 6 rfl rfl)
theorem dJ32_appendNull_81 : decode cJ32_appendNull 81 = .ok (.aload_n 0, 1) := dk_42 (dk_at dksJ32_appendNull_3 9 rfl rfl)
theorem dJ32_appendNull_82 : decode cJ32_appendNull 82 = .ok (.areturn, 1) := dk_176 (dk_at dksJ32_appendNull_3 10 rfl rfl)
abbrev cJ32_putStringAt : ByteArray := prog_27_method_73_code
def yJ32_putStringAt : MethodName := ⟨RJ32, "putStringAt", "(ILjava/lang/String;)V"⟩
def dkwJ32_putStringAt_0 : List UInt8 := [42, 44, 182, 1, 141, 44, 42, 180, 0, 15, 27, 42, 180, 0, 22, 182, 1, 143, 177]
abbrev dktJ32_putStringAt_0 : List UInt8 := dkwJ32_putStringAt_0 ++ []
theorem dksJ32_putStringAt_0 : cJ32_putStringAt.data.toList.drop 0 = dktJ32_putStringAt_0 := by decide +kernel
theorem dJ32_putStringAt_0 : decode cJ32_putStringAt 0 = .ok (.aload_n 0, 1) := dk_42 (dk_at dksJ32_putStringAt_0 0 rfl rfl)
theorem dJ32_putStringAt_1 : decode cJ32_putStringAt 1 = .ok (.aload_n 2, 1) := dk_44 (dk_at dksJ32_putStringAt_0 1 rfl rfl)
theorem dJ32_putStringAt_2 : decode cJ32_putStringAt 2 = .ok (.invokevirtual 397, 3) := dk_182 1 141 (dk_at dksJ32_putStringAt_0 2 rfl rfl)
theorem dJ32_putStringAt_5 : decode cJ32_putStringAt 5 = .ok (.aload_n 2, 1) := dk_44 (dk_at dksJ32_putStringAt_0 5 rfl rfl)
theorem dJ32_putStringAt_6 : decode cJ32_putStringAt 6 = .ok (.aload_n 0, 1) := dk_42 (dk_at dksJ32_putStringAt_0 6 rfl rfl)
theorem dJ32_putStringAt_7 : decode cJ32_putStringAt 7 = .ok (.getfield 15, 3) := dk_180 0 15 (dk_at dksJ32_putStringAt_0 7 rfl rfl)
theorem dJ32_putStringAt_10 : decode cJ32_putStringAt 10 = .ok (.iload_n 1, 1) := dk_27 (dk_at dksJ32_putStringAt_0 10 rfl rfl)
theorem dJ32_putStringAt_11 : decode cJ32_putStringAt 11 = .ok (.aload_n 0, 1) := dk_42 (dk_at dksJ32_putStringAt_0 11 rfl rfl)
theorem dJ32_putStringAt_12 : decode cJ32_putStringAt 12 = .ok (.getfield 22, 3) := dk_180 0 22 (dk_at dksJ32_putStringAt_0 12 rfl rfl)
theorem dJ32_putStringAt_15 : decode cJ32_putStringAt 15 = .ok (.invokevirtual 399, 3) := dk_182 1 143 (dk_at dksJ32_putStringAt_0 15 rfl rfl)
theorem dJ32_putStringAt_18 : decode cJ32_putStringAt 18 = .ok (.return_, 1) := dk_177 (dk_at dksJ32_putStringAt_0 18 rfl rfl)
abbrev cJ32_inflateIfNeededFor : ByteArray := prog_27_method_71_code
def yJ32_inflateIfNeededFor : MethodName := ⟨RJ32, "inflateIfNeededFor", "(Ljava/lang/String;)V"⟩
def dkwJ32_inflateIfNeededFor_0 : List UInt8 := [178, 0, 18, 153, 0, 18, 42, 180, 0, 22, 43, 182, 0, 40, 159, 0, 7, 42, 182, 0, 195, 177]
abbrev dktJ32_inflateIfNeededFor_0 : List UInt8 := dkwJ32_inflateIfNeededFor_0 ++ []
theorem dksJ32_inflateIfNeededFor_0 : cJ32_inflateIfNeededFor.data.toList.drop 0 = dktJ32_inflateIfNeededFor_0 := by decide +kernel
theorem dJ32_inflateIfNeededFor_0 : decode cJ32_inflateIfNeededFor 0 = .ok (.getstatic 18, 3) := dk_178 0 18 (dk_at dksJ32_inflateIfNeededFor_0 0 rfl rfl)
theorem dJ32_inflateIfNeededFor_3 : decode cJ32_inflateIfNeededFor 3 = .ok (.ifCond .eq 18, 3) := dk_153 0 18 (dk_at dksJ32_inflateIfNeededFor_0 3 rfl rfl)
theorem dJ32_inflateIfNeededFor_6 : decode cJ32_inflateIfNeededFor 6 = .ok (.aload_n 0, 1) := dk_42 (dk_at dksJ32_inflateIfNeededFor_0 6 rfl rfl)
theorem dJ32_inflateIfNeededFor_7 : decode cJ32_inflateIfNeededFor 7 = .ok (.getfield 22, 3) := dk_180 0 22 (dk_at dksJ32_inflateIfNeededFor_0 7 rfl rfl)
theorem dJ32_inflateIfNeededFor_10 : decode cJ32_inflateIfNeededFor 10 = .ok (.aload_n 1, 1) := dk_43 (dk_at dksJ32_inflateIfNeededFor_0 10 rfl rfl)
theorem dJ32_inflateIfNeededFor_11 : decode cJ32_inflateIfNeededFor 11 = .ok (.invokevirtual 40, 3) := dk_182 0 40 (dk_at dksJ32_inflateIfNeededFor_0 11 rfl rfl)
theorem dJ32_inflateIfNeededFor_14 : decode cJ32_inflateIfNeededFor 14 = .ok (.if_icmp .eq 7, 3) := dk_159 0 7 (dk_at dksJ32_inflateIfNeededFor_0 14 rfl rfl)
theorem dJ32_inflateIfNeededFor_17 : decode cJ32_inflateIfNeededFor 17 = .ok (.aload_n 0, 1) := dk_42 (dk_at dksJ32_inflateIfNeededFor_0 17 rfl rfl)
theorem dJ32_inflateIfNeededFor_18 : decode cJ32_inflateIfNeededFor 18 = .ok (.invokevirtual 195, 3) := dk_182 0 195 (dk_at dksJ32_inflateIfNeededFor_0 18 rfl rfl)
theorem dJ32_inflateIfNeededFor_21 : decode cJ32_inflateIfNeededFor 21 = .ok (.return_, 1) := dk_177 (dk_at dksJ32_inflateIfNeededFor_0 21 rfl rfl)
abbrev cJ32_append_3 : ByteArray := prog_27_method_32_code
def yJ32_append_3 : MethodName := ⟨RJ32, "append", "(I)Ljava/lang/AbstractStringBuilder;"⟩
def dkwJ32_append_3_2 : List UInt8 := [42, 29, 181, 0, 79, 42, 176]
abbrev dktJ32_append_3_2 : List UInt8 := dkwJ32_append_3_2 ++ []
def dkwJ32_append_3_1 : List UInt8 := [27, 29, 42, 180, 0, 15, 184, 0, 248, 87, 167, 0, 14, 27, 28, 29, 42, 180, 0, 15, 184, 0, 251, 87]
abbrev dktJ32_append_3_1 : List UInt8 := dkwJ32_append_3_1 ++ dktJ32_append_3_2
def dkwJ32_append_3_0 : List UInt8 := [42, 180, 0, 79, 61, 28, 27, 184, 0, 245, 96, 62, 42, 29, 182, 0, 100, 42, 182, 0, 83, 153, 0, 16]
abbrev dktJ32_append_3_0 : List UInt8 := dkwJ32_append_3_0 ++ dktJ32_append_3_1
theorem dksJ32_append_3_0 : cJ32_append_3.data.toList.drop 0 = dktJ32_append_3_0 := by decide +kernel
theorem dksJ32_append_3_1 : cJ32_append_3.data.toList.drop 24 = dktJ32_append_3_1 := dk_seg dksJ32_append_3_0 24 rfl rfl
theorem dksJ32_append_3_2 : cJ32_append_3.data.toList.drop 48 = dktJ32_append_3_2 := dk_seg dksJ32_append_3_1 24 rfl rfl
theorem dJ32_append_3_0 : decode cJ32_append_3 0 = .ok (.aload_n 0, 1) := dk_42 (dk_at dksJ32_append_3_0 0 rfl rfl)
theorem dJ32_append_3_1 : decode cJ32_append_3 1 = .ok (.getfield 79, 3) := dk_180 0 79 (dk_at dksJ32_append_3_0 1 rfl rfl)
theorem dJ32_append_3_4 : decode cJ32_append_3 4 = .ok (.istore_n 2, 1) := dk_61 (dk_at dksJ32_append_3_0 4 rfl rfl)
theorem dJ32_append_3_5 : decode cJ32_append_3 5 = .ok (.iload_n 2, 1) := dk_28 (dk_at dksJ32_append_3_0 5 rfl rfl)
theorem dJ32_append_3_6 : decode cJ32_append_3 6 = .ok (.iload_n 1, 1) := dk_27 (dk_at dksJ32_append_3_0 6 rfl rfl)
theorem dJ32_append_3_7 : decode cJ32_append_3 7 = .ok (.invokestatic 245, 3) := dk_184 0 245 (dk_at dksJ32_append_3_0 7 rfl rfl)
theorem dJ32_append_3_10 : decode cJ32_append_3 10 = .ok (.iadd, 1) := dk_96 (dk_at dksJ32_append_3_0 10 rfl rfl)
theorem dJ32_append_3_11 : decode cJ32_append_3 11 = .ok (.istore_n 3, 1) := dk_62 (dk_at dksJ32_append_3_0 11 rfl rfl)
theorem dJ32_append_3_12 : decode cJ32_append_3 12 = .ok (.aload_n 0, 1) := dk_42 (dk_at dksJ32_append_3_0 12 rfl rfl)
theorem dJ32_append_3_13 : decode cJ32_append_3 13 = .ok (.iload_n 3, 1) := dk_29 (dk_at dksJ32_append_3_0 13 rfl rfl)
theorem dJ32_append_3_14 : decode cJ32_append_3 14 = .ok (.invokevirtual 100, 3) := dk_182 0 100 (dk_at dksJ32_append_3_0 14 rfl rfl)
theorem dJ32_append_3_17 : decode cJ32_append_3 17 = .ok (.aload_n 0, 1) := dk_42 (dk_at dksJ32_append_3_0 17 rfl rfl)
theorem dJ32_append_3_18 : decode cJ32_append_3 18 = .ok (.invokevirtual 83, 3) := dk_182 0 83 (dk_at dksJ32_append_3_0 18 rfl rfl)
theorem dJ32_append_3_21 : decode cJ32_append_3 21 = .ok (.ifCond .eq 16, 3) := dk_153 0 16 (dk_at dksJ32_append_3_0 21 rfl rfl)
theorem dJ32_append_3_24 : decode cJ32_append_3 24 = .ok (.iload_n 1, 1) := dk_27 (dk_at dksJ32_append_3_1 0 rfl rfl)
theorem dJ32_append_3_25 : decode cJ32_append_3 25 = .ok (.iload_n 3, 1) := dk_29 (dk_at dksJ32_append_3_1 1 rfl rfl)
theorem dJ32_append_3_26 : decode cJ32_append_3 26 = .ok (.aload_n 0, 1) := dk_42 (dk_at dksJ32_append_3_1 2 rfl rfl)
theorem dJ32_append_3_27 : decode cJ32_append_3 27 = .ok (.getfield 15, 3) := dk_180 0 15 (dk_at dksJ32_append_3_1 3 rfl rfl)
theorem dJ32_append_3_30 : decode cJ32_append_3 30 = .ok (.invokestatic 248, 3) := dk_184 0 248 (dk_at dksJ32_append_3_1 6 rfl rfl)
theorem dJ32_append_3_33 : decode cJ32_append_3 33 = .ok (.pop, 1) := dk_87 (dk_at dksJ32_append_3_1 9 rfl rfl)
theorem dJ32_append_3_34 : decode cJ32_append_3 34 = .ok (.goto 14, 3) := dk_167 0 14 (dk_at dksJ32_append_3_1 10 rfl rfl)
theorem dJ32_append_3_37 : decode cJ32_append_3 37 = .ok (.iload_n 1, 1) := dk_27 (dk_at dksJ32_append_3_1 13 rfl rfl)
theorem dJ32_append_3_38 : decode cJ32_append_3 38 = .ok (.iload_n 2, 1) := dk_28 (dk_at dksJ32_append_3_1 14 rfl rfl)
theorem dJ32_append_3_39 : decode cJ32_append_3 39 = .ok (.iload_n 3, 1) := dk_29 (dk_at dksJ32_append_3_1 15 rfl rfl)
theorem dJ32_append_3_40 : decode cJ32_append_3 40 = .ok (.aload_n 0, 1) := dk_42 (dk_at dksJ32_append_3_1 16 rfl rfl)
theorem dJ32_append_3_41 : decode cJ32_append_3 41 = .ok (.getfield 15, 3) := dk_180 0 15 (dk_at dksJ32_append_3_1 17 rfl rfl)
theorem dJ32_append_3_44 : decode cJ32_append_3 44 = .ok (.invokestatic 251, 3) := dk_184 0 251 (dk_at dksJ32_append_3_1 20 rfl rfl)
theorem dJ32_append_3_47 : decode cJ32_append_3 47 = .ok (.pop, 1) := dk_87 (dk_at dksJ32_append_3_1 23 rfl rfl)
theorem dJ32_append_3_48 : decode cJ32_append_3 48 = .ok (.aload_n 0, 1) := dk_42 (dk_at dksJ32_append_3_2 0 rfl rfl)
theorem dJ32_append_3_49 : decode cJ32_append_3 49 = .ok (.iload_n 3, 1) := dk_29 (dk_at dksJ32_append_3_2 1 rfl rfl)
theorem dJ32_append_3_50 : decode cJ32_append_3 50 = .ok (.putfield 79, 3) := dk_181 0 79 (dk_at dksJ32_append_3_2 2 rfl rfl)
theorem dJ32_append_3_53 : decode cJ32_append_3 53 = .ok (.aload_n 0, 1) := dk_42 (dk_at dksJ32_append_3_2 5 rfl rfl)
theorem dJ32_append_3_54 : decode cJ32_append_3 54 = .ok (.areturn, 1) := dk_176 (dk_at dksJ32_append_3_2 6 rfl rfl)
theorem q150 : (Jvm.Cond.initialized "java/lang/AbstractStringBuilder") ∈ lw_all := lw_g (lw_at lw_m1 44 rfl) rfl
theorem q1267 : (Jvm.Cond.instanceMethod ({ cls := "java/lang/AbstractStringBuilder", name := "compareTo", desc := "(Ljava/lang/AbstractStringBuilder;)I" } : Jvm.MethodName)) ∈ lw_all := lw_g (lw_at lw_m5 201 rfl) rfl
theorem q1268 : (Jvm.Cond.code ({ cls := "java/lang/AbstractStringBuilder", name := "compareTo", desc := "(Ljava/lang/AbstractStringBuilder;)I" } : Jvm.MethodName) prog_27_method_5_code (6 : Nat) (Option.some Jvm.ClassFile.FieldType.int)) ∈ lw_all := lw_g (lw_at lw_m5 202 rfl) rfl
theorem q1269 : (Jvm.Cond.methodLink "java/lang/AbstractStringBuilder" (83 : Nat) ({ cls := "java/lang/AbstractStringBuilder", name := "isLatin1", desc := "()Z" } : Jvm.MethodName)) ∈ lw_all := lw_g (lw_at lw_m5 203 rfl) rfl
theorem q1270 : (Jvm.Cond.instanceMethod ({ cls := "java/lang/AbstractStringBuilder", name := "isLatin1", desc := "()Z" } : Jvm.MethodName)) ∈ lw_all := lw_g (lw_at lw_m5 204 rfl) rfl
theorem q1271 : (Jvm.Cond.sameMethod "java/lang/AbstractStringBuilder" "java/lang/AbstractStringBuilder" "isLatin1" "()Z") ∈ lw_all := lw_g (lw_at lw_m5 205 rfl) rfl
theorem q1273 : (Jvm.Cond.code ({ cls := "java/lang/AbstractStringBuilder", name := "isLatin1", desc := "()Z" } : Jvm.MethodName) prog_27_method_68_code (1 : Nat) (Option.some Jvm.ClassFile.FieldType.boolean)) ∈ lw_all := lw_g (lw_at lw_m5 207 rfl) rfl
theorem q1274 : (Jvm.Cond.fieldLink "java/lang/AbstractStringBuilder" (18 : Nat) "java/lang/String" "COMPACT_STRINGS" "Z") ∈ lw_all := lw_g (lw_at lw_m5 208 rfl) rfl
theorem q1275 : (Jvm.Cond.methodLink "java/lang/AbstractStringBuilder" (87 : Nat) ({ cls := "java/lang/StringLatin1", name := "compareTo", desc := "([B[BII)I" } : Jvm.MethodName)) ∈ lw_all := lw_g (lw_at lw_m5 209 rfl) rfl
theorem q1276 : (Jvm.Cond.methodLink "java/lang/AbstractStringBuilder" (93 : Nat) ({ cls := "java/lang/StringUTF16", name := "compareTo", desc := "([B[BII)I" } : Jvm.MethodName)) ∈ lw_all := lw_g (lw_at lw_m5 210 rfl) rfl
theorem q1290 : (Jvm.Cond.methodLink "java/lang/AbstractStringBuilder" (94 : Nat) ({ cls := "java/lang/StringLatin1", name := "compareToUTF16", desc := "([B[BII)I" } : Jvm.MethodName)) ∈ lw_all := lw_g (lw_at lw_m5 224 rfl) rfl
theorem q1294 : (Jvm.Cond.methodLink "java/lang/AbstractStringBuilder" (97 : Nat) ({ cls := "java/lang/StringUTF16", name := "compareToLatin1", desc := "([B[BII)I" } : Jvm.MethodName)) ∈ lw_all := lw_g (lw_at lw_m5 228 rfl) rfl
theorem q1578 : (Jvm.Cond.instanceMethod ({ cls := "java/lang/AbstractStringBuilder", name := "<init>", desc := "(I)V" } : Jvm.MethodName)) ∈ lw_all := lw_g (lw_at lw_m7 32 rfl) rfl
theorem q1579 : (Jvm.Cond.code ({ cls := "java/lang/AbstractStringBuilder", name := "<init>", desc := "(I)V" } : Jvm.MethodName) prog_27_method_2_code (2 : Nat) (Option.none : Option Jvm.ClassFile.FieldType)) ∈ lw_all := lw_g (lw_at lw_m7 33 rfl) rfl
theorem q1580 : (Jvm.Cond.methodLink "java/lang/AbstractStringBuilder" (3 : Nat) ({ cls := "java/lang/Object", name := "<init>", desc := "()V" } : Jvm.MethodName)) ∈ lw_all := lw_g (lw_at lw_m7 34 rfl) rfl
theorem q1581 : (Jvm.Cond.methodLink "java/lang/AbstractStringBuilder" (26 : Nat) ({ cls := "java/lang/StringUTF16", name := "newBytesFor", desc := "(I)[B" } : Jvm.MethodName)) ∈ lw_all := lw_g (lw_at lw_m7 35 rfl) rfl
theorem q1588 : (Jvm.Cond.fieldLink "java/lang/AbstractStringBuilder" (15 : Nat) "java/lang/AbstractStringBuilder" "value" "[B") ∈ lw_all := lw_g (lw_at lw_m7 42 rfl) rfl
theorem q1589 : (Jvm.Cond.fieldLink "java/lang/AbstractStringBuilder" (22 : Nat) "java/lang/AbstractStringBuilder" "coder" "B") ∈ lw_all := lw_g (lw_at lw_m7 43 rfl) rfl
theorem q1591 : (Jvm.Cond.fieldLink "java/lang/AbstractStringBuilder" (79 : Nat) "java/lang/AbstractStringBuilder" "count" "I") ∈ lw_all := lw_g (lw_at lw_m7 45 rfl) rfl
theorem q1593 : (Jvm.Cond.soleField "java/lang/AbstractStringBuilder" "value") ∈ lw_all := lw_g (lw_at lw_m7 47 rfl) rfl
theorem q1595 : (Jvm.Cond.soleField "java/lang/AbstractStringBuilder" "coder") ∈ lw_all := lw_g (lw_at lw_m7 49 rfl) rfl
theorem q1597 : (Jvm.Cond.soleField "java/lang/AbstractStringBuilder" "maybeLatin1") ∈ lw_all := lw_g (lw_at lw_m7 51 rfl) rfl
theorem q1599 : (Jvm.Cond.soleField "java/lang/AbstractStringBuilder" "count") ∈ lw_all := lw_g (lw_at lw_m7 53 rfl) rfl
theorem q1605 : (Jvm.Cond.instanceMethod ({ cls := "java/lang/AbstractStringBuilder", name := "append", desc := "(C)Ljava/lang/AbstractStringBuilder;" } : Jvm.MethodName)) ∈ lw_all := lw_g (lw_at lw_m7 59 rfl) rfl
theorem q1606 : (Jvm.Cond.code ({ cls := "java/lang/AbstractStringBuilder", name := "append", desc := "(C)Ljava/lang/AbstractStringBuilder;" } : Jvm.MethodName) prog_27_method_31_code (2 : Nat) (Option.some (Jvm.ClassFile.FieldType.object "java/lang/AbstractStringBuilder"))) ∈ lw_all := lw_g (lw_at lw_m7 60 rfl) rfl
theorem q1607 : (Jvm.Cond.methodLink "java/lang/AbstractStringBuilder" (100 : Nat) ({ cls := "java/lang/AbstractStringBuilder", name := "ensureCapacityInternal", desc := "(I)V" } : Jvm.MethodName)) ∈ lw_all := lw_g (lw_at lw_m7 61 rfl) rfl
theorem q1608 : (Jvm.Cond.privateMethod ({ cls := "java/lang/AbstractStringBuilder", name := "ensureCapacityInternal", desc := "(I)V" } : Jvm.MethodName)) ∈ lw_tbl := lw_at lw_m7 62 rfl
theorem q1609 : (Jvm.Cond.instanceMethod ({ cls := "java/lang/AbstractStringBuilder", name := "ensureCapacityInternal", desc := "(I)V" } : Jvm.MethodName)) ∈ lw_all := lw_g (lw_at lw_m7 63 rfl) rfl
theorem q1610 : (Jvm.Cond.code ({ cls := "java/lang/AbstractStringBuilder", name := "ensureCapacityInternal", desc := "(I)V" } : Jvm.MethodName) prog_27_method_9_code (3 : Nat) (Option.none : Option Jvm.ClassFile.FieldType)) ∈ lw_all := lw_g (lw_at lw_m7 64 rfl) rfl
theorem q1611 : (Jvm.Cond.methodLink "java/lang/AbstractStringBuilder" (104 : Nat) ({ cls := "java/lang/AbstractStringBuilder", name := "newCapacity", desc := "(I)I" } : Jvm.MethodName)) ∈ lw_all := lw_g (lw_at lw_m7 65 rfl) rfl
theorem q1612 : (Jvm.Cond.privateMethod ({ cls := "java/lang/AbstractStringBuilder", name := "newCapacity", desc := "(I)I" } : Jvm.MethodName)) ∈ lw_tbl := lw_at lw_m7 66 rfl
theorem q1613 : (Jvm.Cond.instanceMethod ({ cls := "java/lang/AbstractStringBuilder", name := "newCapacity", desc := "(I)I" } : Jvm.MethodName)) ∈ lw_all := lw_g (lw_at lw_m7 67 rfl) rfl
theorem q1614 : (Jvm.Cond.code ({ cls := "java/lang/AbstractStringBuilder", name := "newCapacity", desc := "(I)I" } : Jvm.MethodName) prog_27_method_10_code (6 : Nat) (Option.some Jvm.ClassFile.FieldType.int)) ∈ lw_all := lw_g (lw_at lw_m7 68 rfl) rfl
theorem q1615 : (Jvm.Cond.methodLink "java/lang/AbstractStringBuilder" (114 : Nat) ({ cls := "jdk/internal/util/ArraysSupport", name := "newLength", desc := "(III)I" } : Jvm.MethodName)) ∈ lw_all := lw_g (lw_at lw_m7 69 rfl) rfl
theorem q1616 : (Jvm.Cond.constant "java/lang/AbstractStringBuilder" (39 : Nat) (2147483647 : Int32)) ∈ lw_all := lw_g (lw_at lw_m7 70 rfl) rfl
theorem q1617 : (Jvm.Cond.methodLink "java/lang/AbstractStringBuilder" (108 : Nat) ({ cls := "java/util/Arrays", name := "copyOf", desc := "([BI)[B" } : Jvm.MethodName)) ∈ lw_all := lw_g (lw_at lw_m7 71 rfl) rfl
theorem q1627 : (Jvm.Cond.methodLink "java/lang/AbstractStringBuilder" (191 : Nat) ({ cls := "java/lang/StringLatin1", name := "canEncode", desc := "(C)Z" } : Jvm.MethodName)) ∈ lw_all := lw_g (lw_at lw_m7 81 rfl) rfl
theorem q1630 : (Jvm.Cond.methodLink "java/lang/AbstractStringBuilder" (195 : Nat) ({ cls := "java/lang/AbstractStringBuilder", name := "inflate", desc := "()V" } : Jvm.MethodName)) ∈ lw_all := lw_g (lw_at lw_m7 84 rfl) rfl
theorem q1631 : (Jvm.Cond.privateMethod ({ cls := "java/lang/AbstractStringBuilder", name := "inflate", desc := "()V" } : Jvm.MethodName)) ∈ lw_tbl := lw_at lw_m7 85 rfl
theorem q1632 : (Jvm.Cond.instanceMethod ({ cls := "java/lang/AbstractStringBuilder", name := "inflate", desc := "()V" } : Jvm.MethodName)) ∈ lw_all := lw_g (lw_at lw_m7 86 rfl) rfl
theorem q1633 : (Jvm.Cond.code ({ cls := "java/lang/AbstractStringBuilder", name := "inflate", desc := "()V" } : Jvm.MethodName) prog_27_method_11_code (2 : Nat) (Option.none : Option Jvm.ClassFile.FieldType)) ∈ lw_all := lw_g (lw_at lw_m7 87 rfl) rfl
theorem q1634 : (Jvm.Cond.methodLink "java/lang/AbstractStringBuilder" (125 : Nat) ({ cls := "java/lang/StringLatin1", name := "inflate", desc := "([BI[BII)V" } : Jvm.MethodName)) ∈ lw_all := lw_g (lw_at lw_m7 88 rfl) rfl
theorem q1652 : (Jvm.Cond.methodLink "java/lang/AbstractStringBuilder" (197 : Nat) ({ cls := "java/lang/StringUTF16", name := "putCharSB", desc := "([BII)V" } : Jvm.MethodName)) ∈ lw_all := lw_g (lw_at lw_m7 106 rfl) rfl
theorem q1676 : (Jvm.Cond.instanceMethod ({ cls := "java/lang/AbstractStringBuilder", name := "getValue", desc := "()[B" } : Jvm.MethodName)) ∈ lw_all := lw_g (lw_at lw_m7 130 rfl) rfl
theorem q1677 : (Jvm.Cond.sameMethod "java/lang/AbstractStringBuilder" "java/lang/AbstractStringBuilder" "getValue" "()[B") ∈ lw_all := lw_g (lw_at lw_m7 131 rfl) rfl
theorem q1679 : (Jvm.Cond.code ({ cls := "java/lang/AbstractStringBuilder", name := "getValue", desc := "()[B" } : Jvm.MethodName) prog_27_method_64_code (1 : Nat) (Option.some (Jvm.ClassFile.FieldType.array Jvm.ClassFile.FieldType.byte))) ∈ lw_all := lw_g (lw_at lw_m7 133 rfl) rfl
theorem q1681 : (Jvm.Cond.instanceMethod ({ cls := "java/lang/AbstractStringBuilder", name := "length", desc := "()I" } : Jvm.MethodName)) ∈ lw_all := lw_g (lw_at lw_m7 135 rfl) rfl
theorem q1682 : (Jvm.Cond.sameMethod "java/lang/AbstractStringBuilder" "java/lang/AbstractStringBuilder" "length" "()I") ∈ lw_all := lw_g (lw_at lw_m7 136 rfl) rfl
theorem q1687 : (Jvm.Cond.code ({ cls := "java/lang/AbstractStringBuilder", name := "length", desc := "()I" } : Jvm.MethodName) prog_27_method_6_code (1 : Nat) (Option.some Jvm.ClassFile.FieldType.int)) ∈ lw_all := lw_g (lw_at lw_m7 141 rfl) rfl
theorem q1797 : (Jvm.Cond.instanceMethod ({ cls := "java/lang/AbstractStringBuilder", name := "append", desc := "(Ljava/lang/String;)Ljava/lang/AbstractStringBuilder;" } : Jvm.MethodName)) ∈ lw_all := lw_g (lw_at lw_m8 11 rfl) rfl
theorem q1798 : (Jvm.Cond.code ({ cls := "java/lang/AbstractStringBuilder", name := "append", desc := "(Ljava/lang/String;)Ljava/lang/AbstractStringBuilder;" } : Jvm.MethodName) prog_27_method_22_code (3 : Nat) (Option.some (Jvm.ClassFile.FieldType.object "java/lang/AbstractStringBuilder"))) ∈ lw_all := lw_g (lw_at lw_m8 12 rfl) rfl
theorem q1799 : (Jvm.Cond.methodLink "java/lang/AbstractStringBuilder" (204 : Nat) ({ cls := "java/lang/AbstractStringBuilder", name := "appendNull", desc := "()Ljava/lang/AbstractStringBuilder;" } : Jvm.MethodName)) ∈ lw_all := lw_g (lw_at lw_m8 13 rfl) rfl
theorem q1800 : (Jvm.Cond.privateMethod ({ cls := "java/lang/AbstractStringBuilder", name := "appendNull", desc := "()Ljava/lang/AbstractStringBuilder;" } : Jvm.MethodName)) ∈ lw_tbl := lw_at lw_m8 14 rfl
theorem q1801 : (Jvm.Cond.instanceMethod ({ cls := "java/lang/AbstractStringBuilder", name := "appendNull", desc := "()Ljava/lang/AbstractStringBuilder;" } : Jvm.MethodName)) ∈ lw_all := lw_g (lw_at lw_m8 15 rfl) rfl
theorem q1802 : (Jvm.Cond.code ({ cls := "java/lang/AbstractStringBuilder", name := "appendNull", desc := "()Ljava/lang/AbstractStringBuilder;" } : Jvm.MethodName) prog_27_method_26_code (3 : Nat) (Option.some (Jvm.ClassFile.FieldType.object "java/lang/AbstractStringBuilder"))) ∈ lw_all := lw_g (lw_at lw_m8 16 rfl) rfl
theorem q1803 : (Jvm.Cond.methodLink "java/lang/AbstractStringBuilder" (226 : Nat) ({ cls := "java/lang/StringUTF16", name := "putCharsAt", desc := "([BICCCC)I" } : Jvm.MethodName)) ∈ lw_all := lw_g (lw_at lw_m8 17 rfl) rfl
theorem q1812 : (Jvm.Cond.methodLink "java/lang/AbstractStringBuilder" (32 : Nat) ({ cls := "java/lang/String", name := "length", desc := "()I" } : Jvm.MethodName)) ∈ lw_all := lw_g (lw_at lw_m8 26 rfl) rfl
theorem q1816 : (Jvm.Cond.methodLink "java/lang/AbstractStringBuilder" (208 : Nat) ({ cls := "java/lang/AbstractStringBuilder", name := "putStringAt", desc := "(ILjava/lang/String;)V" } : Jvm.MethodName)) ∈ lw_all := lw_g (lw_at lw_m8 30 rfl) rfl
theorem q1817 : (Jvm.Cond.privateMethod ({ cls := "java/lang/AbstractStringBuilder", name := "putStringAt", desc := "(ILjava/lang/String;)V" } : Jvm.MethodName)) ∈ lw_tbl := lw_at lw_m8 31 rfl
theorem q1818 : (Jvm.Cond.instanceMethod ({ cls := "java/lang/AbstractStringBuilder", name := "putStringAt", desc := "(ILjava/lang/String;)V" } : Jvm.MethodName)) ∈ lw_all := lw_g (lw_at lw_m8 32 rfl) rfl
theorem q1819 : (Jvm.Cond.code ({ cls := "java/lang/AbstractStringBuilder", name := "putStringAt", desc := "(ILjava/lang/String;)V" } : Jvm.MethodName) prog_27_method_73_code (3 : Nat) (Option.none : Option Jvm.ClassFile.FieldType)) ∈ lw_all := lw_g (lw_at lw_m8 33 rfl) rfl
theorem q1820 : (Jvm.Cond.methodLink "java/lang/AbstractStringBuilder" (397 : Nat) ({ cls := "java/lang/AbstractStringBuilder", name := "inflateIfNeededFor", desc := "(Ljava/lang/String;)V" } : Jvm.MethodName)) ∈ lw_all := lw_g (lw_at lw_m8 34 rfl) rfl
theorem q1821 : (Jvm.Cond.privateMethod ({ cls := "java/lang/AbstractStringBuilder", name := "inflateIfNeededFor", desc := "(Ljava/lang/String;)V" } : Jvm.MethodName)) ∈ lw_tbl := lw_at lw_m8 35 rfl
theorem q1822 : (Jvm.Cond.instanceMethod ({ cls := "java/lang/AbstractStringBuilder", name := "inflateIfNeededFor", desc := "(Ljava/lang/String;)V" } : Jvm.MethodName)) ∈ lw_all := lw_g (lw_at lw_m8 36 rfl) rfl
theorem q1823 : (Jvm.Cond.code ({ cls := "java/lang/AbstractStringBuilder", name := "inflateIfNeededFor", desc := "(Ljava/lang/String;)V" } : Jvm.MethodName) prog_27_method_71_code (2 : Nat) (Option.none : Option Jvm.ClassFile.FieldType)) ∈ lw_all := lw_g (lw_at lw_m8 37 rfl) rfl
theorem q1824 : (Jvm.Cond.methodLink "java/lang/AbstractStringBuilder" (40 : Nat) ({ cls := "java/lang/String", name := "coder", desc := "()B" } : Jvm.MethodName)) ∈ lw_all := lw_g (lw_at lw_m8 38 rfl) rfl
theorem q1825 : (Jvm.Cond.methodLink "java/lang/AbstractStringBuilder" (399 : Nat) ({ cls := "java/lang/String", name := "getBytes", desc := "([BIB)V" } : Jvm.MethodName)) ∈ lw_all := lw_g (lw_at lw_m8 39 rfl) rfl
theorem q2469 : (Jvm.Cond.instanceMethod ({ cls := "java/lang/AbstractStringBuilder", name := "append", desc := "(I)Ljava/lang/AbstractStringBuilder;" } : Jvm.MethodName)) ∈ lw_all := lw_g (lw_at lw_m10 203 rfl) rfl
theorem q2470 : (Jvm.Cond.code ({ cls := "java/lang/AbstractStringBuilder", name := "append", desc := "(I)Ljava/lang/AbstractStringBuilder;" } : Jvm.MethodName) prog_27_method_32_code (4 : Nat) (Option.some (Jvm.ClassFile.FieldType.object "java/lang/AbstractStringBuilder"))) ∈ lw_all := lw_g (lw_at lw_m10 204 rfl) rfl
theorem q2471 : (Jvm.Cond.methodLink "java/lang/AbstractStringBuilder" (245 : Nat) ({ cls := "java/lang/Integer", name := "stringSize", desc := "(I)I" } : Jvm.MethodName)) ∈ lw_all := lw_g (lw_at lw_m10 205 rfl) rfl
theorem q2474 : (Jvm.Cond.methodLink "java/lang/AbstractStringBuilder" (248 : Nat) ({ cls := "java/lang/Integer", name := "getChars", desc := "(II[B)I" } : Jvm.MethodName)) ∈ lw_all := lw_g (lw_at lw_m10 208 rfl) rfl
theorem q2481 : (Jvm.Cond.methodLink "java/lang/AbstractStringBuilder" (251 : Nat) ({ cls := "java/lang/StringUTF16", name := "getChars", desc := "(III[B)I" } : Jvm.MethodName)) ∈ lw_all := lw_g (lw_at lw_m10 215 rfl) rfl
theorem q3544 : (Jvm.Cond.sameMethod "java/lang/AbstractStringBuilder" "java/lang/AbstractStringBuilder" "compareTo" "(Ljava/lang/AbstractStringBuilder;)I") ∈ lw_all := lw_g (lw_at lw_m15 78 rfl) rfl
theorem q3549 : (Jvm.Cond.sameMethod "java/lang/AbstractStringBuilder" "java/lang/AbstractStringBuilder" "append" "(C)Ljava/lang/AbstractStringBuilder;") ∈ lw_all := lw_g (lw_at lw_m15 83 rfl) rfl
theorem q3550 : (Jvm.Cond.sameMethod "java/lang/AbstractStringBuilder" "java/lang/AbstractStringBuilder" "ensureCapacityInternal" "(I)V") ∈ lw_all := lw_g (lw_at lw_m15 84 rfl) rfl
theorem q3551 : (Jvm.Cond.sameMethod "java/lang/AbstractStringBuilder" "java/lang/AbstractStringBuilder" "newCapacity" "(I)I") ∈ lw_all := lw_g (lw_at lw_m15 85 rfl) rfl
theorem q3552 : (Jvm.Cond.sameMethod "java/lang/AbstractStringBuilder" "java/lang/AbstractStringBuilder" "inflate" "()V") ∈ lw_all := lw_g (lw_at lw_m15 86 rfl) rfl
theorem q3562 : (Jvm.Cond.sameMethod "java/lang/AbstractStringBuilder" "java/lang/AbstractStringBuilder" "append" "(Ljava/lang/String;)Ljava/lang/AbstractStringBuilder;") ∈ lw_all := lw_g (lw_at lw_m15 96 rfl) rfl
theorem q3563 : (Jvm.Cond.sameMethod "java/lang/AbstractStringBuilder" "java/lang/AbstractStringBuilder" "appendNull" "()Ljava/lang/AbstractStringBuilder;") ∈ lw_all := lw_g (lw_at lw_m15 97 rfl) rfl
theorem q3564 : (Jvm.Cond.sameMethod "java/lang/AbstractStringBuilder" "java/lang/AbstractStringBuilder" "putStringAt" "(ILjava/lang/String;)V") ∈ lw_all := lw_g (lw_at lw_m15 98 rfl) rfl
theorem q3565 : (Jvm.Cond.sameMethod "java/lang/AbstractStringBuilder" "java/lang/AbstractStringBuilder" "inflateIfNeededFor" "(Ljava/lang/String;)V") ∈ lw_all := lw_g (lw_at lw_m15 99 rfl) rfl
theorem q3571 : (Jvm.Cond.sameMethod "java/lang/AbstractStringBuilder" "java/lang/AbstractStringBuilder" "append" "(I)Ljava/lang/AbstractStringBuilder;") ∈ lw_all := lw_g (lw_at lw_m15 105 rfl) rfl
/-! java/lang/StringBuilder -/
set_option maxRecDepth 100000
def RJ33 : String := "java/lang/StringBuilder"
def TJ33 : u_T := fun k => match k with
  | 0 => ("java/lang/AbstractStringBuilder", "value", "[B", false)
  | 1 => ("java/lang/AbstractStringBuilder", "coder", "B", false)
  | 2 => ("java/lang/AbstractStringBuilder", "maybeLatin1", "Z", false)
  | _ => ("java/lang/AbstractStringBuilder", "count", "I", false)
def tyJ33 : Nat → FieldType := fun k => match k with
  | 0 => .array .byte
  | 1 => .byte
  | 2 => .boolean
  | _ => .int
abbrev wsJ330 : List Cond := u_ws RJ33 TJ33 4
theorem nmJ33 : ∀ a, a < 4 → ∀ b, b < 4 → a ≠ b → (TJ33 a).2.1 ≠ (TJ33 b).2.1 := by decide +kernel
theorem tyJ33_ok : ∀ k, k < 4 → parseFieldDescriptor (TJ33 k).2.2.1 = some (tyJ33 k) := by decide +kernel
abbrev cJ33_compareTo : ByteArray := prog_42_method_97_code
def yJ33_compareTo : MethodName := ⟨RJ33, "compareTo", "(Ljava/lang/Object;)I"⟩
def dkwJ33_compareTo_0 : List UInt8 := [42, 43, 192, 0, 24, 182, 1, 90, 172]
abbrev dktJ33_compareTo_0 : List UInt8 := dkwJ33_compareTo_0 ++ []
theorem dksJ33_compareTo_0 : cJ33_compareTo.data.toList.drop 0 = dktJ33_compareTo_0 := by decide +kernel
theorem dJ33_compareTo_0 : decode cJ33_compareTo 0 = .ok (.aload_n 0, 1) := dk_42 (dk_at dksJ33_compareTo_0 0 rfl rfl)
theorem dJ33_compareTo_1 : decode cJ33_compareTo 1 = .ok (.aload_n 1, 1) := dk_43 (dk_at dksJ33_compareTo_0 1 rfl rfl)
theorem dJ33_compareTo_2 : decode cJ33_compareTo 2 = .ok (.checkcast 24, 3) := dk_192 0 24 (dk_at dksJ33_compareTo_0 2 rfl rfl)
theorem dJ33_compareTo_5 : decode cJ33_compareTo 5 = .ok (.invokevirtual 346, 3) := dk_182 1 90 (dk_at dksJ33_compareTo_0 5 rfl rfl)
theorem dJ33_compareTo_8 : decode cJ33_compareTo 8 = .ok (.ireturn, 1) := dk_172 (dk_at dksJ33_compareTo_0 8 rfl rfl)
abbrev cJ33_compareTo_2 : ByteArray := prog_42_method_5_code
def yJ33_compareTo_2 : MethodName := ⟨RJ33, "compareTo", "(Ljava/lang/StringBuilder;)I"⟩
def dkwJ33_compareTo_2_0 : List UInt8 := [42, 43, 183, 0, 13, 172]
abbrev dktJ33_compareTo_2_0 : List UInt8 := dkwJ33_compareTo_2_0 ++ []
theorem dksJ33_compareTo_2_0 : cJ33_compareTo_2.data.toList.drop 0 = dktJ33_compareTo_2_0 := by decide +kernel
theorem dJ33_compareTo_2_0 : decode cJ33_compareTo_2 0 = .ok (.aload_n 0, 1) := dk_42 (dk_at dksJ33_compareTo_2_0 0 rfl rfl)
theorem dJ33_compareTo_2_1 : decode cJ33_compareTo_2 1 = .ok (.aload_n 1, 1) := dk_43 (dk_at dksJ33_compareTo_2_0 1 rfl rfl)
theorem dJ33_compareTo_2_2 : decode cJ33_compareTo_2 2 = .ok (.invokespecial 13, 3) := dk_183 0 13 (dk_at dksJ33_compareTo_2_0 2 rfl rfl)
theorem dJ33_compareTo_2_5 : decode cJ33_compareTo_2 5 = .ok (.ireturn, 1) := dk_172 (dk_at dksJ33_compareTo_2_0 5 rfl rfl)
abbrev cJ33_init : ByteArray := prog_42_method_1_code
def yJ33_init : MethodName := ⟨RJ33, "<init>", "()V"⟩
def dkwJ33_init_0 : List UInt8 := [42, 16, 16, 183, 0, 1, 177]
abbrev dktJ33_init_0 : List UInt8 := dkwJ33_init_0 ++ []
theorem dksJ33_init_0 : cJ33_init.data.toList.drop 0 = dktJ33_init_0 := by decide +kernel
theorem dJ33_init_0 : decode cJ33_init 0 = .ok (.aload_n 0, 1) := dk_42 (dk_at dksJ33_init_0 0 rfl rfl)
theorem dJ33_init_1 : decode cJ33_init 1 = .ok (.bipush 16, 2) := dk_16 16 (dk_at dksJ33_init_0 1 rfl rfl)
theorem dJ33_init_3 : decode cJ33_init 3 = .ok (.invokespecial 1, 3) := dk_183 0 1 (dk_at dksJ33_init_0 3 rfl rfl)
theorem dJ33_init_6 : decode cJ33_init 6 = .ok (.return_, 1) := dk_177 (dk_at dksJ33_init_0 6 rfl rfl)
abbrev cJ33_append : ByteArray := prog_42_method_14_code
def yJ33_append : MethodName := ⟨RJ33, "append", "(C)Ljava/lang/StringBuilder;"⟩
def dkwJ33_append_0 : List UInt8 := [42, 27, 183, 0, 50, 87, 42, 176]
abbrev dktJ33_append_0 : List UInt8 := dkwJ33_append_0 ++ []
theorem dksJ33_append_0 : cJ33_append.data.toList.drop 0 = dktJ33_append_0 := by decide +kernel
theorem dJ33_append_0 : decode cJ33_append 0 = .ok (.aload_n 0, 1) := dk_42 (dk_at dksJ33_append_0 0 rfl rfl)
theorem dJ33_append_1 : decode cJ33_append 1 = .ok (.iload_n 1, 1) := dk_27 (dk_at dksJ33_append_0 1 rfl rfl)
theorem dJ33_append_2 : decode cJ33_append 2 = .ok (.invokespecial 50, 3) := dk_183 0 50 (dk_at dksJ33_append_0 2 rfl rfl)
theorem dJ33_append_5 : decode cJ33_append 5 = .ok (.pop, 1) := dk_87 (dk_at dksJ33_append_0 5 rfl rfl)
theorem dJ33_append_6 : decode cJ33_append 6 = .ok (.aload_n 0, 1) := dk_42 (dk_at dksJ33_append_0 6 rfl rfl)
theorem dJ33_append_7 : decode cJ33_append 7 = .ok (.areturn, 1) := dk_176 (dk_at dksJ33_append_0 7 rfl rfl)
abbrev cJ33_toString : ByteArray := prog_42_method_42_code
def yJ33_toString : MethodName := ⟨RJ33, "toString", "()Ljava/lang/String;"⟩
def dkwJ33_toString_0 : List UInt8 := [187, 0, 18, 89, 42, 183, 0, 137, 176]
abbrev dktJ33_toString_0 : List UInt8 := dkwJ33_toString_0 ++ []
theorem dksJ33_toString_0 : cJ33_toString.data.toList.drop 0 = dktJ33_toString_0 := by decide +kernel
theorem dJ33_toString_0 : decode cJ33_toString 0 = .ok (.new 18, 3) := dk_187 0 18 (dk_at dksJ33_toString_0 0 rfl rfl)
theorem dJ33_toString_3 : decode cJ33_toString 3 = .ok (.dup, 1) := dk_89 (dk_at dksJ33_toString_0 3 rfl rfl)
theorem dJ33_toString_4 : decode cJ33_toString 4 = .ok (.aload_n 0, 1) := dk_42 (dk_at dksJ33_toString_0 4 rfl rfl)
theorem dJ33_toString_5 : decode cJ33_toString 5 = .ok (.invokespecial 137, 3) := dk_183 0 137 (dk_at dksJ33_toString_0 5 rfl rfl)
theorem dJ33_toString_8 : decode cJ33_toString 8 = .ok (.areturn, 1) := dk_176 (dk_at dksJ33_toString_0 8 rfl rfl)
abbrev cJ33_length : ByteArray := prog_42_method_93_code
def yJ33_length : MethodName := ⟨RJ33, "length", "()I"⟩
theorem dJ33_length_0 : decode cJ33_length 0 = .ok (.aload_n 0, 1) := by decide +kernel
theorem dJ33_length_1 : decode cJ33_length 1 = .ok (.invokespecial 343, 3) := by decide +kernel
theorem dJ33_length_4 : decode cJ33_length 4 = .ok (.ireturn, 1) := by decide +kernel
abbrev cJ33_append_2 : ByteArray := prog_42_method_7_code
def yJ33_append_2 : MethodName := ⟨RJ33, "append", "(Ljava/lang/String;)Ljava/lang/StringBuilder;"⟩
def dkwJ33_append_2_0 : List UInt8 := [42, 43, 183, 0, 29, 87, 42, 176]
abbrev dktJ33_append_2_0 : List UInt8 := dkwJ33_append_2_0 ++ []
theorem dksJ33_append_2_0 : cJ33_append_2.data.toList.drop 0 = dktJ33_append_2_0 := by decide +kernel
theorem dJ33_append_2_0 : decode cJ33_append_2 0 = .ok (.aload_n 0, 1) := dk_42 (dk_at dksJ33_append_2_0 0 rfl rfl)
theorem dJ33_append_2_1 : decode cJ33_append_2 1 = .ok (.aload_n 1, 1) := dk_43 (dk_at dksJ33_append_2_0 1 rfl rfl)
theorem dJ33_append_2_2 : decode cJ33_append_2 2 = .ok (.invokespecial 29, 3) := dk_183 0 29 (dk_at dksJ33_append_2_0 2 rfl rfl)
theorem dJ33_append_2_5 : decode cJ33_append_2 5 = .ok (.pop, 1) := dk_87 (dk_at dksJ33_append_2_0 5 rfl rfl)
theorem dJ33_append_2_6 : decode cJ33_append_2 6 = .ok (.aload_n 0, 1) := dk_42 (dk_at dksJ33_append_2_0 6 rfl rfl)
theorem dJ33_append_2_7 : decode cJ33_append_2 7 = .ok (.areturn, 1) := dk_176 (dk_at dksJ33_append_2_0 7 rfl rfl)
abbrev cJ33_append_3 : ByteArray := prog_42_method_15_code
def yJ33_append_3 : MethodName := ⟨RJ33, "append", "(I)Ljava/lang/StringBuilder;"⟩
def dkwJ33_append_3_0 : List UInt8 := [42, 27, 183, 0, 53, 87, 42, 176]
abbrev dktJ33_append_3_0 : List UInt8 := dkwJ33_append_3_0 ++ []
theorem dksJ33_append_3_0 : cJ33_append_3.data.toList.drop 0 = dktJ33_append_3_0 := by decide +kernel
theorem dJ33_append_3_0 : decode cJ33_append_3 0 = .ok (.aload_n 0, 1) := dk_42 (dk_at dksJ33_append_3_0 0 rfl rfl)
theorem dJ33_append_3_1 : decode cJ33_append_3 1 = .ok (.iload_n 1, 1) := dk_27 (dk_at dksJ33_append_3_0 1 rfl rfl)
theorem dJ33_append_3_2 : decode cJ33_append_3 2 = .ok (.invokespecial 53, 3) := dk_183 0 53 (dk_at dksJ33_append_3_0 2 rfl rfl)
theorem dJ33_append_3_5 : decode cJ33_append_3 5 = .ok (.pop, 1) := dk_87 (dk_at dksJ33_append_3_0 5 rfl rfl)
theorem dJ33_append_3_6 : decode cJ33_append_3 6 = .ok (.aload_n 0, 1) := dk_42 (dk_at dksJ33_append_3_0 6 rfl rfl)
theorem dJ33_append_3_7 : decode cJ33_append_3 7 = .ok (.areturn, 1) := dk_176 (dk_at dksJ33_append_3_0 7 rfl rfl)
theorem q151 : (Jvm.Cond.initialized "java/lang/StringBuilder") ∈ lw_all := lw_g (lw_at lw_m1 45 rfl) rfl
theorem q624 : (Jvm.Cond.selects "java/lang/StringBuilder" ({ cls := "java/lang/Object", name := "getClass", desc := "()Ljava/lang/Class;" } : Jvm.MethodName) ({ cls := "java/lang/Object", name := "getClass", desc := "()Ljava/lang/Class;" } : Jvm.MethodName)) ∈ lw_all := lw_g (lw_at lw_m3 38 rfl) rfl
theorem q1007 : (Jvm.Cond.selects "java/lang/StringBuilder" ({ cls := "java/lang/Object", name := "hashCode", desc := "()I" } : Jvm.MethodName) ({ cls := "java/lang/Object", name := "hashCode", desc := "()I" } : Jvm.MethodName)) ∈ lw_all := lw_g (lw_at lw_m4 181 rfl) rfl
theorem q1063 : (Jvm.Cond.selects "java/lang/StringBuilder" ({ cls := "java/lang/Object", name := "equals", desc := "(Ljava/lang/Object;)Z" } : Jvm.MethodName) ({ cls := "java/lang/Object", name := "equals", desc := "(Ljava/lang/Object;)Z" } : Jvm.MethodName)) ∈ lw_all := lw_g (lw_at lw_m4 237 rfl) rfl
theorem q1254 : (Jvm.Cond.castable "java/lang/StringBuilder" "java/lang/Comparable") ∈ lw_tbl := lw_at lw_m5 188 rfl
theorem q1255 : (Jvm.Cond.selects "java/lang/StringBuilder" ({ cls := "java/lang/Comparable", name := "compareTo", desc := "(Ljava/lang/Object;)I" } : Jvm.MethodName) ({ cls := "java/lang/StringBuilder", name := "compareTo", desc := "(Ljava/lang/Object;)I" } : Jvm.MethodName)) ∈ lw_all := lw_g (lw_at lw_m5 189 rfl) rfl
theorem q1256 : (Jvm.Cond.unhidden "java/lang/StringBuilder" "compareTo" "(Ljava/lang/Object;)I") ∈ lw_tbl := lw_at lw_m5 190 rfl
theorem q1257 : (Jvm.Cond.instanceMethod ({ cls := "java/lang/StringBuilder", name := "compareTo", desc := "(Ljava/lang/Object;)I" } : Jvm.MethodName)) ∈ lw_all := lw_g (lw_at lw_m5 191 rfl) rfl
theorem q1258 : (Jvm.Cond.publicMethod ({ cls := "java/lang/StringBuilder", name := "compareTo", desc := "(Ljava/lang/Object;)I" } : Jvm.MethodName)) ∈ lw_tbl := lw_at lw_m5 192 rfl
theorem q1259 : (Jvm.Cond.code ({ cls := "java/lang/StringBuilder", name := "compareTo", desc := "(Ljava/lang/Object;)I" } : Jvm.MethodName) prog_42_method_97_code (2 : Nat) (Option.some Jvm.ClassFile.FieldType.int)) ∈ lw_all := lw_g (lw_at lw_m5 193 rfl) rfl
theorem q1260 : (Jvm.Cond.classLink "java/lang/StringBuilder" (24 : Nat) "java/lang/StringBuilder") ∈ lw_all := lw_g (lw_at lw_m5 194 rfl) rfl
theorem q1261 : (Jvm.Cond.methodLink "java/lang/StringBuilder" (346 : Nat) ({ cls := "java/lang/StringBuilder", name := "compareTo", desc := "(Ljava/lang/StringBuilder;)I" } : Jvm.MethodName)) ∈ lw_all := lw_g (lw_at lw_m5 195 rfl) rfl
theorem q1262 : (Jvm.Cond.instanceMethod ({ cls := "java/lang/StringBuilder", name := "compareTo", desc := "(Ljava/lang/StringBuilder;)I" } : Jvm.MethodName)) ∈ lw_all := lw_g (lw_at lw_m5 196 rfl) rfl
theorem q1263 : (Jvm.Cond.selects "java/lang/StringBuilder" ({ cls := "java/lang/StringBuilder", name := "compareTo", desc := "(Ljava/lang/StringBuilder;)I" } : Jvm.MethodName) ({ cls := "java/lang/StringBuilder", name := "compareTo", desc := "(Ljava/lang/StringBuilder;)I" } : Jvm.MethodName)) ∈ lw_all := lw_g (lw_at lw_m5 197 rfl) rfl
theorem q1264 : (Jvm.Cond.code ({ cls := "java/lang/StringBuilder", name := "compareTo", desc := "(Ljava/lang/StringBuilder;)I" } : Jvm.MethodName) prog_42_method_5_code (2 : Nat) (Option.some Jvm.ClassFile.FieldType.int)) ∈ lw_all := lw_g (lw_at lw_m5 198 rfl) rfl
theorem q1265 : (Jvm.Cond.methodLink "java/lang/StringBuilder" (13 : Nat) ({ cls := "java/lang/AbstractStringBuilder", name := "compareTo", desc := "(Ljava/lang/AbstractStringBuilder;)I" } : Jvm.MethodName)) ∈ lw_all := lw_g (lw_at lw_m5 199 rfl) rfl
theorem q1266 : (Jvm.Cond.superclass "java/lang/StringBuilder" "java/lang/AbstractStringBuilder") ∈ lw_all := lw_g (lw_at lw_m5 200 rfl) rfl
theorem q1272 : (Jvm.Cond.selects "java/lang/StringBuilder" ({ cls := "java/lang/AbstractStringBuilder", name := "isLatin1", desc := "()Z" } : Jvm.MethodName) ({ cls := "java/lang/AbstractStringBuilder", name := "isLatin1", desc := "()Z" } : Jvm.MethodName)) ∈ lw_all := lw_g (lw_at lw_m5 206 rfl) rfl
theorem q1573 : (Jvm.Cond.instantiable "java/lang/StringBuilder" (4 : Nat)) ∈ lw_all := lw_g (lw_at lw_m7 27 rfl) rfl
theorem q1575 : (Jvm.Cond.instanceMethod ({ cls := "java/lang/StringBuilder", name := "<init>", desc := "()V" } : Jvm.MethodName)) ∈ lw_all := lw_g (lw_at lw_m7 29 rfl) rfl
theorem q1576 : (Jvm.Cond.code ({ cls := "java/lang/StringBuilder", name := "<init>", desc := "()V" } : Jvm.MethodName) prog_42_method_1_code (1 : Nat) (Option.none : Option Jvm.ClassFile.FieldType)) ∈ lw_all := lw_g (lw_at lw_m7 30 rfl) rfl
theorem q1577 : (Jvm.Cond.methodLink "java/lang/StringBuilder" (1 : Nat) ({ cls := "java/lang/AbstractStringBuilder", name := "<init>", desc := "(I)V" } : Jvm.MethodName)) ∈ lw_all := lw_g (lw_at lw_m7 31 rfl) rfl
theorem q1592 : (Jvm.Cond.lays "java/lang/StringBuilder" "java/lang/AbstractStringBuilder" "value" "[B") ∈ lw_all := lw_g (lw_at lw_m7 46 rfl) rfl
theorem q1594 : (Jvm.Cond.lays "java/lang/StringBuilder" "java/lang/AbstractStringBuilder" "coder" "B") ∈ lw_all := lw_g (lw_at lw_m7 48 rfl) rfl
theorem q1596 : (Jvm.Cond.lays "java/lang/StringBuilder" "java/lang/AbstractStringBuilder" "maybeLatin1" "Z") ∈ lw_all := lw_g (lw_at lw_m7 50 rfl) rfl
theorem q1598 : (Jvm.Cond.lays "java/lang/StringBuilder" "java/lang/AbstractStringBuilder" "count" "I") ∈ lw_all := lw_g (lw_at lw_m7 52 rfl) rfl
theorem q1601 : (Jvm.Cond.instanceMethod ({ cls := "java/lang/StringBuilder", name := "append", desc := "(C)Ljava/lang/StringBuilder;" } : Jvm.MethodName)) ∈ lw_all := lw_g (lw_at lw_m7 55 rfl) rfl
theorem q1602 : (Jvm.Cond.selects "java/lang/StringBuilder" ({ cls := "java/lang/StringBuilder", name := "append", desc := "(C)Ljava/lang/StringBuilder;" } : Jvm.MethodName) ({ cls := "java/lang/StringBuilder", name := "append", desc := "(C)Ljava/lang/StringBuilder;" } : Jvm.MethodName)) ∈ lw_all := lw_g (lw_at lw_m7 56 rfl) rfl
theorem q1603 : (Jvm.Cond.code ({ cls := "java/lang/StringBuilder", name := "append", desc := "(C)Ljava/lang/StringBuilder;" } : Jvm.MethodName) prog_42_method_14_code (2 : Nat) (Option.some (Jvm.ClassFile.FieldType.object "java/lang/StringBuilder"))) ∈ lw_all := lw_g (lw_at lw_m7 57 rfl) rfl
theorem q1604 : (Jvm.Cond.methodLink "java/lang/StringBuilder" (50 : Nat) ({ cls := "java/lang/AbstractStringBuilder", name := "append", desc := "(C)Ljava/lang/AbstractStringBuilder;" } : Jvm.MethodName)) ∈ lw_all := lw_g (lw_at lw_m7 58 rfl) rfl
theorem q1663 : (Jvm.Cond.instanceMethod ({ cls := "java/lang/StringBuilder", name := "toString", desc := "()Ljava/lang/String;" } : Jvm.MethodName)) ∈ lw_all := lw_g (lw_at lw_m7 117 rfl) rfl
theorem q1664 : (Jvm.Cond.selects "java/lang/StringBuilder" ({ cls := "java/lang/StringBuilder", name := "toString", desc := "()Ljava/lang/String;" } : Jvm.MethodName) ({ cls := "java/lang/StringBuilder", name := "toString", desc := "()Ljava/lang/String;" } : Jvm.MethodName)) ∈ lw_all := lw_g (lw_at lw_m7 118 rfl) rfl
theorem q1665 : (Jvm.Cond.code ({ cls := "java/lang/StringBuilder", name := "toString", desc := "()Ljava/lang/String;" } : Jvm.MethodName) prog_42_method_42_code (1 : Nat) (Option.some (Jvm.ClassFile.FieldType.object "java/lang/String"))) ∈ lw_all := lw_g (lw_at lw_m7 119 rfl) rfl
theorem q1666 : (Jvm.Cond.classLink "java/lang/StringBuilder" (18 : Nat) "java/lang/String") ∈ lw_all := lw_g (lw_at lw_m7 120 rfl) rfl
theorem q1668 : (Jvm.Cond.methodLink "java/lang/StringBuilder" (137 : Nat) ({ cls := "java/lang/String", name := "<init>", desc := "(Ljava/lang/StringBuilder;)V" } : Jvm.MethodName)) ∈ lw_all := lw_g (lw_at lw_m7 122 rfl) rfl
theorem q1678 : (Jvm.Cond.selects "java/lang/StringBuilder" ({ cls := "java/lang/AbstractStringBuilder", name := "getValue", desc := "()[B" } : Jvm.MethodName) ({ cls := "java/lang/AbstractStringBuilder", name := "getValue", desc := "()[B" } : Jvm.MethodName)) ∈ lw_all := lw_g (lw_at lw_m7 132 rfl) rfl
theorem q1683 : (Jvm.Cond.selects "java/lang/StringBuilder" ({ cls := "java/lang/AbstractStringBuilder", name := "length", desc := "()I" } : Jvm.MethodName) ({ cls := "java/lang/StringBuilder", name := "length", desc := "()I" } : Jvm.MethodName)) ∈ lw_all := lw_g (lw_at lw_m7 137 rfl) rfl
theorem q1684 : (Jvm.Cond.instanceMethod ({ cls := "java/lang/StringBuilder", name := "length", desc := "()I" } : Jvm.MethodName)) ∈ lw_all := lw_g (lw_at lw_m7 138 rfl) rfl
theorem q1685 : (Jvm.Cond.code ({ cls := "java/lang/StringBuilder", name := "length", desc := "()I" } : Jvm.MethodName) prog_42_method_93_code (1 : Nat) (Option.some Jvm.ClassFile.FieldType.int)) ∈ lw_all := lw_g (lw_at lw_m7 139 rfl) rfl
theorem q1686 : (Jvm.Cond.methodLink "java/lang/StringBuilder" (343 : Nat) ({ cls := "java/lang/AbstractStringBuilder", name := "length", desc := "()I" } : Jvm.MethodName)) ∈ lw_all := lw_g (lw_at lw_m7 140 rfl) rfl
theorem q1793 : (Jvm.Cond.instanceMethod ({ cls := "java/lang/StringBuilder", name := "append", desc := "(Ljava/lang/String;)Ljava/lang/StringBuilder;" } : Jvm.MethodName)) ∈ lw_all := lw_g (lw_at lw_m8 7 rfl) rfl
theorem q1794 : (Jvm.Cond.selects "java/lang/StringBuilder" ({ cls := "java/lang/StringBuilder", name := "append", desc := "(Ljava/lang/String;)Ljava/lang/StringBuilder;" } : Jvm.MethodName) ({ cls := "java/lang/StringBuilder", name := "append", desc := "(Ljava/lang/String;)Ljava/lang/StringBuilder;" } : Jvm.MethodName)) ∈ lw_all := lw_g (lw_at lw_m8 8 rfl) rfl
theorem q1795 : (Jvm.Cond.code ({ cls := "java/lang/StringBuilder", name := "append", desc := "(Ljava/lang/String;)Ljava/lang/StringBuilder;" } : Jvm.MethodName) prog_42_method_7_code (2 : Nat) (Option.some (Jvm.ClassFile.FieldType.object "java/lang/StringBuilder"))) ∈ lw_all := lw_g (lw_at lw_m8 9 rfl) rfl
theorem q1796 : (Jvm.Cond.methodLink "java/lang/StringBuilder" (29 : Nat) ({ cls := "java/lang/AbstractStringBuilder", name := "append", desc := "(Ljava/lang/String;)Ljava/lang/AbstractStringBuilder;" } : Jvm.MethodName)) ∈ lw_all := lw_g (lw_at lw_m8 10 rfl) rfl
theorem q2465 : (Jvm.Cond.instanceMethod ({ cls := "java/lang/StringBuilder", name := "append", desc := "(I)Ljava/lang/StringBuilder;" } : Jvm.MethodName)) ∈ lw_all := lw_g (lw_at lw_m10 199 rfl) rfl
theorem q2466 : (Jvm.Cond.selects "java/lang/StringBuilder" ({ cls := "java/lang/StringBuilder", name := "append", desc := "(I)Ljava/lang/StringBuilder;" } : Jvm.MethodName) ({ cls := "java/lang/StringBuilder", name := "append", desc := "(I)Ljava/lang/StringBuilder;" } : Jvm.MethodName)) ∈ lw_all := lw_g (lw_at lw_m10 200 rfl) rfl
theorem q2467 : (Jvm.Cond.code ({ cls := "java/lang/StringBuilder", name := "append", desc := "(I)Ljava/lang/StringBuilder;" } : Jvm.MethodName) prog_42_method_15_code (2 : Nat) (Option.some (Jvm.ClassFile.FieldType.object "java/lang/StringBuilder"))) ∈ lw_all := lw_g (lw_at lw_m10 201 rfl) rfl
theorem q2468 : (Jvm.Cond.methodLink "java/lang/StringBuilder" (53 : Nat) ({ cls := "java/lang/AbstractStringBuilder", name := "append", desc := "(I)Ljava/lang/AbstractStringBuilder;" } : Jvm.MethodName)) ∈ lw_all := lw_g (lw_at lw_m10 202 rfl) rfl
theorem q3600 : (Jvm.Cond.castable "java/lang/StringBuilder" "java/lang/Object") ∈ lw_tbl := lw_at lw_m15 134 rfl
theorem in_J33 : ∀ w ∈ wsJ330, w ∈ lw_all := lw_in wsJ330 [1592, 1594, 1596, 1598] (by decide +kernel) (by decide +kernel)
/-! java/util/HashMap$Node -/
set_option maxRecDepth 100000
def RJ34 : String := "java/util/HashMap$Node"
def TJ34 : u_T := fun k => match k with
  | 0 => ("java/util/HashMap$Node", "hash", "I", true)
  | 1 => ("java/util/HashMap$Node", "key", "Ljava/lang/Object;", true)
  | 2 => ("java/util/HashMap$Node", "value", "Ljava/lang/Object;", false)
  | _ => ("java/util/HashMap$Node", "next", "Ljava/util/HashMap$Node;", false)
def tyJ34 : Nat → FieldType := fun k => match k with
  | 0 => .int
  | 1 => .object "java/lang/Object"
  | 2 => .object "java/lang/Object"
  | _ => .object "java/util/HashMap$Node"
abbrev wsJ340 : List Cond := u_ws RJ34 TJ34 4
theorem nmJ34 : ∀ a, a < 4 → ∀ b, b < 4 → a ≠ b → (TJ34 a).2.1 ≠ (TJ34 b).2.1 := by decide +kernel
theorem tyJ34_ok : ∀ k, k < 4 → parseFieldDescriptor (TJ34 k).2.2.1 = some (tyJ34 k) := by decide +kernel
abbrev cJ34_getKey : ByteArray := prog_62_method_2_code
def yJ34_getKey : MethodName := ⟨RJ34, "getKey", "()Ljava/lang/Object;"⟩
theorem dJ34_getKey_0 : decode cJ34_getKey 0 = .ok (.aload_n 0, 1) := by decide +kernel
theorem dJ34_getKey_1 : decode cJ34_getKey 1 = .ok (.getfield 13, 3) := by decide +kernel
theorem dJ34_getKey_4 : decode cJ34_getKey 4 = .ok (.areturn, 1) := by decide +kernel
abbrev cJ34_init : ByteArray := prog_62_method_1_code
def yJ34_init : MethodName := ⟨RJ34, "<init>", "(ILjava/lang/Object;Ljava/lang/Object;Ljava/util/HashMap$Node;)V"⟩
def dkwJ34_init_1 : List UInt8 := [181, 0, 20, 177]
abbrev dktJ34_init_1 : List UInt8 := dkwJ34_init_1 ++ []
def dkwJ34_init_0 : List UInt8 := [42, 183, 0, 1, 42, 27, 181, 0, 7, 42, 44, 181, 0, 13, 42, 45, 181, 0, 17, 42, 25, 4]
abbrev dktJ34_init_0 : List UInt8 := dkwJ34_init_0 ++ dktJ34_init_1
theorem dksJ34_init_0 : cJ34_init.data.toList.drop 0 = dktJ34_init_0 := by decide +kernel
theorem dksJ34_init_1 : cJ34_init.data.toList.drop 22 = dktJ34_init_1 := dk_seg dksJ34_init_0 22 rfl rfl
theorem dJ34_init_0 : decode cJ34_init 0 = .ok (.aload_n 0, 1) := dk_42 (dk_at dksJ34_init_0 0 rfl rfl)
theorem dJ34_init_1 : decode cJ34_init 1 = .ok (.invokespecial 1, 3) := dk_183 0 1 (dk_at dksJ34_init_0 1 rfl rfl)
theorem dJ34_init_4 : decode cJ34_init 4 = .ok (.aload_n 0, 1) := dk_42 (dk_at dksJ34_init_0 4 rfl rfl)
theorem dJ34_init_5 : decode cJ34_init 5 = .ok (.iload_n 1, 1) := dk_27 (dk_at dksJ34_init_0 5 rfl rfl)
theorem dJ34_init_6 : decode cJ34_init 6 = .ok (.putfield 7, 3) := dk_181 0 7 (dk_at dksJ34_init_0 6 rfl rfl)
theorem dJ34_init_9 : decode cJ34_init 9 = .ok (.aload_n 0, 1) := dk_42 (dk_at dksJ34_init_0 9 rfl rfl)
theorem dJ34_init_10 : decode cJ34_init 10 = .ok (.aload_n 2, 1) := dk_44 (dk_at dksJ34_init_0 10 rfl rfl)
theorem dJ34_init_11 : decode cJ34_init 11 = .ok (.putfield 13, 3) := dk_181 0 13 (dk_at dksJ34_init_0 11 rfl rfl)
theorem dJ34_init_14 : decode cJ34_init 14 = .ok (.aload_n 0, 1) := dk_42 (dk_at dksJ34_init_0 14 rfl rfl)
theorem dJ34_init_15 : decode cJ34_init 15 = .ok (.aload_n 3, 1) := dk_45 (dk_at dksJ34_init_0 15 rfl rfl)
theorem dJ34_init_16 : decode cJ34_init 16 = .ok (.putfield 17, 3) := dk_181 0 17 (dk_at dksJ34_init_0 16 rfl rfl)
theorem dJ34_init_19 : decode cJ34_init 19 = .ok (.aload_n 0, 1) := dk_42 (dk_at dksJ34_init_0 19 rfl rfl)
theorem dJ34_init_20 : decode cJ34_init 20 = .ok (.aload 4, 2) := dk_25 4 (dk_at dksJ34_init_0 20 rfl rfl)
theorem dJ34_init_22 : decode cJ34_init 22 = .ok (.putfield 20, 3) := dk_181 0 20 (dk_at dksJ34_init_1 0 rfl rfl)
theorem dJ34_init_25 : decode cJ34_init 25 = .ok (.return_, 1) := dk_177 (dk_at dksJ34_init_1 3 rfl rfl)
theorem q153 : (Jvm.Cond.initialized "java/util/HashMap$Node") ∈ lw_all := lw_g (lw_at lw_m1 47 rfl) rfl
theorem q563 : (Jvm.Cond.declares ({ cls := "java/util/HashMap$Node", name := "getKey", desc := "()Ljava/lang/Object;" } : Jvm.MethodName)) ∈ lw_tbl := lw_at lw_m2 217 rfl
theorem q566 : (Jvm.Cond.instanceMethod ({ cls := "java/util/HashMap$Node", name := "getKey", desc := "()Ljava/lang/Object;" } : Jvm.MethodName)) ∈ lw_all := lw_g (lw_at lw_m2 220 rfl) rfl
theorem q567 : (Jvm.Cond.code ({ cls := "java/util/HashMap$Node", name := "getKey", desc := "()Ljava/lang/Object;" } : Jvm.MethodName) prog_62_method_2_code (1 : Nat) (Option.some (Jvm.ClassFile.FieldType.object "java/lang/Object"))) ∈ lw_all := lw_g (lw_at lw_m2 221 rfl) rfl
theorem q631 : (Jvm.Cond.selects "java/util/HashMap$Node" ({ cls := "java/lang/Object", name := "getClass", desc := "()Ljava/lang/Class;" } : Jvm.MethodName) ({ cls := "java/lang/Object", name := "getClass", desc := "()Ljava/lang/Class;" } : Jvm.MethodName)) ∈ lw_all := lw_g (lw_at lw_m3 45 rfl) rfl
theorem q1898 : (Jvm.Cond.instanceMethod ({ cls := "java/util/HashMap$Node", name := "<init>", desc := "(ILjava/lang/Object;Ljava/lang/Object;Ljava/util/HashMap$Node;)V" } : Jvm.MethodName)) ∈ lw_all := lw_g (lw_at lw_m8 112 rfl) rfl
theorem q1899 : (Jvm.Cond.code ({ cls := "java/util/HashMap$Node", name := "<init>", desc := "(ILjava/lang/Object;Ljava/lang/Object;Ljava/util/HashMap$Node;)V" } : Jvm.MethodName) prog_62_method_1_code (5 : Nat) (Option.none : Option Jvm.ClassFile.FieldType)) ∈ lw_all := lw_g (lw_at lw_m8 113 rfl) rfl
theorem q1900 : (Jvm.Cond.methodLink "java/util/HashMap$Node" (1 : Nat) ({ cls := "java/lang/Object", name := "<init>", desc := "()V" } : Jvm.MethodName)) ∈ lw_all := lw_g (lw_at lw_m8 114 rfl) rfl
theorem q1905 : (Jvm.Cond.fieldLink "java/util/HashMap$Node" (7 : Nat) "java/util/HashMap$Node" "hash" "I") ∈ lw_all := lw_g (lw_at lw_m8 119 rfl) rfl
theorem q1911 : (Jvm.Cond.fieldLink "java/util/HashMap$Node" (13 : Nat) "java/util/HashMap$Node" "key" "Ljava/lang/Object;") ∈ lw_all := lw_g (lw_at lw_m8 125 rfl) rfl
theorem q1918 : (Jvm.Cond.fieldLink "java/util/HashMap$Node" (17 : Nat) "java/util/HashMap$Node" "value" "Ljava/lang/Object;") ∈ lw_all := lw_g (lw_at lw_m8 132 rfl) rfl
theorem q1923 : (Jvm.Cond.fieldLink "java/util/HashMap$Node" (20 : Nat) "java/util/HashMap$Node" "next" "Ljava/util/HashMap$Node;") ∈ lw_all := lw_g (lw_at lw_m8 137 rfl) rfl
theorem q1935 : (Jvm.Cond.soleField "java/util/HashMap$Node" "hash") ∈ lw_all := lw_g (lw_at lw_m8 149 rfl) rfl
theorem q1937 : (Jvm.Cond.soleField "java/util/HashMap$Node" "key") ∈ lw_all := lw_g (lw_at lw_m8 151 rfl) rfl
theorem q1939 : (Jvm.Cond.soleField "java/util/HashMap$Node" "value") ∈ lw_all := lw_g (lw_at lw_m8 153 rfl) rfl
theorem q1941 : (Jvm.Cond.soleField "java/util/HashMap$Node" "next") ∈ lw_all := lw_g (lw_at lw_m8 155 rfl) rfl
theorem q1948 : (Jvm.Cond.instantiable "java/util/HashMap$Node" (4 : Nat)) ∈ lw_all := lw_g (lw_at lw_m8 162 rfl) rfl
theorem q1950 : (Jvm.Cond.laysFinal "java/util/HashMap$Node" "java/util/HashMap$Node" "hash" "I") ∈ lw_all := lw_g (lw_at lw_m8 164 rfl) rfl
theorem q1951 : (Jvm.Cond.laysFinal "java/util/HashMap$Node" "java/util/HashMap$Node" "key" "Ljava/lang/Object;") ∈ lw_all := lw_g (lw_at lw_m8 165 rfl) rfl
theorem q1952 : (Jvm.Cond.lays "java/util/HashMap$Node" "java/util/HashMap$Node" "value" "Ljava/lang/Object;") ∈ lw_all := lw_g (lw_at lw_m8 166 rfl) rfl
theorem q1953 : (Jvm.Cond.lays "java/util/HashMap$Node" "java/util/HashMap$Node" "next" "Ljava/util/HashMap$Node;") ∈ lw_all := lw_g (lw_at lw_m8 167 rfl) rfl
theorem q1954 : (Jvm.Cond.superclass "java/util/HashMap$Node" "java/lang/Object") ∈ lw_all := lw_g (lw_at lw_m8 168 rfl) rfl
theorem q3583 : (Jvm.Cond.castable "java/util/HashMap$Node" "java/lang/Object") ∈ lw_tbl := lw_at lw_m15 117 rfl
theorem in_J34 : ∀ w ∈ wsJ340, w ∈ lw_all := lw_in wsJ340 [1950, 1951, 1952, 1953] (by decide +kernel) (by decide +kernel)
/-! java/util/LinkedHashMap$Entry -/
set_option maxRecDepth 100000
def RJ35 : String := "java/util/LinkedHashMap$Entry"
def TJ35 : u_T := fun k => match k with
  | 0 => ("java/util/HashMap$Node", "hash", "I", true)
  | 1 => ("java/util/HashMap$Node", "key", "Ljava/lang/Object;", true)
  | 2 => ("java/util/HashMap$Node", "value", "Ljava/lang/Object;", false)
  | 3 => ("java/util/HashMap$Node", "next", "Ljava/util/HashMap$Node;", false)
  | 4 => ("java/util/LinkedHashMap$Entry", "before", "Ljava/util/LinkedHashMap$Entry;", false)
  | _ => ("java/util/LinkedHashMap$Entry", "after", "Ljava/util/LinkedHashMap$Entry;", false)
def tyJ35 : Nat → FieldType := fun k => match k with
  | 0 => .int
  | 1 => .object "java/lang/Object"
  | 2 => .object "java/lang/Object"
  | 3 => .object "java/util/HashMap$Node"
  | 4 => .object "java/util/LinkedHashMap$Entry"
  | _ => .object "java/util/LinkedHashMap$Entry"
abbrev wsJ350 : List Cond := u_ws RJ35 TJ35 6
theorem nmJ35 : ∀ a, a < 6 → ∀ b, b < 6 → a ≠ b → (TJ35 a).2.1 ≠ (TJ35 b).2.1 := by decide +kernel
theorem tyJ35_ok : ∀ k, k < 6 → parseFieldDescriptor (TJ35 k).2.2.1 = some (tyJ35 k) := by decide +kernel
abbrev cJ35_init : ByteArray := prog_67_method_1_code
def yJ35_init : MethodName := ⟨RJ35, "<init>", "(ILjava/lang/Object;Ljava/lang/Object;Ljava/util/HashMap$Node;)V"⟩
def dkwJ35_init_0 : List UInt8 := [42, 27, 44, 45, 25, 4, 183, 0, 1, 177]
abbrev dktJ35_init_0 : List UInt8 := dkwJ35_init_0 ++ []
theorem dksJ35_init_0 : cJ35_init.data.toList.drop 0 = dktJ35_init_0 := by decide +kernel
theorem dJ35_init_0 : decode cJ35_init 0 = .ok (.aload_n 0, 1) := dk_42 (dk_at dksJ35_init_0 0 rfl rfl)
theorem dJ35_init_1 : decode cJ35_init 1 = .ok (.iload_n 1, 1) := dk_27 (dk_at dksJ35_init_0 1 rfl rfl)
theorem dJ35_init_2 : decode cJ35_init 2 = .ok (.aload_n 2, 1) := dk_44 (dk_at dksJ35_init_0 2 rfl rfl)
theorem dJ35_init_3 : decode cJ35_init 3 = .ok (.aload_n 3, 1) := dk_45 (dk_at dksJ35_init_0 3 rfl rfl)
theorem dJ35_init_4 : decode cJ35_init 4 = .ok (.aload 4, 2) := dk_25 4 (dk_at dksJ35_init_0 4 rfl rfl)
theorem dJ35_init_6 : decode cJ35_init 6 = .ok (.invokespecial 1, 3) := dk_183 0 1 (dk_at dksJ35_init_0 6 rfl rfl)
theorem dJ35_init_9 : decode cJ35_init 9 = .ok (.return_, 1) := dk_177 (dk_at dksJ35_init_0 9 rfl rfl)
theorem q154 : (Jvm.Cond.initialized "java/util/LinkedHashMap$Entry") ∈ lw_all := lw_g (lw_at lw_m1 48 rfl) rfl
theorem q562 : (Jvm.Cond.sameMethod "java/util/LinkedHashMap$Entry" "java/util/HashMap$Node" "getKey" "()Ljava/lang/Object;") ∈ lw_all := lw_g (lw_at lw_m2 216 rfl) rfl
theorem q565 : (Jvm.Cond.selects "java/util/LinkedHashMap$Entry" ({ cls := "java/util/LinkedHashMap$Entry", name := "getKey", desc := "()Ljava/lang/Object;" } : Jvm.MethodName) ({ cls := "java/util/HashMap$Node", name := "getKey", desc := "()Ljava/lang/Object;" } : Jvm.MethodName)) ∈ lw_all := lw_g (lw_at lw_m2 219 rfl) rfl
theorem q635 : (Jvm.Cond.selects "java/util/LinkedHashMap$Entry" ({ cls := "java/lang/Object", name := "getClass", desc := "()Ljava/lang/Class;" } : Jvm.MethodName) ({ cls := "java/lang/Object", name := "getClass", desc := "()Ljava/lang/Class;" } : Jvm.MethodName)) ∈ lw_all := lw_g (lw_at lw_m3 49 rfl) rfl
theorem q1893 : (Jvm.Cond.instantiable "java/util/LinkedHashMap$Entry" (6 : Nat)) ∈ lw_all := lw_g (lw_at lw_m8 107 rfl) rfl
theorem q1895 : (Jvm.Cond.instanceMethod ({ cls := "java/util/LinkedHashMap$Entry", name := "<init>", desc := "(ILjava/lang/Object;Ljava/lang/Object;Ljava/util/HashMap$Node;)V" } : Jvm.MethodName)) ∈ lw_all := lw_g (lw_at lw_m8 109 rfl) rfl
theorem q1896 : (Jvm.Cond.code ({ cls := "java/util/LinkedHashMap$Entry", name := "<init>", desc := "(ILjava/lang/Object;Ljava/lang/Object;Ljava/util/HashMap$Node;)V" } : Jvm.MethodName) prog_67_method_1_code (5 : Nat) (Option.none : Option Jvm.ClassFile.FieldType)) ∈ lw_all := lw_g (lw_at lw_m8 110 rfl) rfl
theorem q1897 : (Jvm.Cond.methodLink "java/util/LinkedHashMap$Entry" (1 : Nat) ({ cls := "java/util/HashMap$Node", name := "<init>", desc := "(ILjava/lang/Object;Ljava/lang/Object;Ljava/util/HashMap$Node;)V" } : Jvm.MethodName)) ∈ lw_all := lw_g (lw_at lw_m8 111 rfl) rfl
theorem q1909 : (Jvm.Cond.sameField "java/util/LinkedHashMap$Entry" "java/util/HashMap$Node" "hash" "I") ∈ lw_all := lw_g (lw_at lw_m8 123 rfl) rfl
theorem q1916 : (Jvm.Cond.sameField "java/util/LinkedHashMap$Entry" "java/util/HashMap$Node" "key" "Ljava/lang/Object;") ∈ lw_all := lw_g (lw_at lw_m8 130 rfl) rfl
theorem q1920 : (Jvm.Cond.sameField "java/util/LinkedHashMap$Entry" "java/util/HashMap$Node" "value" "Ljava/lang/Object;") ∈ lw_all := lw_g (lw_at lw_m8 134 rfl) rfl
theorem q1930 : (Jvm.Cond.lays "java/util/LinkedHashMap$Entry" "java/util/LinkedHashMap$Entry" "before" "Ljava/util/LinkedHashMap$Entry;") ∈ lw_all := lw_g (lw_at lw_m8 144 rfl) rfl
theorem q1931 : (Jvm.Cond.soleField "java/util/LinkedHashMap$Entry" "before") ∈ lw_all := lw_g (lw_at lw_m8 145 rfl) rfl
theorem q1932 : (Jvm.Cond.lays "java/util/LinkedHashMap$Entry" "java/util/LinkedHashMap$Entry" "after" "Ljava/util/LinkedHashMap$Entry;") ∈ lw_all := lw_g (lw_at lw_m8 146 rfl) rfl
theorem q1933 : (Jvm.Cond.soleField "java/util/LinkedHashMap$Entry" "after") ∈ lw_all := lw_g (lw_at lw_m8 147 rfl) rfl
theorem q1934 : (Jvm.Cond.laysFinal "java/util/LinkedHashMap$Entry" "java/util/HashMap$Node" "hash" "I") ∈ lw_all := lw_g (lw_at lw_m8 148 rfl) rfl
theorem q1936 : (Jvm.Cond.laysFinal "java/util/LinkedHashMap$Entry" "java/util/HashMap$Node" "key" "Ljava/lang/Object;") ∈ lw_all := lw_g (lw_at lw_m8 150 rfl) rfl
theorem q1938 : (Jvm.Cond.lays "java/util/LinkedHashMap$Entry" "java/util/HashMap$Node" "value" "Ljava/lang/Object;") ∈ lw_all := lw_g (lw_at lw_m8 152 rfl) rfl
theorem q1940 : (Jvm.Cond.lays "java/util/LinkedHashMap$Entry" "java/util/HashMap$Node" "next" "Ljava/util/HashMap$Node;") ∈ lw_all := lw_g (lw_at lw_m8 154 rfl) rfl
theorem q1942 : (Jvm.Cond.superclass "java/util/LinkedHashMap$Entry" "java/util/HashMap$Node") ∈ lw_all := lw_g (lw_at lw_m8 156 rfl) rfl
theorem q3603 : (Jvm.Cond.castable "java/util/LinkedHashMap$Entry" "java/lang/Object") ∈ lw_tbl := lw_at lw_m15 137 rfl
theorem q3621 : (Jvm.Cond.castable "java/util/LinkedHashMap$Entry" "java/util/HashMap$Node") ∈ lw_tbl := lw_at lw_m15 155 rfl
theorem in_J35 : ∀ w ∈ wsJ350, w ∈ lw_all := lw_in wsJ350 [1934, 1936, 1938, 1940, 1930, 1932] (by decide +kernel) (by decide +kernel)
/-! java/util/HashMap$TreeNode -/
set_option maxRecDepth 100000
def RJ36 : String := "java/util/HashMap$TreeNode"
def TJ36 : u_T := fun k => match k with
  | 0 => ("java/util/HashMap$Node", "hash", "I", true)
  | 1 => ("java/util/HashMap$Node", "key", "Ljava/lang/Object;", true)
  | 2 => ("java/util/HashMap$Node", "value", "Ljava/lang/Object;", false)
  | 3 => ("java/util/HashMap$Node", "next", "Ljava/util/HashMap$Node;", false)
  | 4 => ("java/util/LinkedHashMap$Entry", "before", "Ljava/util/LinkedHashMap$Entry;", false)
  | 5 => ("java/util/LinkedHashMap$Entry", "after", "Ljava/util/LinkedHashMap$Entry;", false)
  | 6 => ("java/util/HashMap$TreeNode", "parent", "Ljava/util/HashMap$TreeNode;", false)
  | 7 => ("java/util/HashMap$TreeNode", "left", "Ljava/util/HashMap$TreeNode;", false)
  | 8 => ("java/util/HashMap$TreeNode", "right", "Ljava/util/HashMap$TreeNode;", false)
  | 9 => ("java/util/HashMap$TreeNode", "prev", "Ljava/util/HashMap$TreeNode;", false)
  | _ => ("java/util/HashMap$TreeNode", "red", "Z", false)
def tyJ36 : Nat → FieldType := fun k => match k with
  | 0 => .int
  | 1 => .object "java/lang/Object"
  | 2 => .object "java/lang/Object"
  | 3 => .object "java/util/HashMap$Node"
  | 4 => .object "java/util/LinkedHashMap$Entry"
  | 5 => .object "java/util/LinkedHashMap$Entry"
  | 6 => .object "java/util/HashMap$TreeNode"
  | 7 => .object "java/util/HashMap$TreeNode"
  | 8 => .object "java/util/HashMap$TreeNode"
  | 9 => .object "java/util/HashMap$TreeNode"
  | _ => .boolean
abbrev wsJ360 : List Cond := u_ws RJ36 TJ36 11
theorem nmJ36 : ∀ a, a < 11 → ∀ b, b < 11 → a ≠ b → (TJ36 a).2.1 ≠ (TJ36 b).2.1 := by decide +kernel
theorem tyJ36_ok : ∀ k, k < 11 → parseFieldDescriptor (TJ36 k).2.2.1 = some (tyJ36 k) := by decide +kernel
abbrev cJ36_getTreeNode : ByteArray := prog_63_method_5_code
def yJ36_getTreeNode : MethodName := ⟨RJ36, "getTreeNode", "(ILjava/lang/Object;)Ljava/util/HashMap$TreeNode;"⟩
def dkwJ36_getTreeNode_0 : List UInt8 := [42, 180, 0, 9, 198, 0, 10, 42, 182, 0, 67, 167, 0, 4, 42, 27, 44, 1, 182, 0, 63, 176]
abbrev dktJ36_getTreeNode_0 : List UInt8 := dkwJ36_getTreeNode_0 ++ []
theorem dksJ36_getTreeNode_0 : cJ36_getTreeNode.data.toList.drop 0 = dktJ36_getTreeNode_0 := by decide +kernel
theorem dJ36_getTreeNode_0 : decode cJ36_getTreeNode 0 = .ok (.aload_n 0, 1) := dk_42 (dk_at dksJ36_getTreeNode_0 0 rfl rfl)
theorem dJ36_getTreeNode_1 : decode cJ36_getTreeNode 1 = .ok (.getfield 9, 3) := dk_180 0 9 (dk_at dksJ36_getTreeNode_0 1 rfl rfl)
theorem dJ36_getTreeNode_4 : decode cJ36_getTreeNode 4 = .ok (.ifnull 10, 3) := dk_198 0 10 (dk_at dksJ36_getTreeNode_0 4 rfl rfl)
theorem dJ36_getTreeNode_7 : decode cJ36_getTreeNode 7 = .ok (.aload_n 0, 1) := dk_42 (dk_at dksJ36_getTreeNode_0 7 rfl rfl)
theorem dJ36_getTreeNode_8 : decode cJ36_getTreeNode 8 = .ok (.invokevirtual 67, 3) := dk_182 0 67 (dk_at dksJ36_getTreeNode_0 8 rfl rfl)
theorem dJ36_getTreeNode_11 : decode cJ36_getTreeNode 11 = .ok (.goto 4, 3) := dk_167 0 4 (dk_at dksJ36_getTreeNode_0 11 rfl rfl)
theorem dJ36_getTreeNode_14 : decode cJ36_getTreeNode 14 = .ok (.aload_n 0, 1) := dk_42 (dk_at dksJ36_getTreeNode_0 14 rfl rfl)
theorem dJ36_getTreeNode_15 : decode cJ36_getTreeNode 15 = .ok (.iload_n 1, 1) := dk_27 (dk_at dksJ36_getTreeNode_0 15 rfl rfl)
theorem dJ36_getTreeNode_16 : decode cJ36_getTreeNode 16 = .ok (.aload_n 2, 1) := dk_44 (dk_at dksJ36_getTreeNode_0 16 rfl rfl)
theorem dJ36_getTreeNode_17 : decode cJ36_getTreeNode 17 = .ok (.aconst_null, 1) := dk_1 (dk_at dksJ36_getTreeNode_0 17 rfl rfl)
theorem dJ36_getTreeNode_18 : decode cJ36_getTreeNode 18 = .ok (.invokevirtual 63, 3) := dk_182 0 63 (dk_at dksJ36_getTreeNode_0 18 rfl rfl)
theorem dJ36_getTreeNode_21 : decode cJ36_getTreeNode 21 = .ok (.areturn, 1) := dk_176 (dk_at dksJ36_getTreeNode_0 21 rfl rfl)
abbrev cJ36_root : ByteArray := prog_63_method_2_code
def yJ36_root : MethodName := ⟨RJ36, "root", "()Ljava/util/HashMap$TreeNode;"⟩
def dkwJ36_root_0 : List UInt8 := [42, 76, 43, 180, 0, 9, 89, 77, 199, 0, 5, 43, 176, 44, 76, 167, 255, 243]
abbrev dktJ36_root_0 : List UInt8 := dkwJ36_root_0 ++ []
theorem dksJ36_root_0 : cJ36_root.data.toList.drop 0 = dktJ36_root_0 := by decide +kernel
theorem dJ36_root_0 : decode cJ36_root 0 = .ok (.aload_n 0, 1) := dk_42 (dk_at dksJ36_root_0 0 rfl rfl)
theorem dJ36_root_1 : decode cJ36_root 1 = .ok (.astore_n 1, 1) := dk_76 (dk_at dksJ36_root_0 1 rfl rfl)
theorem dJ36_root_2 : decode cJ36_root 2 = .ok (.aload_n 1, 1) := dk_43 (dk_at dksJ36_root_0 2 rfl rfl)
theorem dJ36_root_3 : decode cJ36_root 3 = .ok (.getfield 9, 3) := dk_180 0 9 (dk_at dksJ36_root_0 3 rfl rfl)
theorem dJ36_root_6 : decode cJ36_root 6 = .ok (.dup, 1) := dk_89 (dk_at dksJ36_root_0 6 rfl rfl)
theorem dJ36_root_7 : decode cJ36_root 7 = .ok (.astore_n 2, 1) := dk_77 (dk_at dksJ36_root_0 7 rfl rfl)
theorem dJ36_root_8 : decode cJ36_root 8 = .ok (.ifnonnull 5, 3) := dk_199 0 5 (dk_at dksJ36_root_0 8 rfl rfl)
theorem dJ36_root_11 : decode cJ36_root 11 = .ok (.aload_n 1, 1) := dk_43 (dk_at dksJ36_root_0 11 rfl rfl)
theorem dJ36_root_12 : decode cJ36_root 12 = .ok (.areturn, 1) := dk_176 (dk_at dksJ36_root_0 12 rfl rfl)
theorem dJ36_root_13 : decode cJ36_root 13 = .ok (.aload_n 2, 1) := dk_44 (dk_at dksJ36_root_0 13 rfl rfl)
theorem dJ36_root_14 : decode cJ36_root 14 = .ok (.astore_n 1, 1) := dk_76 (dk_at dksJ36_root_0 14 rfl rfl)
theorem dJ36_root_15 : decode cJ36_root 15 = .ok (.goto (-13), 3) := dk_167 255 243 (dk_at dksJ36_root_0 15 rfl rfl)
abbrev cJ36_find : ByteArray := prog_63_method_4_code
def yJ36_find : MethodName := ⟨RJ36, "find", "(ILjava/lang/Object;Ljava/lang/Class;)Ljava/util/HashMap$TreeNode;"⟩
def dkwJ36_find_7 : List UInt8 := [58, 4, 25, 4, 199, 255, 92, 1, 176]
abbrev dktJ36_find_7 : List UInt8 := dkwJ36_find_7 ++ []
def dkwJ36_find_6 : List UInt8 := [58, 4, 167, 0, 24, 25, 9, 27, 44, 45, 182, 0, 63, 89, 58, 10, 198, 0, 6, 25, 10, 176, 25, 8]
abbrev dktJ36_find_6 : List UInt8 := dkwJ36_find_6 ++ dktJ36_find_7
def dkwJ36_find_5 : List UInt8 := [44, 25, 7, 184, 0, 59, 89, 54, 6, 153, 0, 20, 21, 6, 156, 0, 8, 25, 8, 167, 0, 5, 25, 9]
abbrev dktJ36_find_5 : List UInt8 := dkwJ36_find_5 ++ dktJ36_find_6
def dkwJ36_find_4 : List UInt8 := [199, 0, 10, 25, 8, 58, 4, 167, 0, 67, 45, 199, 0, 12, 44, 184, 0, 55, 89, 78, 198, 0, 33, 45]
abbrev dktJ36_find_4 : List UInt8 := dkwJ36_find_4 ++ dktJ36_find_5
def dkwJ36_find_3 : List UInt8 := [182, 0, 49, 153, 0, 6, 25, 4, 176, 25, 8, 199, 0, 10, 25, 9, 58, 4, 167, 0, 79, 25, 9]
abbrev dktJ36_find_3 : List UInt8 := dkwJ36_find_3 ++ dktJ36_find_4
def dkwJ36_find_2 : List UInt8 := [167, 0, 119, 25, 4, 180, 0, 45, 89, 58, 7, 44, 165, 0, 16, 44, 198, 0, 15, 44, 25, 7]
abbrev dktJ36_find_2 : List UInt8 := dkwJ36_find_2 ++ dktJ36_find_3
def dkwJ36_find_1 : List UInt8 := [54, 5, 27, 164, 0, 10, 25, 8, 58, 4, 167, 0, 132, 21, 5, 27, 162, 0, 10, 25, 9, 58, 4]
abbrev dktJ36_find_1 : List UInt8 := dkwJ36_find_1 ++ dktJ36_find_2
def dkwJ36_find_0 : List UInt8 := [42, 58, 4, 25, 4, 180, 0, 39, 58, 8, 25, 4, 180, 0, 42, 58, 9, 25, 4, 180, 0, 15, 89]
abbrev dktJ36_find_0 : List UInt8 := dkwJ36_find_0 ++ dktJ36_find_1
theorem dksJ36_find_0 : cJ36_find.data.toList.drop 0 = dktJ36_find_0 := by decide +kernel
theorem dksJ36_find_1 : cJ36_find.data.toList.drop 23 = dktJ36_find_1 := dk_seg dksJ36_find_0 23 rfl rfl
theorem dksJ36_find_2 : cJ36_find.data.toList.drop 46 = dktJ36_find_2 := dk_seg dksJ36_find_1 23 rfl rfl
theorem dksJ36_find_3 : cJ36_find.data.toList.drop 68 = dktJ36_find_3 := dk_seg dksJ36_find_2 22 rfl rfl
theorem dksJ36_find_4 : cJ36_find.data.toList.drop 91 = dktJ36_find_4 := dk_seg dksJ36_find_3 23 rfl rfl
theorem dksJ36_find_5 : cJ36_find.data.toList.drop 115 = dktJ36_find_5 := dk_seg dksJ36_find_4 24 rfl rfl
theorem dksJ36_find_6 : cJ36_find.data.toList.drop 139 = dktJ36_find_6 := dk_seg dksJ36_find_5 24 rfl rfl
theorem dksJ36_find_7 : cJ36_find.data.toList.drop 163 = dktJ36_find_7 := dk_seg dksJ36_find_6 24 rfl rfl
theorem dJ36_find_0 : decode cJ36_find 0 = .ok (.aload_n 0, 1) := dk_42 (dk_at dksJ36_find_0 0 rfl rfl)
theorem dJ36_find_1 : decode cJ36_find 1 = .ok (.astore 4, 2) := dk_58 4 (dk_at dksJ36_find_0 1 rfl rfl)
theorem dJ36_find_3 : decode cJ36_find 3 = .ok (.aload 4, 2) := dk_25 4 (dk_at dksJ36_find_0 3 rfl rfl)
theorem dJ36_find_5 : decode cJ36_find 5 = .ok (.getfield 39, 3) := dk_180 0 39 (dk_at dksJ36_find_0 5 rfl rfl)
theorem dJ36_find_8 : decode cJ36_find 8 = .ok (.astore 8, 2) := dk_58 8 (dk_at dksJ36_find_0 8 rfl rfl)
theorem dJ36_find_10 : decode cJ36_find 10 = .ok (.aload 4, 2) := dk_25 4 (dk_at dksJ36_find_0 10 rfl rfl)
theorem dJ36_find_12 : decode cJ36_find 12 = .ok (.getfield 42, 3) := dk_180 0 42 (dk_at dksJ36_find_0 12 rfl rfl)
theorem dJ36_find_15 : decode cJ36_find 15 = .ok (.astore 9, 2) := dk_58 9 (dk_at dksJ36_find_0 15 rfl rfl)
theorem dJ36_find_17 : decode cJ36_find 17 = .ok (.aload 4, 2) := dk_25 4 (dk_at dksJ36_find_0 17 rfl rfl)
theorem dJ36_find_19 : decode cJ36_find 19 = .ok (.getfield 15, 3) := dk_180 0 15 (dk_at dksJ36_find_0 19 rfl rfl)
theorem dJ36_find_22 : decode cJ36_find 22 = .ok (.dup, 1) := dk_89 (dk_at dksJ36_find_0 22 rfl rfl)
theorem dJ36_find_23 : decode cJ36_find 23 = .ok (.istore 5, 2) := dk_54 5 (dk_at dksJ36_find_1 0 rfl rfl)
theorem dJ36_find_25 : decode cJ36_find 25 = .ok (.iload_n 1, 1) := dk_27 (dk_at dksJ36_find_1 2 rfl rfl)
theorem dJ36_find_26 : decode cJ36_find 26 = .ok (.if_icmp .le 10, 3) := dk_164 0 10 (dk_at dksJ36_find_1 3 rfl rfl)
theorem dJ36_find_29 : decode cJ36_find 29 = .ok (.aload 8, 2) := dk_25 8 (dk_at dksJ36_find_1 6 rfl rfl)
theorem dJ36_find_31 : decode cJ36_find 31 = .ok (.astore 4, 2) := dk_58 4 (dk_at dksJ36_find_1 8 rfl rfl)
theorem dJ36_find_33 : decode cJ36_find 33 = .ok (.goto 132, 3) := dk_167 0 132 (dk_at dksJ36_find_1 10 rfl rfl)
theorem dJ36_find_36 : decode cJ36_find 36 = .ok (.iload 5, 2) := dk_21 5 (dk_at dksJ36_find_1 13 rfl rfl)
theorem dJ36_find_38 : decode cJ36_find 38 = .ok (.iload_n 1, 1) := dk_27 (dk_at dksJ36_find_1 15 rfl rfl)
theorem dJ36_find_39 : decode cJ36_find 39 = .ok (.if_icmp .ge 10, 3) := dk_162 0 10 (dk_at dksJ36_find_1 16 rfl rfl)
theorem dJ36_find_42 : decode cJ36_find 42 = .ok (.aload 9, 2) := dk_25 9 (dk_at dksJ36_find_1 19 rfl rfl)
theorem dJ36_find_44 : decode cJ36_find 44 = .ok (.astore 4, 2) := dk_58 4 (dk_at dksJ36_find_1 21 rfl rfl)
theorem dJ36_find_46 : decode cJ36_find 46 = .ok (.goto 119, 3) := dk_167 0 119 (dk_at dksJ36_find_2 0 rfl rfl)
theorem dJ36_find_49 : decode cJ36_find 49 = .ok (.aload 4, 2) := dk_25 4 (dk_at dksJ36_find_2 3 rfl rfl)
theorem dJ36_find_51 : decode cJ36_find 51 = .ok (.getfield 45, 3) := dk_180 0 45 (dk_at dksJ36_find_2 5 rfl rfl)
theorem dJ36_find_54 : decode cJ36_find 54 = .ok (.dup, 1) := dk_89 (dk_at dksJ36_find_2 8 rfl rfl)
theorem dJ36_find_55 : decode cJ36_find 55 = .ok (.astore 7, 2) := dk_58 7 (dk_at dksJ36_find_2 9 rfl rfl)
theorem dJ36_find_57 : decode cJ36_find 57 = .ok (.aload_n 2, 1) := dk_44 (dk_at dksJ36_find_2 11 rfl rfl)
theorem dJ36_find_58 : decode cJ36_find 58 = .ok (.if_acmp .eq 16, 3) := dk_165 0 16 (dk_at dksJ36_find_2 12 rfl rfl)
theorem dJ36_find_61 : decode cJ36_find 61 = .ok (.aload_n 2, 1) := dk_44 (dk_at dksJ36_find_2 15 rfl rfl)
theorem dJ36_find_62 : decode cJ36_find 62 = .ok (.ifnull 15, 3) := dk_198 0 15 (dk_at dksJ36_find_2 16 rfl rfl)
theorem dJ36_find_65 : decode cJ36_find 65 = .ok (.aload_n 2, 1) := dk_44 (dk_at dksJ36_find_2 19 rfl rfl)
theorem dJ36_find_66 : decode cJ36_find 66 = .ok (.aload 7, 2) := dk_25 7 (dk_at dksJ36_find_2 20 rfl rfl)
theorem dJ36_find_68 : decode cJ36_find 68 = .ok (.invokevirtual 49, 3) := dk_182 0 49 (dk_at dksJ36_find_3 0 rfl rfl)
theorem dJ36_find_71 : decode cJ36_find 71 = .ok (.ifCond .eq 6, 3) := dk_153 0 6 (dk_at dksJ36_find_3 3 rfl rfl)
theorem dJ36_find_74 : decode cJ36_find 74 = .ok (.aload 4, 2) := dk_25 4 (dk_at dksJ36_find_3 6 rfl rfl)
theorem dJ36_find_76 : decode cJ36_find 76 = .ok (.areturn, 1) := dk_176 (dk_at dksJ36_find_3 8 rfl rfl)
theorem dJ36_find_77 : decode cJ36_find 77 = .ok (.aload 8, 2) := dk_25 8 (dk_at dksJ36_find_3 9 rfl rfl)
theorem dJ36_find_79 : decode cJ36_find 79 = .ok (.ifnonnull 10, 3) := dk_199 0 10 (dk_at dksJ36_find_3 11 rfl rfl)
theorem dJ36_find_82 : decode cJ36_find 82 = .ok (.aload 9, 2) := dk_25 9 (dk_at dksJ36_find_3 14 rfl rfl)
theorem dJ36_find_84 : decode cJ36_find 84 = .ok (.astore 4, 2) := dk_58 4 (dk_at dksJ36_find_3 16 rfl rfl)
theorem dJ36_find_86 : decode cJ36_find 86 = .ok (.goto 79, 3) := dk_167 0 79 (dk_at dksJ36_find_3 18 rfl rfl)
theorem dJ36_find_89 : decode cJ36_find 89 = .ok (.aload 9, 2) := dk_25 9 (dk_at dksJ36_find_3 21 rfl rfl)
theorem dJ36_find_91 : decode cJ36_find 91 = .ok (.ifnonnull 10, 3) := dk_199 0 10 (dk_at dksJ36_find_4 0 rfl rfl)
theorem dJ36_find_94 : decode cJ36_find 94 = .ok (.aload 8, 2) := dk_25 8 (dk_at dksJ36_find_4 3 rfl rfl)
theorem dJ36_find_96 : decode cJ36_find 96 = .ok (.astore 4, 2) := dk_58 4 (dk_at dksJ36_find_4 5 rfl rfl)
theorem dJ36_find_98 : decode cJ36_find 98 = .ok (.goto 67, 3) := dk_167 0 67 (dk_at dksJ36_find_4 7 rfl rfl)
theorem dJ36_find_101 : decode cJ36_find 101 = .ok (.aload_n 3, 1) := dk_45 (dk_at dksJ36_find_4 10 rfl rfl)
theorem dJ36_find_102 : decode cJ36_find 102 = .ok (.ifnonnull 12, 3) := dk_199 0 12 (dk_at dksJ36_find_4 11 rfl rfl)
theorem dJ36_find_105 : decode cJ36_find 105 = .ok (.aload_n 2, 1) := dk_44 (dk_at dksJ36_find_4 14 rfl rfl)
theorem dJ36_find_106 : decode cJ36_find 106 = .ok (.invokestatic 55, 3) := dk_184 0 55 (dk_at dksJ36_find_4 15 rfl rfl)
theorem dJ36_find_109 : decode cJ36_find 109 = .ok (.dup, 1) := dk_89 (dk_at dksJ36_find_4 18 rfl rfl)
theorem dJ36_find_110 : decode cJ36_find 110 = .ok (.astore_n 3, 1) := dk_78 (dk_at dksJ36_find_4 19 rfl rfl)
theorem dJ36_find_111 : decode cJ36_find 111 = .ok (.ifnull 33, 3) := dk_198 0 33 (dk_at dksJ36_find_4 20 rfl rfl)
theorem dJ36_find_114 : decode cJ36_find 114 = .ok (.aload_n 3, 1) := dk_45 (dk_at dksJ36_find_4 23 rfl rfl)
theorem dJ36_find_115 : decode cJ36_find 115 = .ok (.aload_n 2, 1) := dk_44 (dk_at dksJ36_find_5 0 rfl rfl)
theorem dJ36_find_116 : decode cJ36_find 116 = .ok (.aload 7, 2) := dk_25 7 (dk_at dksJ36_find_5 1 rfl rfl)
theorem dJ36_find_118 : decode cJ36_find 118 = .ok (.invokestatic 59, 3) := dk_184 0 59 (dk_at dksJ36_find_5 3 rfl rfl)
theorem dJ36_find_121 : decode cJ36_find 121 = .ok (.dup, 1) := dk_89 (dk_at dksJ36_find_5 6 rfl rfl)
theorem dJ36_find_122 : decode cJ36_find 122 = .ok (.istore 6, 2) := dk_54 6 (dk_at dksJ36_find_5 7 rfl rfl)
theorem dJ36_find_124 : decode cJ36_find 124 = .ok (.ifCond .eq 20, 3) := dk_153 0 20 (dk_at dksJ36_find_5 9 rfl rfl)
theorem dJ36_find_127 : decode cJ36_find 127 = .ok (.iload 6, 2) := dk_21 6 (dk_at dksJ36_find_5 12 rfl rfl)
theorem dJ36_find_129 : decode cJ36_find 129 = .ok (.ifCond .ge 8, 3) := dk_156 0 8 (dk_at dksJ36_find_5 14 rfl rfl)
theorem dJ36_find_132 : decode cJ36_find 132 = .ok (.aload 8, 2) := dk_25 8 (dk_at dksJ36_find_5 17 rfl rfl)
theorem dJ36_find_134 : decode cJ36_find 134 = .ok (.goto 5, 3) := dk_167 0 5 (dk_at dksJ36_find_5 19 rfl rfl)
theorem dJ36_find_137 : decode cJ36_find 137 = .ok (.aload 9, 2) := dk_25 9 (dk_at dksJ36_find_5 22 rfl rfl)
theorem dJ36_find_139 : decode cJ36_find 139 = .ok (.astore 4, 2) := dk_58 4 (dk_at dksJ36_find_6 0 rfl rfl)
theorem dJ36_find_141 : decode cJ36_find 141 = .ok (.goto 24, 3) := dk_167 0 24 (dk_at dksJ36_find_6 2 rfl rfl)
theorem dJ36_find_144 : decode cJ36_find 144 = .ok (.aload 9, 2) := dk_25 9 (dk_at dksJ36_find_6 5 rfl rfl)
theorem dJ36_find_146 : decode cJ36_find 146 = .ok (.iload_n 1, 1) := dk_27 (dk_at dksJ36_find_6 7 rfl rfl)
theorem dJ36_find_147 : decode cJ36_find 147 = .ok (.aload_n 2, 1) := dk_44 (dk_at dksJ36_find_6 8 rfl rfl)
theorem dJ36_find_148 : decode cJ36_find 148 = .ok (.aload_n 3, 1) := dk_45 (dk_at dksJ36_find_6 9 rfl rfl)
theorem dJ36_find_149 : decode cJ36_find 149 = .ok (.invokevirtual 63, 3) := dk_182 0 63 (dk_at dksJ36_find_6 10 rfl rfl)
theorem dJ36_find_152 : decode cJ36_find 152 = .ok (.dup, 1) := dk_89 (dk_at dksJ36_find_6 13 rfl rfl)
theorem dJ36_find_153 : decode cJ36_find 153 = .ok (.astore 10, 2) := dk_58 10 (dk_at dksJ36_find_6 14 rfl rfl)
theorem dJ36_find_155 : decode cJ36_find 155 = .ok (.ifnull 6, 3) := dk_198 0 6 (dk_at dksJ36_find_6 16 rfl rfl)
theorem dJ36_find_158 : decode cJ36_find 158 = .ok (.aload 10, 2) := dk_25 10 (dk_at dksJ36_find_6 19 rfl rfl)
theorem dJ36_find_160 : decode cJ36_find 160 = .ok (.areturn, 1) := dk_176 (dk_at dksJ36_find_6 21 rfl rfl)
theorem dJ36_find_161 : decode cJ36_find 161 = .ok (.aload 8, 2) := dk_25 8 (dk_at dksJ36_find_6 22 rfl rfl)
theorem dJ36_find_163 : decode cJ36_find 163 = .ok (.astore 4, 2) := dk_58 4 (dk_at dksJ36_find_7 0 rfl rfl)
theorem dJ36_find_165 : decode cJ36_find 165 = .ok (.aload 4, 2) := dk_25 4 (dk_at dksJ36_find_7 2 rfl rfl)
theorem dJ36_find_167 : decode cJ36_find 167 = .ok (.ifnonnull (-164), 3) := dk_199 255 92 (dk_at dksJ36_find_7 4 rfl rfl)
theorem dJ36_find_170 : decode cJ36_find 170 = .ok (.aconst_null, 1) := dk_1 (dk_at dksJ36_find_7 7 rfl rfl)
theorem dJ36_find_171 : decode cJ36_find 171 = .ok (.areturn, 1) := dk_176 (dk_at dksJ36_find_7 8 rfl rfl)
abbrev cJ36_split : ByteArray := prog_63_method_11_code
def yJ36_split : MethodName := ⟨RJ36, "split", "(Ljava/util/HashMap;[Ljava/util/HashMap$Node;II)V"⟩
def dkwJ36_split_9 : List UInt8 := [198, 0, 9, 25, 8, 44, 182, 0, 126, 177]
abbrev dktJ36_split_9 : List UInt8 := dkwJ36_split_9 ++ []
def dkwJ36_split_8 : List UInt8 := [21, 4, 96, 25, 8, 43, 182, 0, 119, 83, 167, 0, 22, 44, 29, 21, 4, 96, 25, 8, 83, 25, 6]
abbrev dktJ36_split_8 : List UInt8 := dkwJ36_split_8 ++ dktJ36_split_9
def dkwJ36_split_7 : List UInt8 := [198, 0, 9, 25, 6, 44, 182, 0, 126, 25, 8, 198, 0, 44, 21, 11, 16, 6, 163, 0, 18, 44, 29]
abbrev dktJ36_split_7 : List UInt8 := dkwJ36_split_7 ++ dktJ36_split_8
def dkwJ36_split_6 : List UInt8 := [163, 0, 15, 44, 29, 25, 6, 43, 182, 0, 119, 83, 167, 0, 19, 44, 29, 25, 6, 83, 25, 8]
abbrev dktJ36_split_6 : List UInt8 := dkwJ36_split_6 ++ dktJ36_split_7
def dkwJ36_split_5 : List UInt8 := [25, 12, 58, 9, 132, 11, 1, 25, 13, 58, 12, 167, 255, 153, 25, 6, 198, 0, 38, 21, 10, 16, 6]
abbrev dktJ36_split_5 : List UInt8 := dkwJ36_split_5 ++ dktJ36_split_6
def dkwJ36_split_4 : List UInt8 := [25, 9, 90, 181, 0, 19, 199, 0, 10, 25, 12, 58, 8, 167, 0, 10, 25, 9, 25, 12, 181, 0, 22]
abbrev dktJ36_split_4 : List UInt8 := dkwJ36_split_4 ++ dktJ36_split_5
def dkwJ36_split_3 : List UInt8 := [58, 6, 167, 0, 10, 25, 7, 25, 12, 181, 0, 22, 25, 12, 58, 7, 132, 10, 1, 167, 0, 35, 25, 12]
abbrev dktJ36_split_3 : List UInt8 := dkwJ36_split_3 ++ dktJ36_split_4
def dkwJ36_split_2 : List UInt8 := [25, 12, 180, 0, 15, 21, 4, 126, 154, 0, 38, 25, 12, 25, 7, 90, 181, 0, 19, 199, 0, 10, 25, 12]
abbrev dktJ36_split_2 : List UInt8 := dkwJ36_split_2 ++ dktJ36_split_3
def dkwJ36_split_1 : List UInt8 := [58, 12, 25, 12, 198, 0, 104, 25, 12, 180, 0, 22, 192, 0, 10, 58, 13, 25, 12, 1, 181, 0, 22]
abbrev dktJ36_split_1 : List UInt8 := dkwJ36_split_1 ++ dktJ36_split_2
def dkwJ36_split_0 : List UInt8 := [42, 58, 5, 1, 58, 6, 1, 58, 7, 1, 58, 8, 1, 58, 9, 3, 54, 10, 3, 54, 11, 25, 5]
abbrev dktJ36_split_0 : List UInt8 := dkwJ36_split_0 ++ dktJ36_split_1
theorem dksJ36_split_0 : cJ36_split.data.toList.drop 0 = dktJ36_split_0 := by decide +kernel
theorem dksJ36_split_1 : cJ36_split.data.toList.drop 23 = dktJ36_split_1 := dk_seg dksJ36_split_0 23 rfl rfl
theorem dksJ36_split_2 : cJ36_split.data.toList.drop 46 = dktJ36_split_2 := dk_seg dksJ36_split_1 23 rfl rfl
theorem dksJ36_split_3 : cJ36_split.data.toList.drop 70 = dktJ36_split_3 := dk_seg dksJ36_split_2 24 rfl rfl
theorem dksJ36_split_4 : cJ36_split.data.toList.drop 94 = dktJ36_split_4 := dk_seg dksJ36_split_3 24 rfl rfl
theorem dksJ36_split_5 : cJ36_split.data.toList.drop 117 = dktJ36_split_5 := dk_seg dksJ36_split_4 23 rfl rfl
theorem dksJ36_split_6 : cJ36_split.data.toList.drop 140 = dktJ36_split_6 := dk_seg dksJ36_split_5 23 rfl rfl
theorem dksJ36_split_7 : cJ36_split.data.toList.drop 162 = dktJ36_split_7 := dk_seg dksJ36_split_6 22 rfl rfl
theorem dksJ36_split_8 : cJ36_split.data.toList.drop 185 = dktJ36_split_8 := dk_seg dksJ36_split_7 23 rfl rfl
theorem dksJ36_split_9 : cJ36_split.data.toList.drop 208 = dktJ36_split_9 := dk_seg dksJ36_split_8 23 rfl rfl
theorem dJ36_split_0 : decode cJ36_split 0 = .ok (.aload_n 0, 1) := dk_42 (dk_at dksJ36_split_0 0 rfl rfl)
theorem dJ36_split_1 : decode cJ36_split 1 = .ok (.astore 5, 2) := dk_58 5 (dk_at dksJ36_split_0 1 rfl rfl)
theorem dJ36_split_3 : decode cJ36_split 3 = .ok (.aconst_null, 1) := dk_1 (dk_at dksJ36_split_0 3 rfl rfl)
theorem dJ36_split_4 : decode cJ36_split 4 = .ok (.astore 6, 2) := dk_58 6 (dk_at dksJ36_split_0 4 rfl rfl)
theorem dJ36_split_6 : decode cJ36_split 6 = .ok (.aconst_null, 1) := dk_1 (dk_at dksJ36_split_0 6 rfl rfl)
theorem dJ36_split_7 : decode cJ36_split 7 = .ok (.astore 7, 2) := dk_58 7 (dk_at dksJ36_split_0 7 rfl rfl)
theorem dJ36_split_9 : decode cJ36_split 9 = .ok (.aconst_null, 1) := dk_1 (dk_at dksJ36_split_0 9 rfl rfl)
theorem dJ36_split_10 : decode cJ36_split 10 = .ok (.astore 8, 2) := dk_58 8 (dk_at dksJ36_split_0 10 rfl rfl)
theorem dJ36_split_12 : decode cJ36_split 12 = .ok (.aconst_null, 1) := dk_1 (dk_at dksJ36_split_0 12 rfl rfl)
theorem dJ36_split_13 : decode cJ36_split 13 = .ok (.astore 9, 2) := dk_58 9 (dk_at dksJ36_split_0 13 rfl rfl)
theorem dJ36_split_15 : decode cJ36_split 15 = .ok (.iconst 0, 1) := dk_3 (dk_at dksJ36_split_0 15 rfl rfl)
theorem dJ36_split_16 : decode cJ36_split 16 = .ok (.istore 10, 2) := dk_54 10 (dk_at dksJ36_split_0 16 rfl rfl)
theorem dJ36_split_18 : decode cJ36_split 18 = .ok (.iconst 0, 1) := dk_3 (dk_at dksJ36_split_0 18 rfl rfl)
theorem dJ36_split_19 : decode cJ36_split 19 = .ok (.istore 11, 2) := dk_54 11 (dk_at dksJ36_split_0 19 rfl rfl)
theorem dJ36_split_21 : decode cJ36_split 21 = .ok (.aload 5, 2) := dk_25 5 (dk_at dksJ36_split_0 21 rfl rfl)
theorem dJ36_split_23 : decode cJ36_split 23 = .ok (.astore 12, 2) := dk_58 12 (dk_at dksJ36_split_1 0 rfl rfl)
theorem dJ36_split_25 : decode cJ36_split 25 = .ok (.aload 12, 2) := dk_25 12 (dk_at dksJ36_split_1 2 rfl rfl)
theorem dJ36_split_27 : decode cJ36_split 27 = .ok (.ifnull 104, 3) := dk_198 0 104 (dk_at dksJ36_split_1 4 rfl rfl)
theorem dJ36_split_30 : decode cJ36_split 30 = .ok (.aload 12, 2) := dk_25 12 (dk_at dksJ36_split_1 7 rfl rfl)
theorem dJ36_split_32 : decode cJ36_split 32 = .ok (.getfield 22, 3) := dk_180 0 22 (dk_at dksJ36_split_1 9 rfl rfl)
theorem dJ36_split_35 : decode cJ36_split 35 = .ok (.checkcast 10, 3) := dk_192 0 10 (dk_at dksJ36_split_1 12 rfl rfl)
theorem dJ36_split_38 : decode cJ36_split 38 = .ok (.astore 13, 2) := dk_58 13 (dk_at dksJ36_split_1 15 rfl rfl)
theorem dJ36_split_40 : decode cJ36_split 40 = .ok (.aload 12, 2) := dk_25 12 (dk_at dksJ36_split_1 17 rfl rfl)
theorem dJ36_split_42 : decode cJ36_split 42 = .ok (.aconst_null, 1) := dk_1 (dk_at dksJ36_split_1 19 rfl rfl)
theorem dJ36_split_43 : decode cJ36_split 43 = .ok (.putfield 22, 3) := dk_181 0 22 (dk_at dksJ36_split_1 20 rfl rfl)
theorem dJ36_split_46 : decode cJ36_split 46 = .ok (.aload 12, 2) := dk_25 12 (dk_at dksJ36_split_2 0 rfl rfl)
theorem dJ36_split_48 : decode cJ36_split 48 = .ok (.getfield 15, 3) := dk_180 0 15 (dk_at dksJ36_split_2 2 rfl rfl)
theorem dJ36_split_51 : decode cJ36_split 51 = .ok (.iload 4, 2) := dk_21 4 (dk_at dksJ36_split_2 5 rfl rfl)
theorem dJ36_split_53 : decode cJ36_split 53 = .ok (.iand, 1) := dk_126 (dk_at dksJ36_split_2 7 rfl rfl)
theorem dJ36_split_54 : decode cJ36_split 54 = .ok (.ifCond .ne 38, 3) := dk_154 0 38 (dk_at dksJ36_split_2 8 rfl rfl)
theorem dJ36_split_57 : decode cJ36_split 57 = .ok (.aload 12, 2) := dk_25 12 (dk_at dksJ36_split_2 11 rfl rfl)
theorem dJ36_split_59 : decode cJ36_split 59 = .ok (.aload 7, 2) := dk_25 7 (dk_at dksJ36_split_2 13 rfl rfl)
theorem dJ36_split_61 : decode cJ36_split 61 = .ok (.dup_x1, 1) := dk_90 (dk_at dksJ36_split_2 15 rfl rfl)
theorem dJ36_split_62 : decode cJ36_split 62 = .ok (.putfield 19, 3) := dk_181 0 19 (dk_at dksJ36_split_2 16 rfl rfl)
theorem dJ36_split_65 : decode cJ36_split 65 = .ok (.ifnonnull 10, 3) := dk_199 0 10 (dk_at dksJ36_split_2 19 rfl rfl)
theorem dJ36_split_68 : decode cJ36_split 68 = .ok (.aload 12, 2) := dk_25 12 (dk_at dksJ36_split_2 22 rfl rfl)
theorem dJ36_split_70 : decode cJ36_split 70 = .ok (.astore 6, 2) := dk_58 6 (dk_at dksJ36_split_3 0 rfl rfl)
theorem dJ36_split_72 : decode cJ36_split 72 = .ok (.goto 10, 3) := dk_167 0 10 (dk_at dksJ36_split_3 2 rfl rfl)
theorem dJ36_split_75 : decode cJ36_split 75 = .ok (.aload 7, 2) := dk_25 7 (dk_at dksJ36_split_3 5 rfl rfl)
theorem dJ36_split_77 : decode cJ36_split 77 = .ok (.aload 12, 2) := dk_25 12 (dk_at dksJ36_split_3 7 rfl rfl)
theorem dJ36_split_79 : decode cJ36_split 79 = .ok (.putfield 22, 3) := dk_181 0 22 (dk_at dksJ36_split_3 9 rfl rfl)
theorem dJ36_split_82 : decode cJ36_split 82 = .ok (.aload 12, 2) := dk_25 12 (dk_at dksJ36_split_3 12 rfl rfl)
theorem dJ36_split_84 : decode cJ36_split 84 = .ok (.astore 7, 2) := dk_58 7 (dk_at dksJ36_split_3 14 rfl rfl)
theorem dJ36_split_86 : decode cJ36_split 86 = .ok (.iinc 10 1, 3) := dk_132 10 1 (dk_at dksJ36_split_3 16 rfl rfl)
theorem dJ36_split_89 : decode cJ36_split 89 = .ok (.goto 35, 3) := dk_167 0 35 (dk_at dksJ36_split_3 19 rfl rfl)
theorem dJ36_split_92 : decode cJ36_split 92 = .ok (.aload 12, 2) := dk_25 12 (dk_at dksJ36_split_3 22 rfl rfl)
theorem dJ36_split_94 : decode cJ36_split 94 = .ok (.aload 9, 2) := dk_25 9 (dk_at dksJ36_split_4 0 rfl rfl)
theorem dJ36_split_96 : decode cJ36_split 96 = .ok (.dup_x1, 1) := dk_90 (dk_at dksJ36_split_4 2 rfl rfl)
theorem dJ36_split_97 : decode cJ36_split 97 = .ok (.putfield 19, 3) := dk_181 0 19 (dk_at dksJ36_split_4 3 rfl rfl)
theorem dJ36_split_100 : decode cJ36_split 100 = .ok (.ifnonnull 10, 3) := dk_199 0 10 (dk_at dksJ36_split_4 6 rfl rfl)
theorem dJ36_split_103 : decode cJ36_split 103 = .ok (.aload 12, 2) := dk_25 12 (dk_at dksJ36_split_4 9 rfl rfl)
theorem dJ36_split_105 : decode cJ36_split 105 = .ok (.astore 8, 2) := dk_58 8 (dk_at dksJ36_split_4 11 rfl rfl)
theorem dJ36_split_107 : decode cJ36_split 107 = .ok (.goto 10, 3) := dk_167 0 10 (dk_at dksJ36_split_4 13 rfl rfl)
theorem dJ36_split_110 : decode cJ36_split 110 = .ok (.aload 9, 2) := dk_25 9 (dk_at dksJ36_split_4 16 rfl rfl)
theorem dJ36_split_112 : decode cJ36_split 112 = .ok (.aload 12, 2) := dk_25 12 (dk_at dksJ36_split_4 18 rfl rfl)
theorem dJ36_split_114 : decode cJ36_split 114 = .ok (.putfield 22, 3) := dk_181 0 22 (dk_at dksJ36_split_4 20 rfl rfl)
theorem dJ36_split_117 : decode cJ36_split 117 = .ok (.aload 12, 2) := dk_25 12 (dk_at dksJ36_split_5 0 rfl rfl)
theorem dJ36_split_119 : decode cJ36_split 119 = .ok (.astore 9, 2) := dk_58 9 (dk_at dksJ36_split_5 2 rfl rfl)
theorem dJ36_split_121 : decode cJ36_split 121 = .ok (.iinc 11 1, 3) := dk_132 11 1 (dk_at dksJ36_split_5 4 rfl rfl)
theorem dJ36_split_124 : decode cJ36_split 124 = .ok (.aload 13, 2) := dk_25 13 (dk_at dksJ36_split_5 7 rfl rfl)
theorem dJ36_split_126 : decode cJ36_split 126 = .ok (.astore 12, 2) := dk_58 12 (dk_at dksJ36_split_5 9 rfl rfl)
theorem dJ36_split_128 : decode cJ36_split 128 = .ok (.goto (-103), 3) := dk_167 255 153 (dk_at dksJ36_split_5 11 rfl rfl)
theorem dJ36_split_131 : decode cJ36_split 131 = .ok (.aload 6, 2) := dk_25 6 (dk_at dksJ36_split_5 14 rfl rfl)
theorem dJ36_split_133 : decode cJ36_split 133 = .ok (.ifnull 38, 3) := dk_198 0 38 (dk_at dksJ36_split_5 16 rfl rfl)
theorem dJ36_split_136 : decode cJ36_split 136 = .ok (.iload 10, 2) := dk_21 10 (dk_at dksJ36_split_5 19 rfl rfl)
theorem dJ36_split_138 : decode cJ36_split 138 = .ok (.bipush 6, 2) := dk_16 6 (dk_at dksJ36_split_5 21 rfl rfl)
theorem dJ36_split_140 : decode cJ36_split 140 = .ok (.if_icmp .gt 15, 3) := dk_163 0 15 (dk_at dksJ36_split_6 0 rfl rfl)
theorem dJ36_split_143 : decode cJ36_split 143 = .ok (.aload_n 2, 1) := dk_44 (dk_at dksJ36_split_6 3 rfl rfl)
theorem dJ36_split_144 : decode cJ36_split 144 = .ok (.iload_n 3, 1) := dk_29 (dk_at dksJ36_split_6 4 rfl rfl)
theorem dJ36_split_145 : decode cJ36_split 145 = .ok (.aload 6, 2) := dk_25 6 (dk_at dksJ36_split_6 5 rfl rfl)
theorem dJ36_split_147 : decode cJ36_split 147 = .ok (.aload_n 1, 1) := dk_43 (dk_at dksJ36_split_6 7 rfl rfl)
theorem dJ36_split_148 : decode cJ36_split 148 = .ok (.invokevirtual 119, 3) := dk_182 0 119 (dk_at dksJ36_split_6 8 rfl rfl)
theorem dJ36_split_151 : decode cJ36_split 151 = .ok (.aastore, 1) := dk_83 (dk_at dksJ36_split_6 11 rfl rfl)
theorem dJ36_split_152 : decode cJ36_split 152 = .ok (.goto 19, 3) := dk_167 0 19 (dk_at dksJ36_split_6 12 rfl rfl)
theorem dJ36_split_155 : decode cJ36_split 155 = .ok (.aload_n 2, 1) := dk_44 (dk_at dksJ36_split_6 15 rfl rfl)
theorem dJ36_split_156 : decode cJ36_split 156 = .ok (.iload_n 3, 1) := dk_29 (dk_at dksJ36_split_6 16 rfl rfl)
theorem dJ36_split_157 : decode cJ36_split 157 = .ok (.aload 6, 2) := dk_25 6 (dk_at dksJ36_split_6 17 rfl rfl)
theorem dJ36_split_159 : decode cJ36_split 159 = .ok (.aastore, 1) := dk_83 (dk_at dksJ36_split_6 19 rfl rfl)
theorem dJ36_split_160 : decode cJ36_split 160 = .ok (.aload 8, 2) := dk_25 8 (dk_at dksJ36_split_6 20 rfl rfl)
theorem dJ36_split_162 : decode cJ36_split 162 = .ok (.ifnull 9, 3) := dk_198 0 9 (dk_at dksJ36_split_7 0 rfl rfl)
theorem dJ36_split_165 : decode cJ36_split 165 = .ok (.aload 6, 2) := dk_25 6 (dk_at dksJ36_split_7 3 rfl rfl)
theorem dJ36_split_167 : decode cJ36_split 167 = .ok (.aload_n 2, 1) := dk_44 (dk_at dksJ36_split_7 5 rfl rfl)
theorem dJ36_split_168 : decode cJ36_split 168 = .ok (.invokevirtual 126, 3) := dk_182 0 126 (dk_at dksJ36_split_7 6 rfl rfl)
theorem dJ36_split_171 : decode cJ36_split 171 = .ok (.aload 8, 2) := dk_25 8 (dk_at dksJ36_split_7 9 rfl rfl)
theorem dJ36_split_173 : decode cJ36_split 173 = .ok (.ifnull 44, 3) := dk_198 0 44 (dk_at dksJ36_split_7 11 rfl rfl)
theorem dJ36_split_176 : decode cJ36_split 176 = .ok (.iload 11, 2) := dk_21 11 (dk_at dksJ36_split_7 14 rfl rfl)
theorem dJ36_split_178 : decode cJ36_split 178 = .ok (.bipush 6, 2) := dk_16 6 (dk_at dksJ36_split_7 16 rfl rfl)
theorem dJ36_split_180 : decode cJ36_split 180 = .ok (.if_icmp .gt 18, 3) := dk_163 0 18 (dk_at dksJ36_split_7 18 rfl rfl)
theorem dJ36_split_183 : decode cJ36_split 183 = .ok (.aload_n 2, 1) := dk_44 (dk_at dksJ36_split_7 21 rfl rfl)
theorem dJ36_split_184 : decode cJ36_split 184 = .ok (.iload_n 3, 1) := dk_29 (dk_at dksJ36_split_7 22 rfl rfl)
theorem dJ36_split_185 : decode cJ36_split 185 = .ok (.iload 4, 2) := dk_21 4 (dk_at dksJ36_split_8 0 rfl rfl)
theorem dJ36_split_187 : decode cJ36_split 187 = .ok (.iadd, 1) := dk_96 (dk_at dksJ36_split_8 2 rfl rfl)
theorem dJ36_split_188 : decode cJ36_split 188 = .ok (.aload 8, 2) := dk_25 8 (dk_at dksJ36_split_8 3 rfl rfl)
theorem dJ36_split_190 : decode cJ36_split 190 = .ok (.aload_n 1, 1) := dk_43 (dk_at dksJ36_split_8 5 rfl rfl)
theorem dJ36_split_191 : decode cJ36_split 191 = .ok (.invokevirtual 119, 3) := dk_182 0 119 (dk_at dksJ36_split_8 6 rfl rfl)
theorem dJ36_split_194 : decode cJ36_split 194 = .ok (.aastore, 1) := dk_83 (dk_at dksJ36_split_8 9 rfl rfl)
theorem dJ36_split_195 : decode cJ36_split 195 = .ok (.goto 22, 3) := dk_167 0 22 (dk_at dksJ36_split_8 10 rfl rfl)
theorem dJ36_split_198 : decode cJ36_split 198 = .ok (.aload_n 2, 1) := dk_44 (dk_at dksJ36_split_8 13 rfl rfl)
theorem dJ36_split_199 : decode cJ36_split 199 = .ok (.iload_n 3, 1) := dk_29 (dk_at dksJ36_split_8 14 rfl rfl)
theorem dJ36_split_200 : decode cJ36_split 200 = .ok (.iload 4, 2) := dk_21 4 (dk_at dksJ36_split_8 15 rfl rfl)
theorem dJ36_split_202 : decode cJ36_split 202 = .ok (.iadd, 1) := dk_96 (dk_at dksJ36_split_8 17 rfl rfl)
theorem dJ36_split_203 : decode cJ36_split 203 = .ok (.aload 8, 2) := dk_25 8 (dk_at dksJ36_split_8 18 rfl rfl)
theorem dJ36_split_205 : decode cJ36_split 205 = .ok (.aastore, 1) := dk_83 (dk_at dksJ36_split_8 20 rfl rfl)
theorem dJ36_split_206 : decode cJ36_split 206 = .ok (.aload 6, 2) := dk_25 6 (dk_at dksJ36_split_8 21 rfl rfl)
theorem dJ36_split_208 : decode cJ36_split 208 = .ok (.ifnull 9, 3) := dk_198 0 9 (dk_at dksJ36_split_9 0 rfl rfl)
theorem dJ36_split_211 : decode cJ36_split 211 = .ok (.aload 8, 2) := dk_25 8 (dk_at dksJ36_split_9 3 rfl rfl)
theorem dJ36_split_213 : decode cJ36_split 213 = .ok (.aload_n 2, 1) := dk_44 (dk_at dksJ36_split_9 5 rfl rfl)
theorem dJ36_split_214 : decode cJ36_split 214 = .ok (.invokevirtual 126, 3) := dk_182 0 126 (dk_at dksJ36_split_9 6 rfl rfl)
theorem dJ36_split_217 : decode cJ36_split 217 = .ok (.return_, 1) := dk_177 (dk_at dksJ36_split_9 9 rfl rfl)
abbrev cJ36_untreeify : ByteArray := prog_63_method_8_code
def yJ36_untreeify : MethodName := ⟨RJ36, "untreeify", "(Ljava/util/HashMap;)Ljava/util/HashMap$Node;"⟩
def dkwJ36_untreeify_2 : List UInt8 := [58, 4, 167, 255, 216, 44, 176]
abbrev dktJ36_untreeify_2 : List UInt8 := dkwJ36_untreeify_2 ++ []
def dkwJ36_untreeify_1 : List UInt8 := [199, 0, 9, 25, 5, 77, 167, 0, 9, 45, 25, 5, 181, 0, 112, 25, 5, 78, 25, 4, 180, 0, 112]
abbrev dktJ36_untreeify_1 : List UInt8 := dkwJ36_untreeify_1 ++ dktJ36_untreeify_2
def dkwJ36_untreeify_0 : List UInt8 := [1, 77, 1, 78, 42, 58, 4, 25, 4, 198, 0, 41, 43, 25, 4, 1, 182, 0, 108, 58, 5, 45]
abbrev dktJ36_untreeify_0 : List UInt8 := dkwJ36_untreeify_0 ++ dktJ36_untreeify_1
theorem dksJ36_untreeify_0 : cJ36_untreeify.data.toList.drop 0 = dktJ36_untreeify_0 := by decide +kernel
theorem dksJ36_untreeify_1 : cJ36_untreeify.data.toList.drop 22 = dktJ36_untreeify_1 := dk_seg dksJ36_untreeify_0 22 rfl rfl
theorem dksJ36_untreeify_2 : cJ36_untreeify.data.toList.drop 45 = dktJ36_untreeify_2 := dk_seg dksJ36_untreeify_1 23 rfl rfl
theorem dJ36_untreeify_0 : decode cJ36_untreeify 0 = .ok (.aconst_null, 1) := dk_1 (dk_at dksJ36_untreeify_0 0 rfl rfl)
theorem dJ36_untreeify_1 : decode cJ36_untreeify 1 = .ok (.astore_n 2, 1) := dk_77 (dk_at dksJ36_untreeify_0 1 rfl rfl)
theorem dJ36_untreeify_2 : decode cJ36_untreeify 2 = .ok (.aconst_null, 1) := dk_1 (dk_at dksJ36_untreeify_0 2 rfl rfl)
theorem dJ36_untreeify_3 : decode cJ36_untreeify 3 = .ok (.astore_n 3, 1) := dk_78 (dk_at dksJ36_untreeify_0 3 rfl rfl)
theorem dJ36_untreeify_4 : decode cJ36_untreeify 4 = .ok (.aload_n 0, 1) := dk_42 (dk_at dksJ36_untreeify_0 4 rfl rfl)
theorem dJ36_untreeify_5 : decode cJ36_untreeify 5 = .ok (.astore 4, 2) := dk_58 4 (dk_at dksJ36_untreeify_0 5 rfl rfl)
theorem dJ36_untreeify_7 : decode cJ36_untreeify 7 = .ok (.aload 4, 2) := dk_25 4 (dk_at dksJ36_untreeify_0 7 rfl rfl)
theorem dJ36_untreeify_9 : decode cJ36_untreeify 9 = .ok (.ifnull 41, 3) := dk_198 0 41 (dk_at dksJ36_untreeify_0 9 rfl rfl)
theorem dJ36_untreeify_12 : decode cJ36_untreeify 12 = .ok (.aload_n 1, 1) := dk_43 (dk_at dksJ36_untreeify_0 12 rfl rfl)
theorem dJ36_untreeify_13 : decode cJ36_untreeify 13 = .ok (.aload 4, 2) := dk_25 4 (dk_at dksJ36_untreeify_0 13 rfl rfl)
theorem dJ36_untreeify_15 : decode cJ36_untreeify 15 = .ok (.aconst_null, 1) := dk_1 (dk_at dksJ36_untreeify_0 15 rfl rfl)
theorem dJ36_untreeify_16 : decode cJ36_untreeify 16 = .ok (.invokevirtual 108, 3) := dk_182 0 108 (dk_at dksJ36_untreeify_0 16 rfl rfl)
theorem dJ36_untreeify_19 : decode cJ36_untreeify 19 = .ok (.astore 5, 2) := dk_58 5 (dk_at dksJ36_untreeify_0 19 rfl rfl)
theorem dJ36_untreeify_21 : decode cJ36_untreeify 21 = .ok (.aload_n 3, 1) := dk_45 (dk_at dksJ36_untreeify_0 21 rfl rfl)
theorem dJ36_untreeify_22 : decode cJ36_untreeify 22 = .ok (.ifnonnull 9, 3) := dk_199 0 9 (dk_at dksJ36_untreeify_1 0 rfl rfl)
theorem dJ36_untreeify_25 : decode cJ36_untreeify 25 = .ok (.aload 5, 2) := dk_25 5 (dk_at dksJ36_untreeify_1 3 rfl rfl)
theorem dJ36_untreeify_27 : decode cJ36_untreeify 27 = .ok (.astore_n 2, 1) := dk_77 (dk_at dksJ36_untreeify_1 5 rfl rfl)
theorem dJ36_untreeify_28 : decode cJ36_untreeify 28 = .ok (.goto 9, 3) := dk_167 0 9 (dk_at dksJ36_untreeify_1 6 rfl rfl)
theorem dJ36_untreeify_31 : decode cJ36_untreeify 31 = .ok (.aload_n 3, 1) := dk_45 (dk_at dksJ36_untreeify_1 9 rfl rfl)
theorem dJ36_untreeify_32 : decode cJ36_untreeify 32 = .ok (.aload 5, 2) := dk_25 5 (dk_at dksJ36_untreeify_1 10 rfl rfl)
theorem dJ36_untreeify_34 : decode cJ36_untreeify 34 = .ok (.putfield 112, 3) := dk_181 0 112 (dk_at dksJ36_untreeify_1 12 rfl rfl)
theorem dJ36_untreeify_37 : decode cJ36_untreeify 37 = .ok (.aload 5, 2) := dk_25 5 (dk_at dksJ36_untreeify_1 15 rfl rfl)
theorem dJ36_untreeify_39 : decode cJ36_untreeify 39 = .ok (.astore_n 3, 1) := dk_78 (dk_at dksJ36_untreeify_1 17 rfl rfl)
theorem dJ36_untreeify_40 : decode cJ36_untreeify 40 = .ok (.aload 4, 2) := dk_25 4 (dk_at dksJ36_untreeify_1 18 rfl rfl)
theorem dJ36_untreeify_42 : decode cJ36_untreeify 42 = .ok (.getfield 112, 3) := dk_180 0 112 (dk_at dksJ36_untreeify_1 20 rfl rfl)
theorem dJ36_untreeify_45 : decode cJ36_untreeify 45 = .ok (.astore 4, 2) := dk_58 4 (dk_at dksJ36_untreeify_2 0 rfl rfl)
theorem dJ36_untreeify_47 : decode cJ36_untreeify 47 = .ok (.goto (-40), 3) := dk_167 255 216 (dk_at dksJ36_untreeify_2 2 rfl rfl)
theorem dJ36_untreeify_50 : decode cJ36_untreeify 50 = .ok (.aload_n 2, 1) := dk_44 (dk_at dksJ36_untreeify_2 5 rfl rfl)
theorem dJ36_untreeify_51 : decode cJ36_untreeify 51 = .ok (.areturn, 1) := dk_176 (dk_at dksJ36_untreeify_2 6 rfl rfl)
abbrev cJ36_treeify : ByteArray := prog_63_method_7_code
def yJ36_treeify : MethodName := ⟨RJ36, "treeify", "([Ljava/util/HashMap$Node;)V"⟩
def dkwJ36_treeify_9 : List UInt8 := [25, 4, 78, 167, 255, 48, 43, 44, 184, 0, 104, 177]
abbrev dktJ36_treeify_9 : List UInt8 := dkwJ36_treeify_9 ++ []
def dkwJ36_treeify_8 : List UInt8 := [181, 0, 39, 167, 0, 9, 25, 12, 45, 181, 0, 42, 44, 45, 184, 0, 100, 77, 167, 0, 6, 167, 255, 114]
abbrev dktJ36_treeify_8 : List UInt8 := dkwJ36_treeify_8 ++ dktJ36_treeify_9
def dkwJ36_treeify_7 : List UInt8 := [180, 0, 42, 89, 58, 8, 199, 0, 38, 45, 25, 12, 181, 0, 9, 21, 9, 157, 0, 12, 25, 12, 45]
abbrev dktJ36_treeify_7 : List UInt8 := dkwJ36_treeify_7 ++ dktJ36_treeify_8
def dkwJ36_treeify_6 : List UInt8 := [184, 0, 96, 54, 9, 25, 8, 58, 12, 21, 9, 157, 0, 11, 25, 8, 180, 0, 39, 167, 0, 8, 25, 8]
abbrev dktJ36_treeify_6 : List UInt8 := dkwJ36_treeify_6 ++ dktJ36_treeify_7
def dkwJ36_treeify_5 : List UInt8 := [198, 0, 18, 25, 7, 25, 5, 25, 11, 184, 0, 59, 89, 54, 9, 154, 0, 12, 25, 5, 25, 11]
abbrev dktJ36_treeify_5 : List UInt8 := dkwJ36_treeify_5 ++ dktJ36_treeify_6
def dkwJ36_treeify_4 : List UInt8 := [162, 0, 9, 4, 54, 9, 167, 0, 43, 25, 7, 199, 0, 14, 25, 5, 184, 0, 55, 89, 58, 7]
abbrev dktJ36_treeify_4 : List UInt8 := dkwJ36_treeify_4 ++ dktJ36_treeify_5
def dkwJ36_treeify_3 : List UInt8 := [25, 8, 180, 0, 15, 89, 54, 10, 21, 6, 164, 0, 9, 2, 54, 9, 167, 0, 56, 21, 10, 21, 6]
abbrev dktJ36_treeify_3 : List UInt8 := dkwJ36_treeify_3 ++ dktJ36_treeify_4
def dkwJ36_treeify_2 : List UInt8 := [180, 0, 45, 58, 5, 45, 180, 0, 15, 54, 6, 1, 58, 7, 44, 58, 8, 25, 8, 180, 0, 45, 58, 11]
abbrev dktJ36_treeify_2 : List UInt8 := dkwJ36_treeify_2 ++ dktJ36_treeify_3
def dkwJ36_treeify_1 : List UInt8 := [181, 0, 39, 44, 199, 0, 18, 45, 1, 181, 0, 9, 45, 3, 181, 0, 93, 45, 77, 167, 0, 166, 45]
abbrev dktJ36_treeify_1 : List UInt8 := dkwJ36_treeify_1 ++ dktJ36_treeify_2
def dkwJ36_treeify_0 : List UInt8 := [1, 77, 42, 78, 45, 198, 0, 210, 45, 180, 0, 22, 192, 0, 10, 58, 4, 45, 45, 1, 90, 181, 0, 42]
abbrev dktJ36_treeify_0 : List UInt8 := dkwJ36_treeify_0 ++ dktJ36_treeify_1
theorem dksJ36_treeify_0 : cJ36_treeify.data.toList.drop 0 = dktJ36_treeify_0 := by decide +kernel
theorem dksJ36_treeify_1 : cJ36_treeify.data.toList.drop 24 = dktJ36_treeify_1 := dk_seg dksJ36_treeify_0 24 rfl rfl
theorem dksJ36_treeify_2 : cJ36_treeify.data.toList.drop 47 = dktJ36_treeify_2 := dk_seg dksJ36_treeify_1 23 rfl rfl
theorem dksJ36_treeify_3 : cJ36_treeify.data.toList.drop 71 = dktJ36_treeify_3 := dk_seg dksJ36_treeify_2 24 rfl rfl
theorem dksJ36_treeify_4 : cJ36_treeify.data.toList.drop 94 = dktJ36_treeify_4 := dk_seg dksJ36_treeify_3 23 rfl rfl
theorem dksJ36_treeify_5 : cJ36_treeify.data.toList.drop 116 = dktJ36_treeify_5 := dk_seg dksJ36_treeify_4 22 rfl rfl
theorem dksJ36_treeify_6 : cJ36_treeify.data.toList.drop 138 = dktJ36_treeify_6 := dk_seg dksJ36_treeify_5 22 rfl rfl
theorem dksJ36_treeify_7 : cJ36_treeify.data.toList.drop 162 = dktJ36_treeify_7 := dk_seg dksJ36_treeify_6 24 rfl rfl
theorem dksJ36_treeify_8 : cJ36_treeify.data.toList.drop 185 = dktJ36_treeify_8 := dk_seg dksJ36_treeify_7 23 rfl rfl
theorem dksJ36_treeify_9 : cJ36_treeify.data.toList.drop 209 = dktJ36_treeify_9 := dk_seg dksJ36_treeify_8 24 rfl rfl
theorem dJ36_treeify_0 : decode cJ36_treeify 0 = .ok (.aconst_null, 1) := dk_1 (dk_at dksJ36_treeify_0 0 rfl rfl)
theorem dJ36_treeify_1 : decode cJ36_treeify 1 = .ok (.astore_n 2, 1) := dk_77 (dk_at dksJ36_treeify_0 1 rfl rfl)
theorem dJ36_treeify_2 : decode cJ36_treeify 2 = .ok (.aload_n 0, 1) := dk_42 (dk_at dksJ36_treeify_0 2 rfl rfl)
theorem dJ36_treeify_3 : decode cJ36_treeify 3 = .ok (.astore_n 3, 1) := dk_78 (dk_at dksJ36_treeify_0 3 rfl rfl)
theorem dJ36_treeify_4 : decode cJ36_treeify 4 = .ok (.aload_n 3, 1) := dk_45 (dk_at dksJ36_treeify_0 4 rfl rfl)
theorem dJ36_treeify_5 : decode cJ36_treeify 5 = .ok (.ifnull 210, 3) := dk_198 0 210 (dk_at dksJ36_treeify_0 5 rfl rfl)
theorem dJ36_treeify_8 : decode cJ36_treeify 8 = .ok (.aload_n 3, 1) := dk_45 (dk_at dksJ36_treeify_0 8 rfl rfl)
theorem dJ36_treeify_9 : decode cJ36_treeify 9 = .ok (.getfield 22, 3) := dk_180 0 22 (dk_at dksJ36_treeify_0 9 rfl rfl)
theorem dJ36_treeify_12 : decode cJ36_treeify 12 = .ok (.checkcast 10, 3) := dk_192 0 10 (dk_at dksJ36_treeify_0 12 rfl rfl)
theorem dJ36_treeify_15 : decode cJ36_treeify 15 = .ok (.astore 4, 2) := dk_58 4 (dk_at dksJ36_treeify_0 15 rfl rfl)
theorem dJ36_treeify_17 : decode cJ36_treeify 17 = .ok (.aload_n 3, 1) := dk_45 (dk_at dksJ36_treeify_0 17 rfl rfl)
theorem dJ36_treeify_18 : decode cJ36_treeify 18 = .ok (.aload_n 3, 1) := dk_45 (dk_at dksJ36_treeify_0 18 rfl rfl)
theorem dJ36_treeify_19 : decode cJ36_treeify 19 = .ok (.aconst_null, 1) := dk_1 (dk_at dksJ36_treeify_0 19 rfl rfl)
theorem dJ36_treeify_20 : decode cJ36_treeify 20 = .ok (.dup_x1, 1) := dk_90 (dk_at dksJ36_treeify_0 20 rfl rfl)
theorem dJ36_treeify_21 : decode cJ36_treeify 21 = .ok (.putfield 42, 3) := dk_181 0 42 (dk_at dksJ36_treeify_0 21 rfl rfl)
theorem dJ36_treeify_24 : decode cJ36_treeify 24 = .ok (.putfield 39, 3) := dk_181 0 39 (dk_at dksJ36_treeify_1 0 rfl rfl)
theorem dJ36_treeify_27 : decode cJ36_treeify 27 = .ok (.aload_n 2, 1) := dk_44 (dk_at dksJ36_treeify_1 3 rfl rfl)
theorem dJ36_treeify_28 : decode cJ36_treeify 28 = .ok (.ifnonnull 18, 3) := dk_199 0 18 (dk_at dksJ36_treeify_1 4 rfl rfl)
theorem dJ36_treeify_31 : decode cJ36_treeify 31 = .ok (.aload_n 3, 1) := dk_45 (dk_at dksJ36_treeify_1 7 rfl rfl)
theorem dJ36_treeify_32 : decode cJ36_treeify 32 = .ok (.aconst_null, 1) := dk_1 (dk_at dksJ36_treeify_1 8 rfl rfl)
theorem dJ36_treeify_33 : decode cJ36_treeify 33 = .ok (.putfield 9, 3) := dk_181 0 9 (dk_at dksJ36_treeify_1 9 rfl rfl)
theorem dJ36_treeify_36 : decode cJ36_treeify 36 = .ok (.aload_n 3, 1) := dk_45 (dk_at dksJ36_treeify_1 12 rfl rfl)
theorem dJ36_treeify_37 : decode cJ36_treeify 37 = .ok (.iconst 0, 1) := dk_3 (dk_at dksJ36_treeify_1 13 rfl rfl)
theorem dJ36_treeify_38 : decode cJ36_treeify 38 = .ok (.putfield 93, 3) := dk_181 0 93 (dk_at dksJ36_treeify_1 14 rfl rfl)
theorem dJ36_treeify_41 : decode cJ36_treeify 41 = .ok (.aload_n 3, 1) := dk_45 (dk_at dksJ36_treeify_1 17 rfl rfl)
theorem dJ36_treeify_42 : decode cJ36_treeify 42 = .ok (.astore_n 2, 1) := dk_77 (dk_at dksJ36_treeify_1 18 rfl rfl)
theorem dJ36_treeify_43 : decode cJ36_treeify 43 = .ok (.goto 166, 3) := dk_167 0 166 (dk_at dksJ36_treeify_1 19 rfl rfl)
theorem dJ36_treeify_46 : decode cJ36_treeify 46 = .ok (.aload_n 3, 1) := dk_45 (dk_at dksJ36_treeify_1 22 rfl rfl)
theorem dJ36_treeify_47 : decode cJ36_treeify 47 = .ok (.getfield 45, 3) := dk_180 0 45 (dk_at dksJ36_treeify_2 0 rfl rfl)
theorem dJ36_treeify_50 : decode cJ36_treeify 50 = .ok (.astore 5, 2) := dk_58 5 (dk_at dksJ36_treeify_2 3 rfl rfl)
theorem dJ36_treeify_52 : decode cJ36_treeify 52 = .ok (.aload_n 3, 1) := dk_45 (dk_at dksJ36_treeify_2 5 rfl rfl)
theorem dJ36_treeify_53 : decode cJ36_treeify 53 = .ok (.getfield 15, 3) := dk_180 0 15 (dk_at dksJ36_treeify_2 6 rfl rfl)
theorem dJ36_treeify_56 : decode cJ36_treeify 56 = .ok (.istore 6, 2) := dk_54 6 (dk_at dksJ36_treeify_2 9 rfl rfl)
theorem dJ36_treeify_58 : decode cJ36_treeify 58 = .ok (.aconst_null, 1) := dk_1 (dk_at dksJ36_treeify_2 11 rfl rfl)
theorem dJ36_treeify_59 : decode cJ36_treeify 59 = .ok (.astore 7, 2) := dk_58 7 (dk_at dksJ36_treeify_2 12 rfl rfl)
theorem dJ36_treeify_61 : decode cJ36_treeify 61 = .ok (.aload_n 2, 1) := dk_44 (dk_at dksJ36_treeify_2 14 rfl rfl)
theorem dJ36_treeify_62 : decode cJ36_treeify 62 = .ok (.astore 8, 2) := dk_58 8 (dk_at dksJ36_treeify_2 15 rfl rfl)
theorem dJ36_treeify_64 : decode cJ36_treeify 64 = .ok (.aload 8, 2) := dk_25 8 (dk_at dksJ36_treeify_2 17 rfl rfl)
theorem dJ36_treeify_66 : decode cJ36_treeify 66 = .ok (.getfield 45, 3) := dk_180 0 45 (dk_at dksJ36_treeify_2 19 rfl rfl)
theorem dJ36_treeify_69 : decode cJ36_treeify 69 = .ok (.astore 11, 2) := dk_58 11 (dk_at dksJ36_treeify_2 22 rfl rfl)
theorem dJ36_treeify_71 : decode cJ36_treeify 71 = .ok (.aload 8, 2) := dk_25 8 (dk_at dksJ36_treeify_3 0 rfl rfl)
theorem dJ36_treeify_73 : decode cJ36_treeify 73 = .ok (.getfield 15, 3) := dk_180 0 15 (dk_at dksJ36_treeify_3 2 rfl rfl)
theorem dJ36_treeify_76 : decode cJ36_treeify 76 = .ok (.dup, 1) := dk_89 (dk_at dksJ36_treeify_3 5 rfl rfl)
theorem dJ36_treeify_77 : decode cJ36_treeify 77 = .ok (.istore 10, 2) := dk_54 10 (dk_at dksJ36_treeify_3 6 rfl rfl)
theorem dJ36_treeify_79 : decode cJ36_treeify 79 = .ok (.iload 6, 2) := dk_21 6 (dk_at dksJ36_treeify_3 8 rfl rfl)
theorem dJ36_treeify_81 : decode cJ36_treeify 81 = .ok (.if_icmp .le 9, 3) := dk_164 0 9 (dk_at dksJ36_treeify_3 10 rfl rfl)
theorem dJ36_treeify_84 : decode cJ36_treeify 84 = .ok (.iconst (-1), 1) := dk_2 (dk_at dksJ36_treeify_3 13 rfl rfl)
theorem dJ36_treeify_85 : decode cJ36_treeify 85 = .ok (.istore 9, 2) := dk_54 9 (dk_at dksJ36_treeify_3 14 rfl rfl)
theorem dJ36_treeify_87 : decode cJ36_treeify 87 = .ok (.goto 56, 3) := dk_167 0 56 (dk_at dksJ36_treeify_3 16 rfl rfl)
theorem dJ36_treeify_90 : decode cJ36_treeify 90 = .ok (.iload 10, 2) := dk_21 10 (dk_at dksJ36_treeify_3 19 rfl rfl)
theorem dJ36_treeify_92 : decode cJ36_treeify 92 = .ok (.iload 6, 2) := dk_21 6 (dk_at dksJ36_treeify_3 21 rfl rfl)
theorem dJ36_treeify_94 : decode cJ36_treeify 94 = .ok (.if_icmp .ge 9, 3) := dk_162 0 9 (dk_at dksJ36_treeify_4 0 rfl rfl)
theorem dJ36_treeify_97 : decode cJ36_treeify 97 = .ok (.iconst 1, 1) := dk_4 (dk_at dksJ36_treeify_4 3 rfl rfl)
theorem dJ36_treeify_98 : decode cJ36_treeify 98 = .ok (.istore 9, 2) := dk_54 9 (dk_at dksJ36_treeify_4 4 rfl rfl)
theorem dJ36_treeify_100 : decode cJ36_treeify 100 = .ok (.goto 43, 3) := dk_167 0 43 (dk_at dksJ36_treeify_4 6 rfl rfl)
theorem dJ36_treeify_103 : decode cJ36_treeify 103 = .ok (.aload 7, 2) := dk_25 7 (dk_at dksJ36_treeify_4 9 rfl rfl)
theorem dJ36_treeify_105 : decode cJ36_treeify 105 = .ok (.ifnonnull 14, 3) := dk_199 0 14 (dk_at dksJ36_treeify_4 11 rfl rfl)
theorem dJ36_treeify_108 : decode cJ36_treeify 108 = .ok (.aload 5, 2) := dk_25 5 (dk_at dksJ36_treeify_4 14 rfl rfl)
theorem dJ36_treeify_110 : decode cJ36_treeify 110 = .ok (.invokestatic 55, 3) := dk_184 0 55 (dk_at dksJ36_treeify_4 16 rfl rfl)
theorem dJ36_treeify_113 : decode cJ36_treeify 113 = .ok (.dup, 1) := dk_89 (dk_at dksJ36_treeify_4 19 rfl rfl)
theorem dJ36_treeify_114 : decode cJ36_treeify 114 = .ok (.astore 7, 2) := dk_58 7 (dk_at dksJ36_treeify_4 20 rfl rfl)
theorem dJ36_treeify_116 : decode cJ36_treeify 116 = .ok (.ifnull 18, 3) := dk_198 0 18 (dk_at dksJ36_treeify_5 0 rfl rfl)
theorem dJ36_treeify_119 : decode cJ36_treeify 119 = .ok (.aload 7, 2) := dk_25 7 (dk_at dksJ36_treeify_5 3 rfl rfl)
theorem dJ36_treeify_121 : decode cJ36_treeify 121 = .ok (.aload 5, 2) := dk_25 5 (dk_at dksJ36_treeify_5 5 rfl rfl)
theorem dJ36_treeify_123 : decode cJ36_treeify 123 = .ok (.aload 11, 2) := dk_25 11 (dk_at dksJ36_treeify_5 7 rfl rfl)
theorem dJ36_treeify_125 : decode cJ36_treeify 125 = .ok (.invokestatic 59, 3) := dk_184 0 59 (dk_at dksJ36_treeify_5 9 rfl rfl)
theorem dJ36_treeify_128 : decode cJ36_treeify 128 = .ok (.dup, 1) := dk_89 (dk_at dksJ36_treeify_5 12 rfl rfl)
theorem dJ36_treeify_129 : decode cJ36_treeify 129 = .ok (.istore 9, 2) := dk_54 9 (dk_at dksJ36_treeify_5 13 rfl rfl)
theorem dJ36_treeify_131 : decode cJ36_treeify 131 = .ok (.ifCond .ne 12, 3) := dk_154 0 12 (dk_at dksJ36_treeify_5 15 rfl rfl)
theorem dJ36_treeify_134 : decode cJ36_treeify 134 = .ok (.aload 5, 2) := dk_25 5 (dk_at dksJ36_treeify_5 18 rfl rfl)
theorem dJ36_treeify_136 : decode cJ36_treeify 136 = .ok (.aload 11, 2) := dk_25 11 (dk_at dksJ36_treeify_5 20 rfl rfl)
theorem dJ36_treeify_138 : decode cJ36_treeify 138 = .ok (.invokestatic 96, 3) := dk_184 0 96 (dk_at dksJ36_treeify_6 0 rfl rfl)
theorem dJ36_treeify_141 : decode cJ36_treeify 141 = .ok (.istore 9, 2) := dk_54 9 (dk_at dksJ36_treeify_6 3 rfl rfl)
theorem dJ36_treeify_143 : decode cJ36_treeify 143 = .ok (.aload 8, 2) := dk_25 8 (dk_at dksJ36_treeify_6 5 rfl rfl)
theorem dJ36_treeify_145 : decode cJ36_treeify 145 = .ok (.astore 12, 2) := dk_58 12 (dk_at dksJ36_treeify_6 7 rfl rfl)
theorem dJ36_treeify_147 : decode cJ36_treeify 147 = .ok (.iload 9, 2) := dk_21 9 (dk_at dksJ36_treeify_6 9 rfl rfl)
theorem dJ36_treeify_149 : decode cJ36_treeify 149 = .ok (.ifCond .gt 11, 3) := dk_157 0 11 (dk_at dksJ36_treeify_6 11 rfl rfl)
theorem dJ36_treeify_152 : decode cJ36_treeify 152 = .ok (.aload 8, 2) := dk_25 8 (dk_at dksJ36_treeify_6 14 rfl rfl)
theorem dJ36_treeify_154 : decode cJ36_treeify 154 = .ok (.getfield 39, 3) := dk_180 0 39 (dk_at dksJ36_treeify_6 16 rfl rfl)
theorem dJ36_treeify_157 : decode cJ36_treeify 157 = .ok (.goto 8, 3) := dk_167 0 8 (dk_at dksJ36_treeify_6 19 rfl rfl)
theorem dJ36_treeify_160 : decode cJ36_treeify 160 = .ok (.aload 8, 2) := dk_25 8 (dk_at dksJ36_treeify_6 22 rfl rfl)
theorem dJ36_treeify_162 : decode cJ36_treeify 162 = .ok (.getfield 42, 3) := dk_180 0 42 (dk_at dksJ36_treeify_7 0 rfl rfl)
theorem dJ36_treeify_165 : decode cJ36_treeify 165 = .ok (.dup, 1) := dk_89 (dk_at dksJ36_treeify_7 3 rfl rfl)
theorem dJ36_treeify_166 : decode cJ36_treeify 166 = .ok (.astore 8, 2) := dk_58 8 (dk_at dksJ36_treeify_7 4 rfl rfl)
theorem dJ36_treeify_168 : decode cJ36_treeify 168 = .ok (.ifnonnull 38, 3) := dk_199 0 38 (dk_at dksJ36_treeify_7 6 rfl rfl)
theorem dJ36_treeify_171 : decode cJ36_treeify 171 = .ok (.aload_n 3, 1) := dk_45 (dk_at dksJ36_treeify_7 9 rfl rfl)
theorem dJ36_treeify_172 : decode cJ36_treeify 172 = .ok (.aload 12, 2) := dk_25 12 (dk_at dksJ36_treeify_7 10 rfl rfl)
theorem dJ36_treeify_174 : decode cJ36_treeify 174 = .ok (.putfield 9, 3) := dk_181 0 9 (dk_at dksJ36_treeify_7 12 rfl rfl)
theorem dJ36_treeify_177 : decode cJ36_treeify 177 = .ok (.iload 9, 2) := dk_21 9 (dk_at dksJ36_treeify_7 15 rfl rfl)
theorem dJ36_treeify_179 : decode cJ36_treeify 179 = .ok (.ifCond .gt 12, 3) := dk_157 0 12 (dk_at dksJ36_treeify_7 17 rfl rfl)
theorem dJ36_treeify_182 : decode cJ36_treeify 182 = .ok (.aload 12, 2) := dk_25 12 (dk_at dksJ36_treeify_7 20 rfl rfl)
theorem dJ36_treeify_184 : decode cJ36_treeify 184 = .ok (.aload_n 3, 1) := dk_45 (dk_at dksJ36_treeify_7 22 rfl rfl)
theorem dJ36_treeify_185 : decode cJ36_treeify 185 = .ok (.putfield 39, 3) := dk_181 0 39 (dk_at dksJ36_treeify_8 0 rfl rfl)
theorem dJ36_treeify_188 : decode cJ36_treeify 188 = .ok (.goto 9, 3) := dk_167 0 9 (dk_at dksJ36_treeify_8 3 rfl rfl)
theorem dJ36_treeify_191 : decode cJ36_treeify 191 = .ok (.aload 12, 2) := dk_25 12 (dk_at dksJ36_treeify_8 6 rfl rfl)
theorem dJ36_treeify_193 : decode cJ36_treeify 193 = .ok (.aload_n 3, 1) := dk_45 (dk_at dksJ36_treeify_8 8 rfl rfl)
theorem dJ36_treeify_194 : decode cJ36_treeify 194 = .ok (.putfield 42, 3) := dk_181 0 42 (dk_at dksJ36_treeify_8 9 rfl rfl)
theorem dJ36_treeify_197 : decode cJ36_treeify 197 = .ok (.aload_n 2, 1) := dk_44 (dk_at dksJ36_treeify_8 12 rfl rfl)
theorem dJ36_treeify_198 : decode cJ36_treeify 198 = .ok (.aload_n 3, 1) := dk_45 (dk_at dksJ36_treeify_8 13 rfl rfl)
theorem dJ36_treeify_199 : decode cJ36_treeify 199 = .ok (.invokestatic 100, 3) := dk_184 0 100 (dk_at dksJ36_treeify_8 14 rfl rfl)
theorem dJ36_treeify_202 : decode cJ36_treeify 202 = .ok (.astore_n 2, 1) := dk_77 (dk_at dksJ36_treeify_8 17 rfl rfl)
theorem dJ36_treeify_203 : decode cJ36_treeify 203 = .ok (.goto 6, 3) := dk_167 0 6 (dk_at dksJ36_treeify_8 18 rfl rfl)
theorem dJ36_treeify_206 : decode cJ36_treeify 206 = .ok (.goto (-142), 3) := dk_167 255 114 (dk_at dksJ36_treeify_8 21 rfl rfl)
theorem dJ36_treeify_209 : decode cJ36_treeify 209 = .ok (.aload 4, 2) := dk_25 4 (dk_at dksJ36_treeify_9 0 rfl rfl)
theorem dJ36_treeify_211 : decode cJ36_treeify 211 = .ok (.astore_n 3, 1) := dk_78 (dk_at dksJ36_treeify_9 2 rfl rfl)
theorem dJ36_treeify_212 : decode cJ36_treeify 212 = .ok (.goto (-208), 3) := dk_167 255 48 (dk_at dksJ36_treeify_9 3 rfl rfl)
theorem dJ36_treeify_215 : decode cJ36_treeify 215 = .ok (.aload_n 1, 1) := dk_43 (dk_at dksJ36_treeify_9 6 rfl rfl)
theorem dJ36_treeify_216 : decode cJ36_treeify 216 = .ok (.aload_n 2, 1) := dk_44 (dk_at dksJ36_treeify_9 7 rfl rfl)
theorem dJ36_treeify_217 : decode cJ36_treeify 217 = .ok (.invokestatic 104, 3) := dk_184 0 104 (dk_at dksJ36_treeify_9 8 rfl rfl)
theorem dJ36_treeify_220 : decode cJ36_treeify 220 = .ok (.return_, 1) := dk_177 (dk_at dksJ36_treeify_9 11 rfl rfl)
abbrev cJ36_balanceInsertion : ByteArray := prog_63_method_14_code
def yJ36_balanceInsertion : MethodName := ⟨RJ36, "balanceInsertion", "(Ljava/util/HashMap$TreeNode;Ljava/util/HashMap$TreeNode;)Ljava/util/HashMap$TreeNode;"⟩
def dkwJ36_balanceInsertion_10 : List UInt8 := [198, 255, 33, 45, 4, 181, 0, 93, 42, 45, 184, 0, 130, 75, 167, 255, 19]
abbrev dktJ36_balanceInsertion_10 : List UInt8 := dkwJ36_balanceInsertion_10 ++ []
def dkwJ36_balanceInsertion_9 : List UInt8 := [199, 0, 7, 1, 167, 0, 7, 44, 180, 0, 9, 78, 44, 198, 255, 42, 44, 3, 181, 0, 93, 45]
abbrev dktJ36_balanceInsertion_9 : List UInt8 := dkwJ36_balanceInsertion_9 ++ dktJ36_balanceInsertion_10
def dkwJ36_balanceInsertion_8 : List UInt8 := [43, 44, 180, 0, 39, 166, 0, 29, 42, 44, 89, 76, 184, 0, 133, 75, 43, 180, 0, 9, 89, 77]
abbrev dktJ36_balanceInsertion_8 : List UInt8 := dkwJ36_balanceInsertion_8 ++ dktJ36_balanceInsertion_9
def dkwJ36_balanceInsertion_7 : List UInt8 := [153, 0, 24, 25, 4, 3, 181, 0, 93, 44, 3, 181, 0, 93, 45, 4, 181, 0, 93, 45, 76, 167, 255, 80]
abbrev dktJ36_balanceInsertion_7 : List UInt8 := dkwJ36_balanceInsertion_7 ++ dktJ36_balanceInsertion_8
def dkwJ36_balanceInsertion_6 : List UInt8 := [181, 0, 93, 42, 45, 184, 0, 133, 75, 167, 255, 114, 25, 4, 198, 0, 32, 25, 4, 180, 0, 93]
abbrev dktJ36_balanceInsertion_6 : List UInt8 := dkwJ36_balanceInsertion_6 ++ dktJ36_balanceInsertion_7
def dkwJ36_balanceInsertion_5 : List UInt8 := [167, 0, 7, 44, 180, 0, 9, 78, 44, 198, 255, 137, 44, 3, 181, 0, 93, 45, 198, 255, 128, 45, 4]
abbrev dktJ36_balanceInsertion_5 : List UInt8 := dkwJ36_balanceInsertion_5 ++ dktJ36_balanceInsertion_6
def dkwJ36_balanceInsertion_4 : List UInt8 := [180, 0, 42, 166, 0, 29, 42, 44, 89, 76, 184, 0, 130, 75, 43, 180, 0, 9, 89, 77, 199, 0, 7, 1]
abbrev dktJ36_balanceInsertion_4 : List UInt8 := dkwJ36_balanceInsertion_4 ++ dktJ36_balanceInsertion_5
def dkwJ36_balanceInsertion_3 : List UInt8 := [25, 5, 3, 181, 0, 93, 44, 3, 181, 0, 93, 45, 4, 181, 0, 93, 45, 76, 167, 255, 175, 43, 44]
abbrev dktJ36_balanceInsertion_3 : List UInt8 := dkwJ36_balanceInsertion_3 ++ dktJ36_balanceInsertion_4
def dkwJ36_balanceInsertion_2 : List UInt8 := [58, 4, 166, 0, 103, 45, 180, 0, 42, 89, 58, 5, 198, 0, 32, 25, 5, 180, 0, 93, 153, 0, 24]
abbrev dktJ36_balanceInsertion_2 : List UInt8 := dkwJ36_balanceInsertion_2 ++ dktJ36_balanceInsertion_3
def dkwJ36_balanceInsertion_1 : List UInt8 := [180, 0, 93, 153, 0, 12, 44, 180, 0, 9, 89, 78, 199, 0, 5, 42, 176, 44, 45, 180, 0, 39, 89]
abbrev dktJ36_balanceInsertion_1 : List UInt8 := dkwJ36_balanceInsertion_1 ++ dktJ36_balanceInsertion_2
def dkwJ36_balanceInsertion_0 : List UInt8 := [43, 4, 181, 0, 93, 43, 180, 0, 9, 89, 77, 199, 0, 10, 43, 3, 181, 0, 93, 43, 176, 44]
abbrev dktJ36_balanceInsertion_0 : List UInt8 := dkwJ36_balanceInsertion_0 ++ dktJ36_balanceInsertion_1
theorem dksJ36_balanceInsertion_0 : cJ36_balanceInsertion.data.toList.drop 0 = dktJ36_balanceInsertion_0 := by decide +kernel
theorem dksJ36_balanceInsertion_1 : cJ36_balanceInsertion.data.toList.drop 22 = dktJ36_balanceInsertion_1 := dk_seg dksJ36_balanceInsertion_0 22 rfl rfl
theorem dksJ36_balanceInsertion_2 : cJ36_balanceInsertion.data.toList.drop 45 = dktJ36_balanceInsertion_2 := dk_seg dksJ36_balanceInsertion_1 23 rfl rfl
theorem dksJ36_balanceInsertion_3 : cJ36_balanceInsertion.data.toList.drop 68 = dktJ36_balanceInsertion_3 := dk_seg dksJ36_balanceInsertion_2 23 rfl rfl
theorem dksJ36_balanceInsertion_4 : cJ36_balanceInsertion.data.toList.drop 91 = dktJ36_balanceInsertion_4 := dk_seg dksJ36_balanceInsertion_3 23 rfl rfl
theorem dksJ36_balanceInsertion_5 : cJ36_balanceInsertion.data.toList.drop 115 = dktJ36_balanceInsertion_5 := dk_seg dksJ36_balanceInsertion_4 24 rfl rfl
theorem dksJ36_balanceInsertion_6 : cJ36_balanceInsertion.data.toList.drop 138 = dktJ36_balanceInsertion_6 := dk_seg dksJ36_balanceInsertion_5 23 rfl rfl
theorem dksJ36_balanceInsertion_7 : cJ36_balanceInsertion.data.toList.drop 160 = dktJ36_balanceInsertion_7 := dk_seg dksJ36_balanceInsertion_6 22 rfl rfl
theorem dksJ36_balanceInsertion_8 : cJ36_balanceInsertion.data.toList.drop 184 = dktJ36_balanceInsertion_8 := dk_seg dksJ36_balanceInsertion_7 24 rfl rfl
theorem dksJ36_balanceInsertion_9 : cJ36_balanceInsertion.data.toList.drop 206 = dktJ36_balanceInsertion_9 := dk_seg dksJ36_balanceInsertion_8 22 rfl rfl
theorem dksJ36_balanceInsertion_10 : cJ36_balanceInsertion.data.toList.drop 228 = dktJ36_balanceInsertion_10 := dk_seg dksJ36_balanceInsertion_9 22 rfl rfl
theorem dJ36_balanceInsertion_0 : decode cJ36_balanceInsertion 0 = .ok (.aload_n 1, 1) := dk_43 (dk_at dksJ36_balanceInsertion_0 0 rfl rfl)
theorem dJ36_balanceInsertion_1 : decode cJ36_balanceInsertion 1 = .ok (.iconst 1, 1) := dk_4 (dk_at dksJ36_balanceInsertion_0 1 rfl rfl)
theorem dJ36_balanceInsertion_2 : decode cJ36_balanceInsertion 2 = .ok (.putfield 93, 3) := dk_181 0 93 (dk_at dksJ36_balanceInsertion_0 2 rfl rfl)
theorem dJ36_balanceInsertion_5 : decode cJ36_balanceInsertion 5 = .ok (.aload_n 1, 1) := dk_43 (dk_at dksJ36_balanceInsertion_0 5 rfl rfl)
theorem dJ36_balanceInsertion_6 : decode cJ36_balanceInsertion 6 = .ok (.getfield 9, 3) := dk_180 0 9 (dk_at dksJ36_balanceInsertion_0 6 rfl rfl)
theorem dJ36_balanceInsertion_9 : decode cJ36_balanceInsertion 9 = .ok (.dup, 1) := dk_89 (dk_at dksJ36_balanceInsertion_0 9 rfl rfl)
theorem dJ36_balanceInsertion_10 : decode cJ36_balanceInsertion 10 = .ok (.astore_n 2, 1) := dk_77 (dk_at dksJ36_balanceInsertion_0 10 rfl rfl)
theorem dJ36_balanceInsertion_11 : decode cJ36_balanceInsertion 11 = .ok (.ifnonnull 10, 3) := dk_199 0 10 (dk_at dksJ36_balanceInsertion_0 11 rfl rfl)
theorem dJ36_balanceInsertion_14 : decode cJ36_balanceInsertion 14 = .ok (.aload_n 1, 1) := dk_43 (dk_at dksJ36_balanceInsertion_0 14 rfl rfl)
theorem dJ36_balanceInsertion_15 : decode cJ36_balanceInsertion 15 = .ok (.iconst 0, 1) := dk_3 (dk_at dksJ36_balanceInsertion_0 15 rfl rfl)
theorem dJ36_balanceInsertion_16 : decode cJ36_balanceInsertion 16 = .ok (.putfield 93, 3) := dk_181 0 93 (dk_at dksJ36_balanceInsertion_0 16 rfl rfl)
theorem dJ36_balanceInsertion_19 : decode cJ36_balanceInsertion 19 = .ok (.aload_n 1, 1) := dk_43 (dk_at dksJ36_balanceInsertion_0 19 rfl rfl)
theorem dJ36_balanceInsertion_20 : decode cJ36_balanceInsertion 20 = .ok (.areturn, 1) := dk_176 (dk_at dksJ36_balanceInsertion_0 20 rfl rfl)
theorem dJ36_balanceInsertion_21 : decode cJ36_balanceInsertion 21 = .ok (.aload_n 2, 1) := dk_44 (dk_at dksJ36_balanceInsertion_0 21 rfl rfl)
theorem dJ36_balanceInsertion_22 : decode cJ36_balanceInsertion 22 = .ok (.getfield 93, 3) := dk_180 0 93 (dk_at dksJ36_balanceInsertion_1 0 rfl rfl)
theorem dJ36_balanceInsertion_25 : decode cJ36_balanceInsertion 25 = .ok (.ifCond .eq 12, 3) := dk_153 0 12 (dk_at dksJ36_balanceInsertion_1 3 rfl rfl)
theorem dJ36_balanceInsertion_28 : decode cJ36_balanceInsertion 28 = .ok (.aload_n 2, 1) := dk_44 (dk_at dksJ36_balanceInsertion_1 6 rfl rfl)
theorem dJ36_balanceInsertion_29 : decode cJ36_balanceInsertion 29 = .ok (.getfield 9, 3) := dk_180 0 9 (dk_at dksJ36_balanceInsertion_1 7 rfl rfl)
theorem dJ36_balanceInsertion_32 : decode cJ36_balanceInsertion 32 = .ok (.dup, 1) := dk_89 (dk_at dksJ36_balanceInsertion_1 10 rfl rfl)
theorem dJ36_balanceInsertion_33 : decode cJ36_balanceInsertion 33 = .ok (.astore_n 3, 1) := dk_78 (dk_at dksJ36_balanceInsertion_1 11 rfl rfl)
theorem dJ36_balanceInsertion_34 : decode cJ36_balanceInsertion 34 = .ok (.ifnonnull 5, 3) := dk_199 0 5 (dk_at dksJ36_balanceInsertion_1 12 rfl rfl)
theorem dJ36_balanceInsertion_37 : decode cJ36_balanceInsertion 37 = .ok (.aload_n 0, 1) := dk_42 (dk_at dksJ36_balanceInsertion_1 15 rfl rfl)
theorem dJ36_balanceInsertion_38 : decode cJ36_balanceInsertion 38 = .ok (.areturn, 1) := dk_176 (dk_at dksJ36_balanceInsertion_1 16 rfl rfl)
theorem dJ36_balanceInsertion_39 : decode cJ36_balanceInsertion 39 = .ok (.aload_n 2, 1) := dk_44 (dk_at dksJ36_balanceInsertion_1 17 rfl rfl)
theorem dJ36_balanceInsertion_40 : decode cJ36_balanceInsertion 40 = .ok (.aload_n 3, 1) := dk_45 (dk_at dksJ36_balanceInsertion_1 18 rfl rfl)
theorem dJ36_balanceInsertion_41 : decode cJ36_balanceInsertion 41 = .ok (.getfield 39, 3) := dk_180 0 39 (dk_at dksJ36_balanceInsertion_1 19 rfl rfl)
theorem dJ36_balanceInsertion_44 : decode cJ36_balanceInsertion 44 = .ok (.dup, 1) := dk_89 (dk_at dksJ36_balanceInsertion_1 22 rfl rfl)
theorem dJ36_balanceInsertion_45 : decode cJ36_balanceInsertion 45 = .ok (.astore 4, 2) := dk_58 4 (dk_at dksJ36_balanceInsertion_2 0 rfl rfl)
theorem dJ36_balanceInsertion_47 : decode cJ36_balanceInsertion 47 = .ok (.if_acmp .ne 103, 3) := dk_166 0 103 (dk_at dksJ36_balanceInsertion_2 2 rfl rfl)
theorem dJ36_balanceInsertion_50 : decode cJ36_balanceInsertion 50 = .ok (.aload_n 3, 1) := dk_45 (dk_at dksJ36_balanceInsertion_2 5 rfl rfl)
theorem dJ36_balanceInsertion_51 : decode cJ36_balanceInsertion 51 = .ok (.getfield 42, 3) := dk_180 0 42 (dk_at dksJ36_balanceInsertion_2 6 rfl rfl)
theorem dJ36_balanceInsertion_54 : decode cJ36_balanceInsertion 54 = .ok (.dup, 1) := dk_89 (dk_at dksJ36_balanceInsertion_2 9 rfl rfl)
theorem dJ36_balanceInsertion_55 : decode cJ36_balanceInsertion 55 = .ok (.astore 5, 2) := dk_58 5 (dk_at dksJ36_balanceInsertion_2 10 rfl rfl)
theorem dJ36_balanceInsertion_57 : decode cJ36_balanceInsertion 57 = .ok (.ifnull 32, 3) := dk_198 0 32 (dk_at dksJ36_balanceInsertion_2 12 rfl rfl)
theorem dJ36_balanceInsertion_60 : decode cJ36_balanceInsertion 60 = .ok (.aload 5, 2) := dk_25 5 (dk_at dksJ36_balanceInsertion_2 15 rfl rfl)
theorem dJ36_balanceInsertion_62 : decode cJ36_balanceInsertion 62 = .ok (.getfield 93, 3) := dk_180 0 93 (dk_at dksJ36_balanceInsertion_2 17 rfl rfl)
theorem dJ36_balanceInsertion_65 : decode cJ36_balanceInsertion 65 = .ok (.ifCond .eq 24, 3) := dk_153 0 24 (dk_at dksJ36_balanceInsertion_2 20 rfl rfl)
theorem dJ36_balanceInsertion_68 : decode cJ36_balanceInsertion 68 = .ok (.aload 5, 2) := dk_25 5 (dk_at dksJ36_balanceInsertion_3 0 rfl rfl)
theorem dJ36_balanceInsertion_70 : decode cJ36_balanceInsertion 70 = .ok (.iconst 0, 1) := dk_3 (dk_at dksJ36_balanceInsertion_3 2 rfl rfl)
theorem dJ36_balanceInsertion_71 : decode cJ36_balanceInsertion 71 = .ok (.putfield 93, 3) := dk_181 0 93 (dk_at dksJ36_balanceInsertion_3 3 rfl rfl)
theorem dJ36_balanceInsertion_74 : decode cJ36_balanceInsertion 74 = .ok (.aload_n 2, 1) := dk_44 (dk_at dksJ36_balanceInsertion_3 6 rfl rfl)
theorem dJ36_balanceInsertion_75 : decode cJ36_balanceInsertion 75 = .ok (.iconst 0, 1) := dk_3 (dk_at dksJ36_balanceInsertion_3 7 rfl rfl)
theorem dJ36_balanceInsertion_76 : decode cJ36_balanceInsertion 76 = .ok (.putfield 93, 3) := dk_181 0 93 (dk_at dksJ36_balanceInsertion_3 8 rfl rfl)
theorem dJ36_balanceInsertion_79 : decode cJ36_balanceInsertion 79 = .ok (.aload_n 3, 1) := dk_45 (dk_at dksJ36_balanceInsertion_3 11 rfl rfl)
theorem dJ36_balanceInsertion_80 : decode cJ36_balanceInsertion 80 = .ok (.iconst 1, 1) := dk_4 (dk_at dksJ36_balanceInsertion_3 12 rfl rfl)
theorem dJ36_balanceInsertion_81 : decode cJ36_balanceInsertion 81 = .ok (.putfield 93, 3) := dk_181 0 93 (dk_at dksJ36_balanceInsertion_3 13 rfl rfl)
theorem dJ36_balanceInsertion_84 : decode cJ36_balanceInsertion 84 = .ok (.aload_n 3, 1) := dk_45 (dk_at dksJ36_balanceInsertion_3 16 rfl rfl)
theorem dJ36_balanceInsertion_85 : decode cJ36_balanceInsertion 85 = .ok (.astore_n 1, 1) := dk_76 (dk_at dksJ36_balanceInsertion_3 17 rfl rfl)
theorem dJ36_balanceInsertion_86 : decode cJ36_balanceInsertion 86 = .ok (.goto (-81), 3) := dk_167 255 175 (dk_at dksJ36_balanceInsertion_3 18 rfl rfl)
theorem dJ36_balanceInsertion_89 : decode cJ36_balanceInsertion 89 = .ok (.aload_n 1, 1) := dk_43 (dk_at dksJ36_balanceInsertion_3 21 rfl rfl)
theorem dJ36_balanceInsertion_90 : decode cJ36_balanceInsertion 90 = .ok (.aload_n 2, 1) := dk_44 (dk_at dksJ36_balanceInsertion_3 22 rfl rfl)
theorem dJ36_balanceInsertion_91 : decode cJ36_balanceInsertion 91 = .ok (.getfield 42, 3) := dk_180 0 42 (dk_at dksJ36_balanceInsertion_4 0 rfl rfl)
theorem dJ36_balanceInsertion_94 : decode cJ36_balanceInsertion 94 = .ok (.if_acmp .ne 29, 3) := dk_166 0 29 (dk_at dksJ36_balanceInsertion_4 3 rfl rfl)
theorem dJ36_balanceInsertion_97 : decode cJ36_balanceInsertion 97 = .ok (.aload_n 0, 1) := dk_42 (dk_at dksJ36_balanceInsertion_4 6 rfl rfl)
theorem dJ36_balanceInsertion_98 : decode cJ36_balanceInsertion 98 = .ok (.aload_n 2, 1) := dk_44 (dk_at dksJ36_balanceInsertion_4 7 rfl rfl)
theorem dJ36_balanceInsertion_99 : decode cJ36_balanceInsertion 99 = .ok (.dup, 1) := dk_89 (dk_at dksJ36_balanceInsertion_4 8 rfl rfl)
theorem dJ36_balanceInsertion_100 : decode cJ36_balanceInsertion 100 = .ok (.astore_n 1, 1) := dk_76 (dk_at dksJ36_balanceInsertion_4 9 rfl rfl)
theorem dJ36_balanceInsertion_101 : decode cJ36_balanceInsertion 101 = .ok (.invokestatic 130, 3) := dk_184 0 130 (dk_at dksJ36_balanceInsertion_4 10 rfl rfl)
theorem dJ36_balanceInsertion_104 : decode cJ36_balanceInsertion 104 = .ok (.astore_n 0, 1) := dk_75 (dk_at dksJ36_balanceInsertion_4 13 rfl rfl)
theorem dJ36_balanceInsertion_105 : decode cJ36_balanceInsertion 105 = .ok (.aload_n 1, 1) := dk_43 (dk_at dksJ36_balanceInsertion_4 14 rfl rfl)
theorem dJ36_balanceInsertion_106 : decode cJ36_balanceInsertion 106 = .ok (.getfield 9, 3) := dk_180 0 9 (dk_at dksJ36_balanceInsertion_4 15 rfl rfl)
theorem dJ36_balanceInsertion_109 : decode cJ36_balanceInsertion 109 = .ok (.dup, 1) := dk_89 (dk_at dksJ36_balanceInsertion_4 18 rfl rfl)
theorem dJ36_balanceInsertion_110 : decode cJ36_balanceInsertion 110 = .ok (.astore_n 2, 1) := dk_77 (dk_at dksJ36_balanceInsertion_4 19 rfl rfl)
theorem dJ36_balanceInsertion_111 : decode cJ36_balanceInsertion 111 = .ok (.ifnonnull 7, 3) := dk_199 0 7 (dk_at dksJ36_balanceInsertion_4 20 rfl rfl)
theorem dJ36_balanceInsertion_114 : decode cJ36_balanceInsertion 114 = .ok (.aconst_null, 1) := dk_1 (dk_at dksJ36_balanceInsertion_4 23 rfl rfl)
theorem dJ36_balanceInsertion_115 : decode cJ36_balanceInsertion 115 = .ok (.goto 7, 3) := dk_167 0 7 (dk_at dksJ36_balanceInsertion_5 0 rfl rfl)
theorem dJ36_balanceInsertion_118 : decode cJ36_balanceInsertion 118 = .ok (.aload_n 2, 1) := dk_44 (dk_at dksJ36_balanceInsertion_5 3 rfl rfl)
theorem dJ36_balanceInsertion_119 : decode cJ36_balanceInsertion 119 = .ok (.getfield 9, 3) := dk_180 0 9 (dk_at dksJ36_balanceInsertion_5 4 rfl rfl)
theorem dJ36_balanceInsertion_122 : decode cJ36_balanceInsertion 122 = .ok (.astore_n 3, 1) := dk_78 (dk_at dksJ36_balanceInsertion_5 7 rfl rfl)
theorem dJ36_balanceInsertion_123 : decode cJ36_balanceInsertion 123 = .ok (.aload_n 2, 1) := dk_44 (dk_at dksJ36_balanceInsertion_5 8 rfl rfl)
theorem dJ36_balanceInsertion_124 : decode cJ36_balanceInsertion 124 = .ok (.ifnull (-119), 3) := dk_198 255 137 (dk_at dksJ36_balanceInsertion_5 9 rfl rfl)
theorem dJ36_balanceInsertion_127 : decode cJ36_balanceInsertion 127 = .ok (.aload_n 2, 1) := dk_44 (dk_at dksJ36_balanceInsertion_5 12 rfl rfl)
theorem dJ36_balanceInsertion_128 : decode cJ36_balanceInsertion 128 = .ok (.iconst 0, 1) := dk_3 (dk_at dksJ36_balanceInsertion_5 13 rfl rfl)
theorem dJ36_balanceInsertion_129 : decode cJ36_balanceInsertion 129 = .ok (.putfield 93, 3) := dk_181 0 93 (dk_at dksJ36_balanceInsertion_5 14 rfl rfl)
theorem dJ36_balanceInsertion_132 : decode cJ36_balanceInsertion 132 = .ok (.aload_n 3, 1) := dk_45 (dk_at dksJ36_balanceInsertion_5 17 rfl rfl)
theorem dJ36_balanceInsertion_133 : decode cJ36_balanceInsertion 133 = .ok (.ifnull (-128), 3) := dk_198 255 128 (dk_at dksJ36_balanceInsertion_5 18 rfl rfl)
theorem dJ36_balanceInsertion_136 : decode cJ36_balanceInsertion 136 = .ok (.aload_n 3, 1) := dk_45 (dk_at dksJ36_balanceInsertion_5 21 rfl rfl)
theorem dJ36_balanceInsertion_137 : decode cJ36_balanceInsertion 137 = .ok (.iconst 1, 1) := dk_4 (dk_at dksJ36_balanceInsertion_5 22 rfl rfl)
theorem dJ36_balanceInsertion_138 : decode cJ36_balanceInsertion 138 = .ok (.putfield 93, 3) := dk_181 0 93 (dk_at dksJ36_balanceInsertion_6 0 rfl rfl)
theorem dJ36_balanceInsertion_141 : decode cJ36_balanceInsertion 141 = .ok (.aload_n 0, 1) := dk_42 (dk_at dksJ36_balanceInsertion_6 3 rfl rfl)
theorem dJ36_balanceInsertion_142 : decode cJ36_balanceInsertion 142 = .ok (.aload_n 3, 1) := dk_45 (dk_at dksJ36_balanceInsertion_6 4 rfl rfl)
theorem dJ36_balanceInsertion_143 : decode cJ36_balanceInsertion 143 = .ok (.invokestatic 133, 3) := dk_184 0 133 (dk_at dksJ36_balanceInsertion_6 5 rfl rfl)
theorem dJ36_balanceInsertion_146 : decode cJ36_balanceInsertion 146 = .ok (.astore_n 0, 1) := dk_75 (dk_at dksJ36_balanceInsertion_6 8 rfl rfl)
theorem dJ36_balanceInsertion_147 : decode cJ36_balanceInsertion 147 = .ok (.goto (-142), 3) := dk_167 255 114 (dk_at dksJ36_balanceInsertion_6 9 rfl rfl)
theorem dJ36_balanceInsertion_150 : decode cJ36_balanceInsertion 150 = .ok (.aload 4, 2) := dk_25 4 (dk_at dksJ36_balanceInsertion_6 12 rfl rfl)
theorem dJ36_balanceInsertion_152 : decode cJ36_balanceInsertion 152 = .ok (.ifnull 32, 3) := dk_198 0 32 (dk_at dksJ36_balanceInsertion_6 14 rfl rfl)
theorem dJ36_balanceInsertion_155 : decode cJ36_balanceInsertion 155 = .ok (.aload 4, 2) := dk_25 4 (dk_at dksJ36_balanceInsertion_6 17 rfl rfl)
theorem dJ36_balanceInsertion_157 : decode cJ36_balanceInsertion 157 = .ok (.getfield 93, 3) := dk_180 0 93 (dk_at dksJ36_balanceInsertion_6 19 rfl rfl)
theorem dJ36_balanceInsertion_160 : decode cJ36_balanceInsertion 160 = .ok (.ifCond .eq 24, 3) := dk_153 0 24 (dk_at dksJ36_balanceInsertion_7 0 rfl rfl)
theorem dJ36_balanceInsertion_163 : decode cJ36_balanceInsertion 163 = .ok (.aload 4, 2) := dk_25 4 (dk_at dksJ36_balanceInsertion_7 3 rfl rfl)
theorem dJ36_balanceInsertion_165 : decode cJ36_balanceInsertion 165 = .ok (.iconst 0, 1) := dk_3 (dk_at dksJ36_balanceInsertion_7 5 rfl rfl)
theorem dJ36_balanceInsertion_166 : decode cJ36_balanceInsertion 166 = .ok (.putfield 93, 3) := dk_181 0 93 (dk_at dksJ36_balanceInsertion_7 6 rfl rfl)
theorem dJ36_balanceInsertion_169 : decode cJ36_balanceInsertion 169 = .ok (.aload_n 2, 1) := dk_44 (dk_at dksJ36_balanceInsertion_7 9 rfl rfl)
theorem dJ36_balanceInsertion_170 : decode cJ36_balanceInsertion 170 = .ok (.iconst 0, 1) := dk_3 (dk_at dksJ36_balanceInsertion_7 10 rfl rfl)
theorem dJ36_balanceInsertion_171 : decode cJ36_balanceInsertion 171 = .ok (.putfield 93, 3) := dk_181 0 93 (dk_at dksJ36_balanceInsertion_7 11 rfl rfl)
theorem dJ36_balanceInsertion_174 : decode cJ36_balanceInsertion 174 = .ok (.aload_n 3, 1) := dk_45 (dk_at dksJ36_balanceInsertion_7 14 rfl rfl)
theorem dJ36_balanceInsertion_175 : decode cJ36_balanceInsertion 175 = .ok (.iconst 1, 1) := dk_4 (dk_at dksJ36_balanceInsertion_7 15 rfl rfl)
theorem dJ36_balanceInsertion_176 : decode cJ36_balanceInsertion 176 = .ok (.putfield 93, 3) := dk_181 0 93 (dk_at dksJ36_balanceInsertion_7 16 rfl rfl)
theorem dJ36_balanceInsertion_179 : decode cJ36_balanceInsertion 179 = .ok (.aload_n 3, 1) := dk_45 (dk_at dksJ36_balanceInsertion_7 19 rfl rfl)
theorem dJ36_balanceInsertion_180 : decode cJ36_balanceInsertion 180 = .ok (.astore_n 1, 1) := dk_76 (dk_at dksJ36_balanceInsertion_7 20 rfl rfl)
theorem dJ36_balanceInsertion_181 : decode cJ36_balanceInsertion 181 = .ok (.goto (-176), 3) := dk_167 255 80 (dk_at dksJ36_balanceInsertion_7 21 rfl rfl)
theorem dJ36_balanceInsertion_184 : decode cJ36_balanceInsertion 184 = .ok (.aload_n 1, 1) := dk_43 (dk_at dksJ36_balanceInsertion_8 0 rfl rfl)
theorem dJ36_balanceInsertion_185 : decode cJ36_balanceInsertion 185 = .ok (.aload_n 2, 1) := dk_44 (dk_at dksJ36_balanceInsertion_8 1 rfl rfl)
theorem dJ36_balanceInsertion_186 : decode cJ36_balanceInsertion 186 = .ok (.getfield 39, 3) := dk_180 0 39 (dk_at dksJ36_balanceInsertion_8 2 rfl rfl)
theorem dJ36_balanceInsertion_189 : decode cJ36_balanceInsertion 189 = .ok (.if_acmp .ne 29, 3) := dk_166 0 29 (dk_at dksJ36_balanceInsertion_8 5 rfl rfl)
theorem dJ36_balanceInsertion_192 : decode cJ36_balanceInsertion 192 = .ok (.aload_n 0, 1) := dk_42 (dk_at dksJ36_balanceInsertion_8 8 rfl rfl)
theorem dJ36_balanceInsertion_193 : decode cJ36_balanceInsertion 193 = .ok (.aload_n 2, 1) := dk_44 (dk_at dksJ36_balanceInsertion_8 9 rfl rfl)
theorem dJ36_balanceInsertion_194 : decode cJ36_balanceInsertion 194 = .ok (.dup, 1) := dk_89 (dk_at dksJ36_balanceInsertion_8 10 rfl rfl)
theorem dJ36_balanceInsertion_195 : decode cJ36_balanceInsertion 195 = .ok (.astore_n 1, 1) := dk_76 (dk_at dksJ36_balanceInsertion_8 11 rfl rfl)
theorem dJ36_balanceInsertion_196 : decode cJ36_balanceInsertion 196 = .ok (.invokestatic 133, 3) := dk_184 0 133 (dk_at dksJ36_balanceInsertion_8 12 rfl rfl)
theorem dJ36_balanceInsertion_199 : decode cJ36_balanceInsertion 199 = .ok (.astore_n 0, 1) := dk_75 (dk_at dksJ36_balanceInsertion_8 15 rfl rfl)
theorem dJ36_balanceInsertion_200 : decode cJ36_balanceInsertion 200 = .ok (.aload_n 1, 1) := dk_43 (dk_at dksJ36_balanceInsertion_8 16 rfl rfl)
theorem dJ36_balanceInsertion_201 : decode cJ36_balanceInsertion 201 = .ok (.getfield 9, 3) := dk_180 0 9 (dk_at dksJ36_balanceInsertion_8 17 rfl rfl)
theorem dJ36_balanceInsertion_204 : decode cJ36_balanceInsertion 204 = .ok (.dup, 1) := dk_89 (dk_at dksJ36_balanceInsertion_8 20 rfl rfl)
theorem dJ36_balanceInsertion_205 : decode cJ36_balanceInsertion 205 = .ok (.astore_n 2, 1) := dk_77 (dk_at dksJ36_balanceInsertion_8 21 rfl rfl)
theorem dJ36_balanceInsertion_206 : decode cJ36_balanceInsertion 206 = .ok (.ifnonnull 7, 3) := dk_199 0 7 (dk_at dksJ36_balanceInsertion_9 0 rfl rfl)
theorem dJ36_balanceInsertion_209 : decode cJ36_balanceInsertion 209 = .ok (.aconst_null, 1) := dk_1 (dk_at dksJ36_balanceInsertion_9 3 rfl rfl)
theorem dJ36_balanceInsertion_210 : decode cJ36_balanceInsertion 210 = .ok (.goto 7, 3) := dk_167 0 7 (dk_at dksJ36_balanceInsertion_9 4 rfl rfl)
theorem dJ36_balanceInsertion_213 : decode cJ36_balanceInsertion 213 = .ok (.aload_n 2, 1) := dk_44 (dk_at dksJ36_balanceInsertion_9 7 rfl rfl)
theorem dJ36_balanceInsertion_214 : decode cJ36_balanceInsertion 214 = .ok (.getfield 9, 3) := dk_180 0 9 (dk_at dksJ36_balanceInsertion_9 8 rfl rfl)
theorem dJ36_balanceInsertion_217 : decode cJ36_balanceInsertion 217 = .ok (.astore_n 3, 1) := dk_78 (dk_at dksJ36_balanceInsertion_9 11 rfl rfl)
theorem dJ36_balanceInsertion_218 : decode cJ36_balanceInsertion 218 = .ok (.aload_n 2, 1) := dk_44 (dk_at dksJ36_balanceInsertion_9 12 rfl rfl)
theorem dJ36_balanceInsertion_219 : decode cJ36_balanceInsertion 219 = .ok (.ifnull (-214), 3) := dk_198 255 42 (dk_at dksJ36_balanceInsertion_9 13 rfl rfl)
theorem dJ36_balanceInsertion_222 : decode cJ36_balanceInsertion 222 = .ok (.aload_n 2, 1) := dk_44 (dk_at dksJ36_balanceInsertion_9 16 rfl rfl)
theorem dJ36_balanceInsertion_223 : decode cJ36_balanceInsertion 223 = .ok (.iconst 0, 1) := dk_3 (dk_at dksJ36_balanceInsertion_9 17 rfl rfl)
theorem dJ36_balanceInsertion_224 : decode cJ36_balanceInsertion 224 = .ok (.putfield 93, 3) := dk_181 0 93 (dk_at dksJ36_balanceInsertion_9 18 rfl rfl)
theorem dJ36_balanceInsertion_227 : decode cJ36_balanceInsertion 227 = .ok (.aload_n 3, 1) := dk_45 (dk_at dksJ36_balanceInsertion_9 21 rfl rfl)
theorem dJ36_balanceInsertion_228 : decode cJ36_balanceInsertion 228 = .ok (.ifnull (-223), 3) := dk_198 255 33 (dk_at dksJ36_balanceInsertion_10 0 rfl rfl)
theorem dJ36_balanceInsertion_231 : decode cJ36_balanceInsertion 231 = .ok (.aload_n 3, 1) := dk_45 (dk_at dksJ36_balanceInsertion_10 3 rfl rfl)
theorem dJ36_balanceInsertion_232 : decode cJ36_balanceInsertion 232 = .ok (.iconst 1, 1) := dk_4 (dk_at dksJ36_balanceInsertion_10 4 rfl rfl)
theorem dJ36_balanceInsertion_233 : decode cJ36_balanceInsertion 233 = .ok (.putfield 93, 3) := dk_181 0 93 (dk_at dksJ36_balanceInsertion_10 5 rfl rfl)
theorem dJ36_balanceInsertion_236 : decode cJ36_balanceInsertion 236 = .ok (.aload_n 0, 1) := dk_42 (dk_at dksJ36_balanceInsertion_10 8 rfl rfl)
theorem dJ36_balanceInsertion_237 : decode cJ36_balanceInsertion 237 = .ok (.aload_n 3, 1) := dk_45 (dk_at dksJ36_balanceInsertion_10 9 rfl rfl)
theorem dJ36_balanceInsertion_238 : decode cJ36_balanceInsertion 238 = .ok (.invokestatic 130, 3) := dk_184 0 130 (dk_at dksJ36_balanceInsertion_10 10 rfl rfl)
theorem dJ36_balanceInsertion_241 : decode cJ36_balanceInsertion 241 = .ok (.astore_n 0, 1) := dk_75 (dk_at dksJ36_balanceInsertion_10 13 rfl rfl)
theorem dJ36_balanceInsertion_242 : decode cJ36_balanceInsertion 242 = .ok (.goto (-237), 3) := dk_167 255 19 (dk_at dksJ36_balanceInsertion_10 14 rfl rfl)
abbrev cJ36_rotateLeft : ByteArray := prog_63_method_12_code
def yJ36_rotateLeft : MethodName := ⟨RJ36, "rotateLeft", "(Ljava/util/HashMap$TreeNode;Ljava/util/HashMap$TreeNode;)Ljava/util/HashMap$TreeNode;"⟩
def dkwJ36_rotateLeft_3 : List UInt8 := [181, 0, 39, 167, 0, 8, 45, 44, 181, 0, 42, 44, 43, 181, 0, 39, 43, 44, 181, 0, 9, 42, 176]
abbrev dktJ36_rotateLeft_3 : List UInt8 := dkwJ36_rotateLeft_3 ++ []
def dkwJ36_rotateLeft_2 : List UInt8 := [199, 0, 13, 44, 89, 75, 3, 181, 0, 93, 167, 0, 24, 45, 180, 0, 39, 43, 166, 0, 11, 45, 44]
abbrev dktJ36_rotateLeft_2 : List UInt8 := dkwJ36_rotateLeft_2 ++ dktJ36_rotateLeft_3
def dkwJ36_rotateLeft_1 : List UInt8 := [58, 4, 198, 0, 9, 25, 4, 43, 181, 0, 9, 44, 43, 180, 0, 9, 90, 181, 0, 9, 89, 78]
abbrev dktJ36_rotateLeft_1 : List UInt8 := dkwJ36_rotateLeft_1 ++ dktJ36_rotateLeft_2
def dkwJ36_rotateLeft_0 : List UInt8 := [43, 198, 0, 88, 43, 180, 0, 42, 89, 77, 198, 0, 79, 43, 44, 180, 0, 39, 90, 181, 0, 42, 89]
abbrev dktJ36_rotateLeft_0 : List UInt8 := dkwJ36_rotateLeft_0 ++ dktJ36_rotateLeft_1
theorem dksJ36_rotateLeft_0 : cJ36_rotateLeft.data.toList.drop 0 = dktJ36_rotateLeft_0 := by decide +kernel
theorem dksJ36_rotateLeft_1 : cJ36_rotateLeft.data.toList.drop 23 = dktJ36_rotateLeft_1 := dk_seg dksJ36_rotateLeft_0 23 rfl rfl
theorem dksJ36_rotateLeft_2 : cJ36_rotateLeft.data.toList.drop 45 = dktJ36_rotateLeft_2 := dk_seg dksJ36_rotateLeft_1 22 rfl rfl
theorem dksJ36_rotateLeft_3 : cJ36_rotateLeft.data.toList.drop 68 = dktJ36_rotateLeft_3 := dk_seg dksJ36_rotateLeft_2 23 rfl rfl
theorem dJ36_rotateLeft_0 : decode cJ36_rotateLeft 0 = .ok (.aload_n 1, 1) := dk_43 (dk_at dksJ36_rotateLeft_0 0 rfl rfl)
theorem dJ36_rotateLeft_1 : decode cJ36_rotateLeft 1 = .ok (.ifnull 88, 3) := dk_198 0 88 (dk_at dksJ36_rotateLeft_0 1 rfl rfl)
theorem dJ36_rotateLeft_4 : decode cJ36_rotateLeft 4 = .ok (.aload_n 1, 1) := dk_43 (dk_at dksJ36_rotateLeft_0 4 rfl rfl)
theorem dJ36_rotateLeft_5 : decode cJ36_rotateLeft 5 = .ok (.getfield 42, 3) := dk_180 0 42 (dk_at dksJ36_rotateLeft_0 5 rfl rfl)
theorem dJ36_rotateLeft_8 : decode cJ36_rotateLeft 8 = .ok (.dup, 1) := dk_89 (dk_at dksJ36_rotateLeft_0 8 rfl rfl)
theorem dJ36_rotateLeft_9 : decode cJ36_rotateLeft 9 = .ok (.astore_n 2, 1) := dk_77 (dk_at dksJ36_rotateLeft_0 9 rfl rfl)
theorem dJ36_rotateLeft_10 : decode cJ36_rotateLeft 10 = .ok (.ifnull 79, 3) := dk_198 0 79 (dk_at dksJ36_rotateLeft_0 10 rfl rfl)
theorem dJ36_rotateLeft_13 : decode cJ36_rotateLeft 13 = .ok (.aload_n 1, 1) := dk_43 (dk_at dksJ36_rotateLeft_0 13 rfl rfl)
theorem dJ36_rotateLeft_14 : decode cJ36_rotateLeft 14 = .ok (.aload_n 2, 1) := dk_44 (dk_at dksJ36_rotateLeft_0 14 rfl rfl)
theorem dJ36_rotateLeft_15 : decode cJ36_rotateLeft 15 = .ok (.getfield 39, 3) := dk_180 0 39 (dk_at dksJ36_rotateLeft_0 15 rfl rfl)
theorem dJ36_rotateLeft_18 : decode cJ36_rotateLeft 18 = .ok (.dup_x1, 1) := dk_90 (dk_at dksJ36_rotateLeft_0 18 rfl rfl)
theorem dJ36_rotateLeft_19 : decode cJ36_rotateLeft 19 = .ok (.putfield 42, 3) := dk_181 0 42 (dk_at dksJ36_rotateLeft_0 19 rfl rfl)
theorem dJ36_rotateLeft_22 : decode cJ36_rotateLeft 22 = .ok (.dup, 1) := dk_89 (dk_at dksJ36_rotateLeft_0 22 rfl rfl)
theorem dJ36_rotateLeft_23 : decode cJ36_rotateLeft 23 = .ok (.astore 4, 2) := dk_58 4 (dk_at dksJ36_rotateLeft_1 0 rfl rfl)
theorem dJ36_rotateLeft_25 : decode cJ36_rotateLeft 25 = .ok (.ifnull 9, 3) := dk_198 0 9 (dk_at dksJ36_rotateLeft_1 2 rfl rfl)
theorem dJ36_rotateLeft_28 : decode cJ36_rotateLeft 28 = .ok (.aload 4, 2) := dk_25 4 (dk_at dksJ36_rotateLeft_1 5 rfl rfl)
theorem dJ36_rotateLeft_30 : decode cJ36_rotateLeft 30 = .ok (.aload_n 1, 1) := dk_43 (dk_at dksJ36_rotateLeft_1 7 rfl rfl)
theorem dJ36_rotateLeft_31 : decode cJ36_rotateLeft 31 = .ok (.putfield 9, 3) := dk_181 0 9 (dk_at dksJ36_rotateLeft_1 8 rfl rfl)
theorem dJ36_rotateLeft_34 : decode cJ36_rotateLeft 34 = .ok (.aload_n 2, 1) := dk_44 (dk_at dksJ36_rotateLeft_1 11 rfl rfl)
theorem dJ36_rotateLeft_35 : decode cJ36_rotateLeft 35 = .ok (.aload_n 1, 1) := dk_43 (dk_at dksJ36_rotateLeft_1 12 rfl rfl)
theorem dJ36_rotateLeft_36 : decode cJ36_rotateLeft 36 = .ok (.getfield 9, 3) := dk_180 0 9 (dk_at dksJ36_rotateLeft_1 13 rfl rfl)
theorem dJ36_rotateLeft_39 : decode cJ36_rotateLeft 39 = .ok (.dup_x1, 1) := dk_90 (dk_at dksJ36_rotateLeft_1 16 rfl rfl)
theorem dJ36_rotateLeft_40 : decode cJ36_rotateLeft 40 = .ok (.putfield 9, 3) := dk_181 0 9 (dk_at dksJ36_rotateLeft_1 17 rfl rfl)
theorem dJ36_rotateLeft_43 : decode cJ36_rotateLeft 43 = .ok (.dup, 1) := dk_89 (dk_at dksJ36_rotateLeft_1 20 rfl rfl)
theorem dJ36_rotateLeft_44 : decode cJ36_rotateLeft 44 = .ok (.astore_n 3, 1) := dk_78 (dk_at dksJ36_rotateLeft_1 21 rfl rfl)
theorem dJ36_rotateLeft_45 : decode cJ36_rotateLeft 45 = .ok (.ifnonnull 13, 3) := dk_199 0 13 (dk_at dksJ36_rotateLeft_2 0 rfl rfl)
theorem dJ36_rotateLeft_48 : decode cJ36_rotateLeft 48 = .ok (.aload_n 2, 1) := dk_44 (dk_at dksJ36_rotateLeft_2 3 rfl rfl)
theorem dJ36_rotateLeft_49 : decode cJ36_rotateLeft 49 = .ok (.dup, 1) := dk_89 (dk_at dksJ36_rotateLeft_2 4 rfl rfl)
theorem dJ36_rotateLeft_50 : decode cJ36_rotateLeft 50 = .ok (.astore_n 0, 1) := dk_75 (dk_at dksJ36_rotateLeft_2 5 rfl rfl)
theorem dJ36_rotateLeft_51 : decode cJ36_rotateLeft 51 = .ok (.iconst 0, 1) := dk_3 (dk_at dksJ36_rotateLeft_2 6 rfl rfl)
theorem dJ36_rotateLeft_52 : decode cJ36_rotateLeft 52 = .ok (.putfield 93, 3) := dk_181 0 93 (dk_at dksJ36_rotateLeft_2 7 rfl rfl)
theorem dJ36_rotateLeft_55 : decode cJ36_rotateLeft 55 = .ok (.goto 24, 3) := dk_167 0 24 (dk_at dksJ36_rotateLeft_2 10 rfl rfl)
theorem dJ36_rotateLeft_58 : decode cJ36_rotateLeft 58 = .ok (.aload_n 3, 1) := dk_45 (dk_at dksJ36_rotateLeft_2 13 rfl rfl)
theorem dJ36_rotateLeft_59 : decode cJ36_rotateLeft 59 = .ok (.getfield 39, 3) := dk_180 0 39 (dk_at dksJ36_rotateLeft_2 14 rfl rfl)
theorem dJ36_rotateLeft_62 : decode cJ36_rotateLeft 62 = .ok (.aload_n 1, 1) := dk_43 (dk_at dksJ36_rotateLeft_2 17 rfl rfl)
theorem dJ36_rotateLeft_63 : decode cJ36_rotateLeft 63 = .ok (.if_acmp .ne 11, 3) := dk_166 0 11 (dk_at dksJ36_rotateLeft_2 18 rfl rfl)
theorem dJ36_rotateLeft_66 : decode cJ36_rotateLeft 66 = .ok (.aload_n 3, 1) := dk_45 (dk_at dksJ36_rotateLeft_2 21 rfl rfl)
theorem dJ36_rotateLeft_67 : decode cJ36_rotateLeft 67 = .ok (.aload_n 2, 1) := dk_44 (dk_at dksJ36_rotateLeft_2 22 rfl rfl)
theorem dJ36_rotateLeft_68 : decode cJ36_rotateLeft 68 = .ok (.putfield 39, 3) := dk_181 0 39 (dk_at dksJ36_rotateLeft_3 0 rfl rfl)
theorem dJ36_rotateLeft_71 : decode cJ36_rotateLeft 71 = .ok (.goto 8, 3) := dk_167 0 8 (dk_at dksJ36_rotateLeft_3 3 rfl rfl)
theorem dJ36_rotateLeft_74 : decode cJ36_rotateLeft 74 = .ok (.aload_n 3, 1) := dk_45 (dk_at dksJ36_rotateLeft_3 6 rfl rfl)
theorem dJ36_rotateLeft_75 : decode cJ36_rotateLeft 75 = .ok (.aload_n 2, 1) := dk_44 (dk_at dksJ36_rotateLeft_3 7 rfl rfl)
theorem dJ36_rotateLeft_76 : decode cJ36_rotateLeft 76 = .ok (.putfield 42, 3) := dk_181 0 42 (dk_at dksJ36_rotateLeft_3 8 rfl rfl)
theorem dJ36_rotateLeft_79 : decode cJ36_rotateLeft 79 = .ok (.aload_n 2, 1) := dk_44 (dk_at dksJ36_rotateLeft_3 11 rfl rfl)
theorem dJ36_rotateLeft_80 : decode cJ36_rotateLeft 80 = .ok (.aload_n 1, 1) := dk_43 (dk_at dksJ36_rotateLeft_3 12 rfl rfl)
theorem dJ36_rotateLeft_81 : decode cJ36_rotateLeft 81 = .ok (.putfield 39, 3) := dk_181 0 39 (dk_at dksJ36_rotateLeft_3 13 rfl rfl)
theorem dJ36_rotateLeft_84 : decode cJ36_rotateLeft 84 = .ok (.aload_n 1, 1) := dk_43 (dk_at dksJ36_rotateLeft_3 16 rfl rfl)
theorem dJ36_rotateLeft_85 : decode cJ36_rotateLeft 85 = .ok (.aload_n 2, 1) := dk_44 (dk_at dksJ36_rotateLeft_3 17 rfl rfl)
theorem dJ36_rotateLeft_86 : decode cJ36_rotateLeft 86 = .ok (.putfield 9, 3) := dk_181 0 9 (dk_at dksJ36_rotateLeft_3 18 rfl rfl)
theorem dJ36_rotateLeft_89 : decode cJ36_rotateLeft 89 = .ok (.aload_n 0, 1) := dk_42 (dk_at dksJ36_rotateLeft_3 21 rfl rfl)
theorem dJ36_rotateLeft_90 : decode cJ36_rotateLeft 90 = .ok (.areturn, 1) := dk_176 (dk_at dksJ36_rotateLeft_3 22 rfl rfl)
abbrev cJ36_rotateRight : ByteArray := prog_63_method_13_code
def yJ36_rotateRight : MethodName := ⟨RJ36, "rotateRight", "(Ljava/util/HashMap$TreeNode;Ljava/util/HashMap$TreeNode;)Ljava/util/HashMap$TreeNode;"⟩
def dkwJ36_rotateRight_3 : List UInt8 := [181, 0, 42, 167, 0, 8, 45, 44, 181, 0, 39, 44, 43, 181, 0, 42, 43, 44, 181, 0, 9, 42, 176]
abbrev dktJ36_rotateRight_3 : List UInt8 := dkwJ36_rotateRight_3 ++ []
def dkwJ36_rotateRight_2 : List UInt8 := [199, 0, 13, 44, 89, 75, 3, 181, 0, 93, 167, 0, 24, 45, 180, 0, 42, 43, 166, 0, 11, 45, 44]
abbrev dktJ36_rotateRight_2 : List UInt8 := dkwJ36_rotateRight_2 ++ dktJ36_rotateRight_3
def dkwJ36_rotateRight_1 : List UInt8 := [58, 4, 198, 0, 9, 25, 4, 43, 181, 0, 9, 44, 43, 180, 0, 9, 90, 181, 0, 9, 89, 78]
abbrev dktJ36_rotateRight_1 : List UInt8 := dkwJ36_rotateRight_1 ++ dktJ36_rotateRight_2
def dkwJ36_rotateRight_0 : List UInt8 := [43, 198, 0, 88, 43, 180, 0, 39, 89, 77, 198, 0, 79, 43, 44, 180, 0, 42, 90, 181, 0, 39, 89]
abbrev dktJ36_rotateRight_0 : List UInt8 := dkwJ36_rotateRight_0 ++ dktJ36_rotateRight_1
theorem dksJ36_rotateRight_0 : cJ36_rotateRight.data.toList.drop 0 = dktJ36_rotateRight_0 := by decide +kernel
theorem dksJ36_rotateRight_1 : cJ36_rotateRight.data.toList.drop 23 = dktJ36_rotateRight_1 := dk_seg dksJ36_rotateRight_0 23 rfl rfl
theorem dksJ36_rotateRight_2 : cJ36_rotateRight.data.toList.drop 45 = dktJ36_rotateRight_2 := dk_seg dksJ36_rotateRight_1 22 rfl rfl
theorem dksJ36_rotateRight_3 : cJ36_rotateRight.data.toList.drop 68 = dktJ36_rotateRight_3 := dk_seg dksJ36_rotateRight_2 23 rfl rfl
theorem dJ36_rotateRight_0 : decode cJ36_rotateRight 0 = .ok (.aload_n 1, 1) := dk_43 (dk_at dksJ36_rotateRight_0 0 rfl rfl)
theorem dJ36_rotateRight_1 : decode cJ36_rotateRight 1 = .ok (.ifnull 88, 3) := dk_198 0 88 (dk_at dksJ36_rotateRight_0 1 rfl rfl)
theorem dJ36_rotateRight_4 : decode cJ36_rotateRight 4 = .ok (.aload_n 1, 1) := dk_43 (dk_at dksJ36_rotateRight_0 4 rfl rfl)
theorem dJ36_rotateRight_5 : decode cJ36_rotateRight 5 = .ok (.getfield 39, 3) := dk_180 0 39 (dk_at dksJ36_rotateRight_0 5 rfl rfl)
theorem dJ36_rotateRight_8 : decode cJ36_rotateRight 8 = .ok (.dup, 1) := dk_89 (dk_at dksJ36_rotateRight_0 8 rfl rfl)
theorem dJ36_rotateRight_9 : decode cJ36_rotateRight 9 = .ok (.astore_n 2, 1) := dk_77 (dk_at dksJ36_rotateRight_0 9 rfl rfl)
theorem dJ36_rotateRight_10 : decode cJ36_rotateRight 10 = .ok (.ifnull 79, 3) := dk_198 0 79 (dk_at dksJ36_rotateRight_0 10 rfl rfl)
theorem dJ36_rotateRight_13 : decode cJ36_rotateRight 13 = .ok (.aload_n 1, 1) := dk_43 (dk_at dksJ36_rotateRight_0 13 rfl rfl)
theorem dJ36_rotateRight_14 : decode cJ36_rotateRight 14 = .ok (.aload_n 2, 1) := dk_44 (dk_at dksJ36_rotateRight_0 14 rfl rfl)
theorem dJ36_rotateRight_15 : decode cJ36_rotateRight 15 = .ok (.getfield 42, 3) := dk_180 0 42 (dk_at dksJ36_rotateRight_0 15 rfl rfl)
theorem dJ36_rotateRight_18 : decode cJ36_rotateRight 18 = .ok (.dup_x1, 1) := dk_90 (dk_at dksJ36_rotateRight_0 18 rfl rfl)
theorem dJ36_rotateRight_19 : decode cJ36_rotateRight 19 = .ok (.putfield 39, 3) := dk_181 0 39 (dk_at dksJ36_rotateRight_0 19 rfl rfl)
theorem dJ36_rotateRight_22 : decode cJ36_rotateRight 22 = .ok (.dup, 1) := dk_89 (dk_at dksJ36_rotateRight_0 22 rfl rfl)
theorem dJ36_rotateRight_23 : decode cJ36_rotateRight 23 = .ok (.astore 4, 2) := dk_58 4 (dk_at dksJ36_rotateRight_1 0 rfl rfl)
theorem dJ36_rotateRight_25 : decode cJ36_rotateRight 25 = .ok (.ifnull 9, 3) := dk_198 0 9 (dk_at dksJ36_rotateRight_1 2 rfl rfl)
theorem dJ36_rotateRight_28 : decode cJ36_rotateRight 28 = .ok (.aload 4, 2) := dk_25 4 (dk_at dksJ36_rotateRight_1 5 rfl rfl)
theorem dJ36_rotateRight_30 : decode cJ36_rotateRight 30 = .ok (.aload_n 1, 1) := dk_43 (dk_at dksJ36_rotateRight_1 7 rfl rfl)
theorem dJ36_rotateRight_31 : decode cJ36_rotateRight 31 = .ok (.putfield 9, 3) := dk_181 0 9 (dk_at dksJ36_rotateRight_1 8 rfl rfl)
theorem dJ36_rotateRight_34 : decode cJ36_rotateRight 34 = .ok (.aload_n 2, 1) := dk_44 (dk_at dksJ36_rotateRight_1 11 rfl rfl)
theorem dJ36_rotateRight_35 : decode cJ36_rotateRight 35 = .ok (.aload_n 1, 1) := dk_43 (dk_at dksJ36_rotateRight_1 12 rfl rfl)
theorem dJ36_rotateRight_36 : decode cJ36_rotateRight 36 = .ok (.getfield 9, 3) := dk_180 0 9 (dk_at dksJ36_rotateRight_1 13 rfl rfl)
theorem dJ36_rotateRight_39 : decode cJ36_rotateRight 39 = .ok (.dup_x1, 1) := dk_90 (dk_at dksJ36_rotateRight_1 16 rfl rfl)
theorem dJ36_rotateRight_40 : decode cJ36_rotateRight 40 = .ok (.putfield 9, 3) := dk_181 0 9 (dk_at dksJ36_rotateRight_1 17 rfl rfl)
theorem dJ36_rotateRight_43 : decode cJ36_rotateRight 43 = .ok (.dup, 1) := dk_89 (dk_at dksJ36_rotateRight_1 20 rfl rfl)
theorem dJ36_rotateRight_44 : decode cJ36_rotateRight 44 = .ok (.astore_n 3, 1) := dk_78 (dk_at dksJ36_rotateRight_1 21 rfl rfl)
theorem dJ36_rotateRight_45 : decode cJ36_rotateRight 45 = .ok (.ifnonnull 13, 3) := dk_199 0 13 (dk_at dksJ36_rotateRight_2 0 rfl rfl)
theorem dJ36_rotateRight_48 : decode cJ36_rotateRight 48 = .ok (.aload_n 2, 1) := dk_44 (dk_at dksJ36_rotateRight_2 3 rfl rfl)
theorem dJ36_rotateRight_49 : decode cJ36_rotateRight 49 = .ok (.dup, 1) := dk_89 (dk_at dksJ36_rotateRight_2 4 rfl rfl)
theorem dJ36_rotateRight_50 : decode cJ36_rotateRight 50 = .ok (.astore_n 0, 1) := dk_75 (dk_at dksJ36_rotateRight_2 5 rfl rfl)
theorem dJ36_rotateRight_51 : decode cJ36_rotateRight 51 = .ok (.iconst 0, 1) := dk_3 (dk_at dksJ36_rotateRight_2 6 rfl rfl)
theorem dJ36_rotateRight_52 : decode cJ36_rotateRight 52 = .ok (.putfield 93, 3) := dk_181 0 93 (dk_at dksJ36_rotateRight_2 7 rfl rfl)
theorem dJ36_rotateRight_55 : decode cJ36_rotateRight 55 = .ok (.goto 24, 3) := dk_167 0 24 (dk_at dksJ36_rotateRight_2 10 rfl rfl)
theorem dJ36_rotateRight_58 : decode cJ36_rotateRight 58 = .ok (.aload_n 3, 1) := dk_45 (dk_at dksJ36_rotateRight_2 13 rfl rfl)
theorem dJ36_rotateRight_59 : decode cJ36_rotateRight 59 = .ok (.getfield 42, 3) := dk_180 0 42 (dk_at dksJ36_rotateRight_2 14 rfl rfl)
theorem dJ36_rotateRight_62 : decode cJ36_rotateRight 62 = .ok (.aload_n 1, 1) := dk_43 (dk_at dksJ36_rotateRight_2 17 rfl rfl)
theorem dJ36_rotateRight_63 : decode cJ36_rotateRight 63 = .ok (.if_acmp .ne 11, 3) := dk_166 0 11 (dk_at dksJ36_rotateRight_2 18 rfl rfl)
theorem dJ36_rotateRight_66 : decode cJ36_rotateRight 66 = .ok (.aload_n 3, 1) := dk_45 (dk_at dksJ36_rotateRight_2 21 rfl rfl)
theorem dJ36_rotateRight_67 : decode cJ36_rotateRight 67 = .ok (.aload_n 2, 1) := dk_44 (dk_at dksJ36_rotateRight_2 22 rfl rfl)
theorem dJ36_rotateRight_68 : decode cJ36_rotateRight 68 = .ok (.putfield 42, 3) := dk_181 0 42 (dk_at dksJ36_rotateRight_3 0 rfl rfl)
theorem dJ36_rotateRight_71 : decode cJ36_rotateRight 71 = .ok (.goto 8, 3) := dk_167 0 8 (dk_at dksJ36_rotateRight_3 3 rfl rfl)
theorem dJ36_rotateRight_74 : decode cJ36_rotateRight 74 = .ok (.aload_n 3, 1) := dk_45 (dk_at dksJ36_rotateRight_3 6 rfl rfl)
theorem dJ36_rotateRight_75 : decode cJ36_rotateRight 75 = .ok (.aload_n 2, 1) := dk_44 (dk_at dksJ36_rotateRight_3 7 rfl rfl)
theorem dJ36_rotateRight_76 : decode cJ36_rotateRight 76 = .ok (.putfield 39, 3) := dk_181 0 39 (dk_at dksJ36_rotateRight_3 8 rfl rfl)
theorem dJ36_rotateRight_79 : decode cJ36_rotateRight 79 = .ok (.aload_n 2, 1) := dk_44 (dk_at dksJ36_rotateRight_3 11 rfl rfl)
theorem dJ36_rotateRight_80 : decode cJ36_rotateRight 80 = .ok (.aload_n 1, 1) := dk_43 (dk_at dksJ36_rotateRight_3 12 rfl rfl)
theorem dJ36_rotateRight_81 : decode cJ36_rotateRight 81 = .ok (.putfield 42, 3) := dk_181 0 42 (dk_at dksJ36_rotateRight_3 13 rfl rfl)
theorem dJ36_rotateRight_84 : decode cJ36_rotateRight 84 = .ok (.aload_n 1, 1) := dk_43 (dk_at dksJ36_rotateRight_3 16 rfl rfl)
theorem dJ36_rotateRight_85 : decode cJ36_rotateRight 85 = .ok (.aload_n 2, 1) := dk_44 (dk_at dksJ36_rotateRight_3 17 rfl rfl)
theorem dJ36_rotateRight_86 : decode cJ36_rotateRight 86 = .ok (.putfield 9, 3) := dk_181 0 9 (dk_at dksJ36_rotateRight_3 18 rfl rfl)
theorem dJ36_rotateRight_89 : decode cJ36_rotateRight 89 = .ok (.aload_n 0, 1) := dk_42 (dk_at dksJ36_rotateRight_3 21 rfl rfl)
theorem dJ36_rotateRight_90 : decode cJ36_rotateRight 90 = .ok (.areturn, 1) := dk_176 (dk_at dksJ36_rotateRight_3 22 rfl rfl)
abbrev cJ36_moveRootToFront : ByteArray := prog_63_method_3_code
def yJ36_moveRootToFront : MethodName := ⟨RJ36, "moveRootToFront", "([Ljava/util/HashMap$Node;Ljava/util/HashMap$TreeNode;)V"⟩
def dkwJ36_moveRootToFront_5 : List UInt8 := [89, 183, 0, 36, 191, 177]
abbrev dktJ36_moveRootToFront_5 : List UInt8 := dkwJ36_moveRootToFront_5 ++ []
def dkwJ36_moveRootToFront_4 : List UInt8 := [181, 0, 22, 43, 1, 181, 0, 19, 178, 0, 26, 154, 0, 18, 43, 184, 0, 30, 154, 0, 11, 187, 0, 34]
abbrev dktJ36_moveRootToFront_4 : List UInt8 := dkwJ36_moveRootToFront_4 ++ dktJ36_moveRootToFront_5
def dkwJ36_moveRootToFront_3 : List UInt8 := [198, 0, 10, 25, 6, 25, 5, 181, 0, 22, 25, 4, 198, 0, 9, 25, 4, 43, 181, 0, 19, 43, 25, 4]
abbrev dktJ36_moveRootToFront_3 : List UInt8 := dkwJ36_moveRootToFront_3 ++ dktJ36_moveRootToFront_4
def dkwJ36_moveRootToFront_2 : List UInt8 := [43, 180, 0, 22, 89, 58, 5, 198, 0, 13, 25, 5, 192, 0, 10, 25, 6, 181, 0, 19, 25, 6]
abbrev dktJ36_moveRootToFront_2 : List UInt8 := dkwJ36_moveRootToFront_2 ++ dktJ36_moveRootToFront_3
def dkwJ36_moveRootToFront_1 : List UInt8 := [42, 29, 50, 192, 0, 10, 58, 4, 43, 25, 4, 165, 0, 67, 42, 29, 43, 83, 43, 180, 0, 19, 58, 6]
abbrev dktJ36_moveRootToFront_1 : List UInt8 := dkwJ36_moveRootToFront_1 ++ dktJ36_moveRootToFront_2
def dkwJ36_moveRootToFront_0 : List UInt8 := [43, 198, 0, 122, 42, 198, 0, 118, 42, 190, 89, 61, 158, 0, 111, 28, 4, 100, 43, 180, 0, 15, 126, 62]
abbrev dktJ36_moveRootToFront_0 : List UInt8 := dkwJ36_moveRootToFront_0 ++ dktJ36_moveRootToFront_1
theorem dksJ36_moveRootToFront_0 : cJ36_moveRootToFront.data.toList.drop 0 = dktJ36_moveRootToFront_0 := by decide +kernel
theorem dksJ36_moveRootToFront_1 : cJ36_moveRootToFront.data.toList.drop 24 = dktJ36_moveRootToFront_1 := dk_seg dksJ36_moveRootToFront_0 24 rfl rfl
theorem dksJ36_moveRootToFront_2 : cJ36_moveRootToFront.data.toList.drop 48 = dktJ36_moveRootToFront_2 := dk_seg dksJ36_moveRootToFront_1 24 rfl rfl
theorem dksJ36_moveRootToFront_3 : cJ36_moveRootToFront.data.toList.drop 70 = dktJ36_moveRootToFront_3 := dk_seg dksJ36_moveRootToFront_2 22 rfl rfl
theorem dksJ36_moveRootToFront_4 : cJ36_moveRootToFront.data.toList.drop 94 = dktJ36_moveRootToFront_4 := dk_seg dksJ36_moveRootToFront_3 24 rfl rfl
theorem dksJ36_moveRootToFront_5 : cJ36_moveRootToFront.data.toList.drop 118 = dktJ36_moveRootToFront_5 := dk_seg dksJ36_moveRootToFront_4 24 rfl rfl
theorem dJ36_moveRootToFront_0 : decode cJ36_moveRootToFront 0 = .ok (.aload_n 1, 1) := dk_43 (dk_at dksJ36_moveRootToFront_0 0 rfl rfl)
theorem dJ36_moveRootToFront_1 : decode cJ36_moveRootToFront 1 = .ok (.ifnull 122, 3) := dk_198 0 122 (dk_at dksJ36_moveRootToFront_0 1 rfl rfl)
theorem dJ36_moveRootToFront_4 : decode cJ36_moveRootToFront 4 = .ok (.aload_n 0, 1) := dk_42 (dk_at dksJ36_moveRootToFront_0 4 rfl rfl)
theorem dJ36_moveRootToFront_5 : decode cJ36_moveRootToFront 5 = .ok (.ifnull 118, 3) := dk_198 0 118 (dk_at dksJ36_moveRootToFront_0 5 rfl rfl)
theorem dJ36_moveRootToFront_8 : decode cJ36_moveRootToFront 8 = .ok (.aload_n 0, 1) := dk_42 (dk_at dksJ36_moveRootToFront_0 8 rfl rfl)
theorem dJ36_moveRootToFront_9 : decode cJ36_moveRootToFront 9 = .ok (.arraylength, 1) := dk_190 (dk_at dksJ36_moveRootToFront_0 9 rfl rfl)
theorem dJ36_moveRootToFront_10 : decode cJ36_moveRootToFront 10 = .ok (.dup, 1) := dk_89 (dk_at dksJ36_moveRootToFront_0 10 rfl rfl)
theorem dJ36_moveRootToFront_11 : decode cJ36_moveRootToFront 11 = .ok (.istore_n 2, 1) := dk_61 (dk_at dksJ36_moveRootToFront_0 11 rfl rfl)
theorem dJ36_moveRootToFront_12 : decode cJ36_moveRootToFront 12 = .ok (.ifCond .le 111, 3) := dk_158 0 111 (dk_at dksJ36_moveRootToFront_0 12 rfl rfl)
theorem dJ36_moveRootToFront_15 : decode cJ36_moveRootToFront 15 = .ok (.iload_n 2, 1) := dk_28 (dk_at dksJ36_moveRootToFront_0 15 rfl rfl)
theorem dJ36_moveRootToFront_16 : decode cJ36_moveRootToFront 16 = .ok (.iconst 1, 1) := dk_4 (dk_at dksJ36_moveRootToFront_0 16 rfl rfl)
theorem dJ36_moveRootToFront_17 : decode cJ36_moveRootToFront 17 = .ok (.isub, 1) := dk_100 (dk_at dksJ36_moveRootToFront_0 17 rfl rfl)
theorem dJ36_moveRootToFront_18 : decode cJ36_moveRootToFront 18 = .ok (.aload_n 1, 1) := dk_43 (dk_at dksJ36_moveRootToFront_0 18 rfl rfl)
theorem dJ36_moveRootToFront_19 : decode cJ36_moveRootToFront 19 = .ok (.getfield 15, 3) := dk_180 0 15 (dk_at dksJ36_moveRootToFront_0 19 rfl rfl)
theorem dJ36_moveRootToFront_22 : decode cJ36_moveRootToFront 22 = .ok (.iand, 1) := dk_126 (dk_at dksJ36_moveRootToFront_0 22 rfl rfl)
theorem dJ36_moveRootToFront_23 : decode cJ36_moveRootToFront 23 = .ok (.istore_n 3, 1) := dk_62 (dk_at dksJ36_moveRootToFront_0 23 rfl rfl)
theorem dJ36_moveRootToFront_24 : decode cJ36_moveRootToFront 24 = .ok (.aload_n 0, 1) := dk_42 (dk_at dksJ36_moveRootToFront_1 0 rfl rfl)
theorem dJ36_moveRootToFront_25 : decode cJ36_moveRootToFront 25 = .ok (.iload_n 3, 1) := dk_29 (dk_at dksJ36_moveRootToFront_1 1 rfl rfl)
theorem dJ36_moveRootToFront_26 : decode cJ36_moveRootToFront 26 = .ok (.aaload, 1) := dk_50 (dk_at dksJ36_moveRootToFront_1 2 rfl rfl)
theorem dJ36_moveRootToFront_27 : decode cJ36_moveRootToFront 27 = .ok (.checkcast 10, 3) := dk_192 0 10 (dk_at dksJ36_moveRootToFront_1 3 rfl rfl)
theorem dJ36_moveRootToFront_30 : decode cJ36_moveRootToFront 30 = .ok (.astore 4, 2) := dk_58 4 (dk_at dksJ36_moveRootToFront_1 6 rfl rfl)
theorem dJ36_moveRootToFront_32 : decode cJ36_moveRootToFront 32 = .ok (.aload_n 1, 1) := dk_43 (dk_at dksJ36_moveRootToFront_1 8 rfl rfl)
theorem dJ36_moveRootToFront_33 : decode cJ36_moveRootToFront 33 = .ok (.aload 4, 2) := dk_25 4 (dk_at dksJ36_moveRootToFront_1 9 rfl rfl)
theorem dJ36_moveRootToFront_35 : decode cJ36_moveRootToFront 35 = .ok (.if_acmp .eq 67, 3) := dk_165 0 67 (dk_at dksJ36_moveRootToFront_1 11 rfl rfl)
theorem dJ36_moveRootToFront_38 : decode cJ36_moveRootToFront 38 = .ok (.aload_n 0, 1) := dk_42 (dk_at dksJ36_moveRootToFront_1 14 rfl rfl)
theorem dJ36_moveRootToFront_39 : decode cJ36_moveRootToFront 39 = .ok (.iload_n 3, 1) := dk_29 (dk_at dksJ36_moveRootToFront_1 15 rfl rfl)
theorem dJ36_moveRootToFront_40 : decode cJ36_moveRootToFront 40 = .ok (.aload_n 1, 1) := dk_43 (dk_at dksJ36_moveRootToFront_1 16 rfl rfl)
theorem dJ36_moveRootToFront_41 : decode cJ36_moveRootToFront 41 = .ok (.aastore, 1) := dk_83 (dk_at dksJ36_moveRootToFront_1 17 rfl rfl)
theorem dJ36_moveRootToFront_42 : decode cJ36_moveRootToFront 42 = .ok (.aload_n 1, 1) := dk_43 (dk_at dksJ36_moveRootToFront_1 18 rfl rfl)
theorem dJ36_moveRootToFront_43 : decode cJ36_moveRootToFront 43 = .ok (.getfield 19, 3) := dk_180 0 19 (dk_at dksJ36_moveRootToFront_1 19 rfl rfl)
theorem dJ36_moveRootToFront_46 : decode cJ36_moveRootToFront 46 = .ok (.astore 6, 2) := dk_58 6 (dk_at dksJ36_moveRootToFront_1 22 rfl rfl)
theorem dJ36_moveRootToFront_48 : decode cJ36_moveRootToFront 48 = .ok (.aload_n 1, 1) := dk_43 (dk_at dksJ36_moveRootToFront_2 0 rfl rfl)
theorem dJ36_moveRootToFront_49 : decode cJ36_moveRootToFront 49 = .ok (.getfield 22, 3) := dk_180 0 22 (dk_at dksJ36_moveRootToFront_2 1 rfl rfl)
theorem dJ36_moveRootToFront_52 : decode cJ36_moveRootToFront 52 = .ok (.dup, 1) := dk_89 (dk_at dksJ36_moveRootToFront_2 4 rfl rfl)
theorem dJ36_moveRootToFront_53 : decode cJ36_moveRootToFront 53 = .ok (.astore 5, 2) := dk_58 5 (dk_at dksJ36_moveRootToFront_2 5 rfl rfl)
theorem dJ36_moveRootToFront_55 : decode cJ36_moveRootToFront 55 = .ok (.ifnull 13, 3) := dk_198 0 13 (dk_at dksJ36_moveRootToFront_2 7 rfl rfl)
theorem dJ36_moveRootToFront_58 : decode cJ36_moveRootToFront 58 = .ok (.aload 5, 2) := dk_25 5 (dk_at dksJ36_moveRootToFront_2 10 rfl rfl)
theorem dJ36_moveRootToFront_60 : decode cJ36_moveRootToFront 60 = .ok (.checkcast 10, 3) := dk_192 0 10 (dk_at dksJ36_moveRootToFront_2 12 rfl rfl)
theorem dJ36_moveRootToFront_63 : decode cJ36_moveRootToFront 63 = .ok (.aload 6, 2) := dk_25 6 (dk_at dksJ36_moveRootToFront_2 15 rfl rfl)
theorem dJ36_moveRootToFront_65 : decode cJ36_moveRootToFront 65 = .ok (.putfield 19, 3) := dk_181 0 19 (dk_at dksJ36_moveRootToFront_2 17 rfl rfl)
theorem dJ36_moveRootToFront_68 : decode cJ36_moveRootToFront 68 = .ok (.aload 6, 2) := dk_25 6 (dk_at dksJ36_moveRootToFront_2 20 rfl rfl)
theorem dJ36_moveRootToFront_70 : decode cJ36_moveRootToFront 70 = .ok (.ifnull 10, 3) := dk_198 0 10 (dk_at dksJ36_moveRootToFront_3 0 rfl rfl)
theorem dJ36_moveRootToFront_73 : decode cJ36_moveRootToFront 73 = .ok (.aload 6, 2) := dk_25 6 (dk_at dksJ36_moveRootToFront_3 3 rfl rfl)
theorem dJ36_moveRootToFront_75 : decode cJ36_moveRootToFront 75 = .ok (.aload 5, 2) := dk_25 5 (dk_at dksJ36_moveRootToFront_3 5 rfl rfl)
theorem dJ36_moveRootToFront_77 : decode cJ36_moveRootToFront 77 = .ok (.putfield 22, 3) := dk_181 0 22 (dk_at dksJ36_moveRootToFront_3 7 rfl rfl)
theorem dJ36_moveRootToFront_80 : decode cJ36_moveRootToFront 80 = .ok (.aload 4, 2) := dk_25 4 (dk_at dksJ36_moveRootToFront_3 10 rfl rfl)
theorem dJ36_moveRootToFront_82 : decode cJ36_moveRootToFront 82 = .ok (.ifnull 9, 3) := dk_198 0 9 (dk_at dksJ36_moveRootToFront_3 12 rfl rfl)
theorem dJ36_moveRootToFront_85 : decode cJ36_moveRootToFront 85 = .ok (.aload 4, 2) := dk_25 4 (dk_at dksJ36_moveRootToFront_3 15 rfl rfl)
theorem dJ36_moveRootToFront_87 : decode cJ36_moveRootToFront 87 = .ok (.aload_n 1, 1) := dk_43 (dk_at dksJ36_moveRootToFront_3 17 rfl rfl)
theorem dJ36_moveRootToFront_88 : decode cJ36_moveRootToFront 88 = .ok (.putfield 19, 3) := dk_181 0 19 (dk_at dksJ36_moveRootToFront_3 18 rfl rfl)
theorem dJ36_moveRootToFront_91 : decode cJ36_moveRootToFront 91 = .ok (.aload_n 1, 1) := dk_43 (dk_at dksJ36_moveRootToFront_3 21 rfl rfl)
theorem dJ36_moveRootToFront_92 : decode cJ36_moveRootToFront 92 = .ok (.aload 4, 2) := dk_25 4 (dk_at dksJ36_moveRootToFront_3 22 rfl rfl)
theorem dJ36_moveRootToFront_94 : decode cJ36_moveRootToFront 94 = .ok (.putfield 22, 3) := dk_181 0 22 (dk_at dksJ36_moveRootToFront_4 0 rfl rfl)
theorem dJ36_moveRootToFront_97 : decode cJ36_moveRootToFront 97 = .ok (.aload_n 1, 1) := dk_43 (dk_at dksJ36_moveRootToFront_4 3 rfl rfl)
theorem dJ36_moveRootToFront_98 : decode cJ36_moveRootToFront 98 = .ok (.aconst_null, 1) := dk_1 (dk_at dksJ36_moveRootToFront_4 4 rfl rfl)
theorem dJ36_moveRootToFront_99 : decode cJ36_moveRootToFront 99 = .ok (.putfield 19, 3) := dk_181 0 19 (dk_at dksJ36_moveRootToFront_4 5 rfl rfl)
theorem dJ36_moveRootToFront_102 : decode cJ36_moveRootToFront 102 = .ok (.getstatic 26, 3) := dk_178 0 26 (dk_at dksJ36_moveRootToFront_4 8 rfl rfl)
theorem dJ36_moveRootToFront_105 : decode cJ36_moveRootToFront 105 = .ok (.ifCond .ne 18, 3) := dk_154 0 18 (dk_at dksJ36_moveRootToFront_4 11 rfl rfl)
theorem dJ36_moveRootToFront_108 : decode cJ36_moveRootToFront 108 = .ok (.aload_n 1, 1) := dk_43 (dk_at dksJ36_moveRootToFront_4 14 rfl rfl)
theorem dJ36_moveRootToFront_109 : decode cJ36_moveRootToFront 109 = .ok (.invokestatic 30, 3) := dk_184 0 30 (dk_at dksJ36_moveRootToFront_4 15 rfl rfl)
theorem dJ36_moveRootToFront_112 : decode cJ36_moveRootToFront 112 = .ok (.ifCond .ne 11, 3) := dk_154 0 11 (dk_at dksJ36_moveRootToFront_4 18 rfl rfl)
theorem dJ36_moveRootToFront_115 : decode cJ36_moveRootToFront 115 = .ok (.new 34, 3) := dk_187 0 34 (dk_at dksJ36_moveRootToFront_4 21 rfl rfl)
theorem dJ36_moveRootToFront_118 : decode cJ36_moveRootToFront 118 = .ok (.dup, 1) := dk_89 (dk_at dksJ36_moveRootToFront_5 0 rfl rfl)
theorem dJ36_moveRootToFront_119 : decode cJ36_moveRootToFront 119 = .ok (.invokespecial 36, 3) := dk_183 0 36 (dk_at dksJ36_moveRootToFront_5 1 rfl rfl)
theorem dJ36_moveRootToFront_122 : decode cJ36_moveRootToFront 122 = .ok (.athrow, 1) := dk_191 (dk_at dksJ36_moveRootToFront_5 4 rfl rfl)
theorem dJ36_moveRootToFront_123 : decode cJ36_moveRootToFront 123 = .ok (.return_, 1) := dk_177 (dk_at dksJ36_moveRootToFront_5 5 rfl rfl)
abbrev cJ36_putTreeVal : ByteArray := prog_63_method_9_code
def yJ36_putTreeVal : MethodName := ⟨RJ36, "putTreeVal", "(Ljava/util/HashMap;[Ljava/util/HashMap$Node;ILjava/lang/Object;Ljava/lang/Object;)Ljava/util/HashMap$TreeNode;"⟩
def dkwJ36_putTreeVal_13 : List UInt8 := [184, 0, 100, 184, 0, 104, 1, 176, 167, 254, 228]
abbrev dktJ36_putTreeVal_13 : List UInt8 := dkwJ36_putTreeVal_13 ++ []
def dkwJ36_putTreeVal_12 : List UInt8 := [181, 0, 9, 25, 14, 198, 0, 13, 25, 14, 192, 0, 10, 25, 15, 181, 0, 19, 44, 25, 8, 25, 15]
abbrev dktJ36_putTreeVal_12 : List UInt8 := dkwJ36_putTreeVal_12 ++ dktJ36_putTreeVal_13
def dkwJ36_putTreeVal_11 : List UInt8 := [25, 15, 181, 0, 42, 25, 13, 25, 15, 181, 0, 22, 25, 15, 25, 15, 25, 13, 90, 181, 0, 19]
abbrev dktJ36_putTreeVal_11 : List UInt8 := dkwJ36_putTreeVal_11 ++ dktJ36_putTreeVal_12
def dkwJ36_putTreeVal_10 : List UInt8 := [25, 14, 182, 0, 115, 58, 15, 21, 10, 157, 0, 13, 25, 13, 25, 15, 181, 0, 39, 167, 0, 10, 25, 13]
abbrev dktJ36_putTreeVal_10 : List UInt8 := dkwJ36_putTreeVal_10 ++ dktJ36_putTreeVal_11
def dkwJ36_putTreeVal_9 : List UInt8 := [25, 9, 180, 0, 42, 89, 58, 9, 199, 0, 93, 25, 13, 180, 0, 22, 58, 14, 43, 29, 25, 4, 25, 5]
abbrev dktJ36_putTreeVal_9 : List UInt8 := dkwJ36_putTreeVal_9 ++ dktJ36_putTreeVal_10
def dkwJ36_putTreeVal_8 : List UInt8 := [25, 12, 184, 0, 96, 54, 10, 25, 9, 58, 13, 21, 10, 157, 0, 11, 25, 9, 180, 0, 39, 167, 0, 8]
abbrev dktJ36_putTreeVal_8 : List UInt8 := dkwJ36_putTreeVal_8 ++ dktJ36_putTreeVal_9
def dkwJ36_putTreeVal_7 : List UInt8 := [198, 0, 22, 25, 14, 29, 25, 4, 25, 6, 182, 0, 63, 89, 58, 13, 198, 0, 6, 25, 13, 176, 25, 4]
abbrev dktJ36_putTreeVal_7 : List UInt8 := dkwJ36_putTreeVal_7 ++ dktJ36_putTreeVal_8
def dkwJ36_putTreeVal_6 : List UInt8 := [29, 25, 4, 25, 6, 182, 0, 63, 89, 58, 13, 199, 0, 30, 25, 9, 180, 0, 42, 89, 58, 14]
abbrev dktJ36_putTreeVal_6 : List UInt8 := dkwJ36_putTreeVal_6 ++ dktJ36_putTreeVal_7
def dkwJ36_putTreeVal_5 : List UInt8 := [154, 0, 77, 21, 7, 154, 0, 63, 4, 54, 7, 25, 9, 180, 0, 39, 89, 58, 14, 198, 0, 19, 25, 14]
abbrev dktJ36_putTreeVal_5 : List UInt8 := dkwJ36_putTreeVal_5 ++ dktJ36_putTreeVal_6
def dkwJ36_putTreeVal_4 : List UInt8 := [25, 4, 184, 0, 55, 89, 58, 6, 198, 0, 18, 25, 6, 25, 4, 25, 12, 184, 0, 59, 89, 54, 10]
abbrev dktJ36_putTreeVal_4 : List UInt8 := dkwJ36_putTreeVal_4 ++ dktJ36_putTreeVal_5
def dkwJ36_putTreeVal_3 : List UInt8 := [25, 4, 198, 0, 16, 25, 4, 25, 12, 182, 0, 49, 153, 0, 6, 25, 9, 176, 25, 6, 199, 0, 14]
abbrev dktJ36_putTreeVal_3 : List UInt8 := dkwJ36_putTreeVal_3 ++ dktJ36_putTreeVal_4
def dkwJ36_putTreeVal_2 : List UInt8 := [29, 162, 0, 9, 4, 54, 10, 167, 0, 139, 25, 9, 180, 0, 45, 89, 58, 12, 25, 4, 165, 0, 18]
abbrev dktJ36_putTreeVal_2 : List UInt8 := dkwJ36_putTreeVal_2 ++ dktJ36_putTreeVal_3
def dkwJ36_putTreeVal_1 : List UInt8 := [25, 8, 58, 9, 25, 9, 180, 0, 15, 89, 54, 11, 29, 164, 0, 9, 2, 54, 10, 167, 0, 151, 21, 11]
abbrev dktJ36_putTreeVal_1 : List UInt8 := dkwJ36_putTreeVal_1 ++ dktJ36_putTreeVal_2
def dkwJ36_putTreeVal_0 : List UInt8 := [1, 58, 6, 3, 54, 7, 42, 180, 0, 9, 198, 0, 10, 42, 182, 0, 67, 167, 0, 4, 42, 58, 8]
abbrev dktJ36_putTreeVal_0 : List UInt8 := dkwJ36_putTreeVal_0 ++ dktJ36_putTreeVal_1
theorem dksJ36_putTreeVal_0 : cJ36_putTreeVal.data.toList.drop 0 = dktJ36_putTreeVal_0 := by decide +kernel
theorem dksJ36_putTreeVal_1 : cJ36_putTreeVal.data.toList.drop 23 = dktJ36_putTreeVal_1 := dk_seg dksJ36_putTreeVal_0 23 rfl rfl
theorem dksJ36_putTreeVal_2 : cJ36_putTreeVal.data.toList.drop 47 = dktJ36_putTreeVal_2 := dk_seg dksJ36_putTreeVal_1 24 rfl rfl
theorem dksJ36_putTreeVal_3 : cJ36_putTreeVal.data.toList.drop 70 = dktJ36_putTreeVal_3 := dk_seg dksJ36_putTreeVal_2 23 rfl rfl
theorem dksJ36_putTreeVal_4 : cJ36_putTreeVal.data.toList.drop 93 = dktJ36_putTreeVal_4 := dk_seg dksJ36_putTreeVal_3 23 rfl rfl
theorem dksJ36_putTreeVal_5 : cJ36_putTreeVal.data.toList.drop 116 = dktJ36_putTreeVal_5 := dk_seg dksJ36_putTreeVal_4 23 rfl rfl
theorem dksJ36_putTreeVal_6 : cJ36_putTreeVal.data.toList.drop 140 = dktJ36_putTreeVal_6 := dk_seg dksJ36_putTreeVal_5 24 rfl rfl
theorem dksJ36_putTreeVal_7 : cJ36_putTreeVal.data.toList.drop 162 = dktJ36_putTreeVal_7 := dk_seg dksJ36_putTreeVal_6 22 rfl rfl
theorem dksJ36_putTreeVal_8 : cJ36_putTreeVal.data.toList.drop 186 = dktJ36_putTreeVal_8 := dk_seg dksJ36_putTreeVal_7 24 rfl rfl
theorem dksJ36_putTreeVal_9 : cJ36_putTreeVal.data.toList.drop 210 = dktJ36_putTreeVal_9 := dk_seg dksJ36_putTreeVal_8 24 rfl rfl
theorem dksJ36_putTreeVal_10 : cJ36_putTreeVal.data.toList.drop 234 = dktJ36_putTreeVal_10 := dk_seg dksJ36_putTreeVal_9 24 rfl rfl
theorem dksJ36_putTreeVal_11 : cJ36_putTreeVal.data.toList.drop 258 = dktJ36_putTreeVal_11 := dk_seg dksJ36_putTreeVal_10 24 rfl rfl
theorem dksJ36_putTreeVal_12 : cJ36_putTreeVal.data.toList.drop 280 = dktJ36_putTreeVal_12 := dk_seg dksJ36_putTreeVal_11 22 rfl rfl
theorem dksJ36_putTreeVal_13 : cJ36_putTreeVal.data.toList.drop 303 = dktJ36_putTreeVal_13 := dk_seg dksJ36_putTreeVal_12 23 rfl rfl
theorem dJ36_putTreeVal_0 : decode cJ36_putTreeVal 0 = .ok (.aconst_null, 1) := dk_1 (dk_at dksJ36_putTreeVal_0 0 rfl rfl)
theorem dJ36_putTreeVal_1 : decode cJ36_putTreeVal 1 = .ok (.astore 6, 2) := dk_58 6 (dk_at dksJ36_putTreeVal_0 1 rfl rfl)
theorem dJ36_putTreeVal_3 : decode cJ36_putTreeVal 3 = .ok (.iconst 0, 1) := dk_3 (dk_at dksJ36_putTreeVal_0 3 rfl rfl)
theorem dJ36_putTreeVal_4 : decode cJ36_putTreeVal 4 = .ok (.istore 7, 2) := dk_54 7 (dk_at dksJ36_putTreeVal_0 4 rfl rfl)
theorem dJ36_putTreeVal_6 : decode cJ36_putTreeVal 6 = .ok (.aload_n 0, 1) := dk_42 (dk_at dksJ36_putTreeVal_0 6 rfl rfl)
theorem dJ36_putTreeVal_7 : decode cJ36_putTreeVal 7 = .ok (.getfield 9, 3) := dk_180 0 9 (dk_at dksJ36_putTreeVal_0 7 rfl rfl)
theorem dJ36_putTreeVal_10 : decode cJ36_putTreeVal 10 = .ok (.ifnull 10, 3) := dk_198 0 10 (dk_at dksJ36_putTreeVal_0 10 rfl rfl)
theorem dJ36_putTreeVal_13 : decode cJ36_putTreeVal 13 = .ok (.aload_n 0, 1) := dk_42 (dk_at dksJ36_putTreeVal_0 13 rfl rfl)
theorem dJ36_putTreeVal_14 : decode cJ36_putTreeVal 14 = .ok (.invokevirtual 67, 3) := dk_182 0 67 (dk_at dksJ36_putTreeVal_0 14 rfl rfl)
theorem dJ36_putTreeVal_17 : decode cJ36_putTreeVal 17 = .ok (.goto 4, 3) := dk_167 0 4 (dk_at dksJ36_putTreeVal_0 17 rfl rfl)
theorem dJ36_putTreeVal_20 : decode cJ36_putTreeVal 20 = .ok (.aload_n 0, 1) := dk_42 (dk_at dksJ36_putTreeVal_0 20 rfl rfl)
theorem dJ36_putTreeVal_21 : decode cJ36_putTreeVal 21 = .ok (.astore 8, 2) := dk_58 8 (dk_at dksJ36_putTreeVal_0 21 rfl rfl)
theorem dJ36_putTreeVal_23 : decode cJ36_putTreeVal 23 = .ok (.aload 8, 2) := dk_25 8 (dk_at dksJ36_putTreeVal_1 0 rfl rfl)
theorem dJ36_putTreeVal_25 : decode cJ36_putTreeVal 25 = .ok (.astore 9, 2) := dk_58 9 (dk_at dksJ36_putTreeVal_1 2 rfl rfl)
theorem dJ36_putTreeVal_27 : decode cJ36_putTreeVal 27 = .ok (.aload 9, 2) := dk_25 9 (dk_at dksJ36_putTreeVal_1 4 rfl rfl)
theorem dJ36_putTreeVal_29 : decode cJ36_putTreeVal 29 = .ok (.getfield 15, 3) := dk_180 0 15 (dk_at dksJ36_putTreeVal_1 6 rfl rfl)
theorem dJ36_putTreeVal_32 : decode cJ36_putTreeVal 32 = .ok (.dup, 1) := dk_89 (dk_at dksJ36_putTreeVal_1 9 rfl rfl)
theorem dJ36_putTreeVal_33 : decode cJ36_putTreeVal 33 = .ok (.istore 11, 2) := dk_54 11 (dk_at dksJ36_putTreeVal_1 10 rfl rfl)
theorem dJ36_putTreeVal_35 : decode cJ36_putTreeVal 35 = .ok (.iload_n 3, 1) := dk_29 (dk_at dksJ36_putTreeVal_1 12 rfl rfl)
theorem dJ36_putTreeVal_36 : decode cJ36_putTreeVal 36 = .ok (.if_icmp .le 9, 3) := dk_164 0 9 (dk_at dksJ36_putTreeVal_1 13 rfl rfl)
theorem dJ36_putTreeVal_39 : decode cJ36_putTreeVal 39 = .ok (.iconst (-1), 1) := dk_2 (dk_at dksJ36_putTreeVal_1 16 rfl rfl)
theorem dJ36_putTreeVal_40 : decode cJ36_putTreeVal 40 = .ok (.istore 10, 2) := dk_54 10 (dk_at dksJ36_putTreeVal_1 17 rfl rfl)
theorem dJ36_putTreeVal_42 : decode cJ36_putTreeVal 42 = .ok (.goto 151, 3) := dk_167 0 151 (dk_at dksJ36_putTreeVal_1 19 rfl rfl)
theorem dJ36_putTreeVal_45 : decode cJ36_putTreeVal 45 = .ok (.iload 11, 2) := dk_21 11 (dk_at dksJ36_putTreeVal_1 22 rfl rfl)
theorem dJ36_putTreeVal_47 : decode cJ36_putTreeVal 47 = .ok (.iload_n 3, 1) := dk_29 (dk_at dksJ36_putTreeVal_2 0 rfl rfl)
theorem dJ36_putTreeVal_48 : decode cJ36_putTreeVal 48 = .ok (.if_icmp .ge 9, 3) := dk_162 0 9 (dk_at dksJ36_putTreeVal_2 1 rfl rfl)
theorem dJ36_putTreeVal_51 : decode cJ36_putTreeVal 51 = .ok (.iconst 1, 1) := dk_4 (dk_at dksJ36_putTreeVal_2 4 rfl rfl)
theorem dJ36_putTreeVal_52 : decode cJ36_putTreeVal 52 = .ok (.istore 10, 2) := dk_54 10 (dk_at dksJ36_putTreeVal_2 5 rfl rfl)
theorem dJ36_putTreeVal_54 : decode cJ36_putTreeVal 54 = .ok (.goto 139, 3) := dk_167 0 139 (dk_at dksJ36_putTreeVal_2 7 rfl rfl)
theorem dJ36_putTreeVal_57 : decode cJ36_putTreeVal 57 = .ok (.aload 9, 2) := dk_25 9 (dk_at dksJ36_putTreeVal_2 10 rfl rfl)
theorem dJ36_putTreeVal_59 : decode cJ36_putTreeVal 59 = .ok (.getfield 45, 3) := dk_180 0 45 (dk_at dksJ36_putTreeVal_2 12 rfl rfl)
theorem dJ36_putTreeVal_62 : decode cJ36_putTreeVal 62 = .ok (.dup, 1) := dk_89 (dk_at dksJ36_putTreeVal_2 15 rfl rfl)
theorem dJ36_putTreeVal_63 : decode cJ36_putTreeVal 63 = .ok (.astore 12, 2) := dk_58 12 (dk_at dksJ36_putTreeVal_2 16 rfl rfl)
theorem dJ36_putTreeVal_65 : decode cJ36_putTreeVal 65 = .ok (.aload 4, 2) := dk_25 4 (dk_at dksJ36_putTreeVal_2 18 rfl rfl)
theorem dJ36_putTreeVal_67 : decode cJ36_putTreeVal 67 = .ok (.if_acmp .eq 18, 3) := dk_165 0 18 (dk_at dksJ36_putTreeVal_2 20 rfl rfl)
theorem dJ36_putTreeVal_70 : decode cJ36_putTreeVal 70 = .ok (.aload 4, 2) := dk_25 4 (dk_at dksJ36_putTreeVal_3 0 rfl rfl)
theorem dJ36_putTreeVal_72 : decode cJ36_putTreeVal 72 = .ok (.ifnull 16, 3) := dk_198 0 16 (dk_at dksJ36_putTreeVal_3 2 rfl rfl)
theorem dJ36_putTreeVal_75 : decode cJ36_putTreeVal 75 = .ok (.aload 4, 2) := dk_25 4 (dk_at dksJ36_putTreeVal_3 5 rfl rfl)
theorem dJ36_putTreeVal_77 : decode cJ36_putTreeVal 77 = .ok (.aload 12, 2) := dk_25 12 (dk_at dksJ36_putTreeVal_3 7 rfl rfl)
theorem dJ36_putTreeVal_79 : decode cJ36_putTreeVal 79 = .ok (.invokevirtual 49, 3) := dk_182 0 49 (dk_at dksJ36_putTreeVal_3 9 rfl rfl)
theorem dJ36_putTreeVal_82 : decode cJ36_putTreeVal 82 = .ok (.ifCond .eq 6, 3) := dk_153 0 6 (dk_at dksJ36_putTreeVal_3 12 rfl rfl)
theorem dJ36_putTreeVal_85 : decode cJ36_putTreeVal 85 = .ok (.aload 9, 2) := dk_25 9 (dk_at dksJ36_putTreeVal_3 15 rfl rfl)
theorem dJ36_putTreeVal_87 : decode cJ36_putTreeVal 87 = .ok (.areturn, 1) := dk_176 (dk_at dksJ36_putTreeVal_3 17 rfl rfl)
theorem dJ36_putTreeVal_88 : decode cJ36_putTreeVal 88 = .ok (.aload 6, 2) := dk_25 6 (dk_at dksJ36_putTreeVal_3 18 rfl rfl)
theorem dJ36_putTreeVal_90 : decode cJ36_putTreeVal 90 = .ok (.ifnonnull 14, 3) := dk_199 0 14 (dk_at dksJ36_putTreeVal_3 20 rfl rfl)
theorem dJ36_putTreeVal_93 : decode cJ36_putTreeVal 93 = .ok (.aload 4, 2) := dk_25 4 (dk_at dksJ36_putTreeVal_4 0 rfl rfl)
theorem dJ36_putTreeVal_95 : decode cJ36_putTreeVal 95 = .ok (.invokestatic 55, 3) := dk_184 0 55 (dk_at dksJ36_putTreeVal_4 2 rfl rfl)
theorem dJ36_putTreeVal_98 : decode cJ36_putTreeVal 98 = .ok (.dup, 1) := dk_89 (dk_at dksJ36_putTreeVal_4 5 rfl rfl)
theorem dJ36_putTreeVal_99 : decode cJ36_putTreeVal 99 = .ok (.astore 6, 2) := dk_58 6 (dk_at dksJ36_putTreeVal_4 6 rfl rfl)
theorem dJ36_putTreeVal_101 : decode cJ36_putTreeVal 101 = .ok (.ifnull 18, 3) := dk_198 0 18 (dk_at dksJ36_putTreeVal_4 8 rfl rfl)
theorem dJ36_putTreeVal_104 : decode cJ36_putTreeVal 104 = .ok (.aload 6, 2) := dk_25 6 (dk_at dksJ36_putTreeVal_4 11 rfl rfl)
theorem dJ36_putTreeVal_106 : decode cJ36_putTreeVal 106 = .ok (.aload 4, 2) := dk_25 4 (dk_at dksJ36_putTreeVal_4 13 rfl rfl)
theorem dJ36_putTreeVal_108 : decode cJ36_putTreeVal 108 = .ok (.aload 12, 2) := dk_25 12 (dk_at dksJ36_putTreeVal_4 15 rfl rfl)
theorem dJ36_putTreeVal_110 : decode cJ36_putTreeVal 110 = .ok (.invokestatic 59, 3) := dk_184 0 59 (dk_at dksJ36_putTreeVal_4 17 rfl rfl)
theorem dJ36_putTreeVal_113 : decode cJ36_putTreeVal 113 = .ok (.dup, 1) := dk_89 (dk_at dksJ36_putTreeVal_4 20 rfl rfl)
theorem dJ36_putTreeVal_114 : decode cJ36_putTreeVal 114 = .ok (.istore 10, 2) := dk_54 10 (dk_at dksJ36_putTreeVal_4 21 rfl rfl)
theorem dJ36_putTreeVal_116 : decode cJ36_putTreeVal 116 = .ok (.ifCond .ne 77, 3) := dk_154 0 77 (dk_at dksJ36_putTreeVal_5 0 rfl rfl)
theorem dJ36_putTreeVal_119 : decode cJ36_putTreeVal 119 = .ok (.iload 7, 2) := dk_21 7 (dk_at dksJ36_putTreeVal_5 3 rfl rfl)
theorem dJ36_putTreeVal_121 : decode cJ36_putTreeVal 121 = .ok (.ifCond .ne 63, 3) := dk_154 0 63 (dk_at dksJ36_putTreeVal_5 5 rfl rfl)
theorem dJ36_putTreeVal_124 : decode cJ36_putTreeVal 124 = .ok (.iconst 1, 1) := dk_4 (dk_at dksJ36_putTreeVal_5 8 rfl rfl)
theorem dJ36_putTreeVal_125 : decode cJ36_putTreeVal 125 = .ok (.istore 7, 2) := dk_54 7 (dk_at dksJ36_putTreeVal_5 9 rfl rfl)
theorem dJ36_putTreeVal_127 : decode cJ36_putTreeVal 127 = .ok (.aload 9, 2) := dk_25 9 (dk_at dksJ36_putTreeVal_5 11 rfl rfl)
theorem dJ36_putTreeVal_129 : decode cJ36_putTreeVal 129 = .ok (.getfield 39, 3) := dk_180 0 39 (dk_at dksJ36_putTreeVal_5 13 rfl rfl)
theorem dJ36_putTreeVal_132 : decode cJ36_putTreeVal 132 = .ok (.dup, 1) := dk_89 (dk_at dksJ36_putTreeVal_5 16 rfl rfl)
theorem dJ36_putTreeVal_133 : decode cJ36_putTreeVal 133 = .ok (.astore 14, 2) := dk_58 14 (dk_at dksJ36_putTreeVal_5 17 rfl rfl)
theorem dJ36_putTreeVal_135 : decode cJ36_putTreeVal 135 = .ok (.ifnull 19, 3) := dk_198 0 19 (dk_at dksJ36_putTreeVal_5 19 rfl rfl)
theorem dJ36_putTreeVal_138 : decode cJ36_putTreeVal 138 = .ok (.aload 14, 2) := dk_25 14 (dk_at dksJ36_putTreeVal_5 22 rfl rfl)
theorem dJ36_putTreeVal_140 : decode cJ36_putTreeVal 140 = .ok (.iload_n 3, 1) := dk_29 (dk_at dksJ36_putTreeVal_6 0 rfl rfl)
theorem dJ36_putTreeVal_141 : decode cJ36_putTreeVal 141 = .ok (.aload 4, 2) := dk_25 4 (dk_at dksJ36_putTreeVal_6 1 rfl rfl)
theorem dJ36_putTreeVal_143 : decode cJ36_putTreeVal 143 = .ok (.aload 6, 2) := dk_25 6 (dk_at dksJ36_putTreeVal_6 3 rfl rfl)
theorem dJ36_putTreeVal_145 : decode cJ36_putTreeVal 145 = .ok (.invokevirtual 63, 3) := dk_182 0 63 (dk_at dksJ36_putTreeVal_6 5 rfl rfl)
theorem dJ36_putTreeVal_148 : decode cJ36_putTreeVal 148 = .ok (.dup, 1) := dk_89 (dk_at dksJ36_putTreeVal_6 8 rfl rfl)
theorem dJ36_putTreeVal_149 : decode cJ36_putTreeVal 149 = .ok (.astore 13, 2) := dk_58 13 (dk_at dksJ36_putTreeVal_6 9 rfl rfl)
theorem dJ36_putTreeVal_151 : decode cJ36_putTreeVal 151 = .ok (.ifnonnull 30, 3) := dk_199 0 30 (dk_at dksJ36_putTreeVal_6 11 rfl rfl)
theorem dJ36_putTreeVal_154 : decode cJ36_putTreeVal 154 = .ok (.aload 9, 2) := dk_25 9 (dk_at dksJ36_putTreeVal_6 14 rfl rfl)
theorem dJ36_putTreeVal_156 : decode cJ36_putTreeVal 156 = .ok (.getfield 42, 3) := dk_180 0 42 (dk_at dksJ36_putTreeVal_6 16 rfl rfl)
theorem dJ36_putTreeVal_159 : decode cJ36_putTreeVal 159 = .ok (.dup, 1) := dk_89 (dk_at dksJ36_putTreeVal_6 19 rfl rfl)
theorem dJ36_putTreeVal_160 : decode cJ36_putTreeVal 160 = .ok (.astore 14, 2) := dk_58 14 (dk_at dksJ36_putTreeVal_6 20 rfl rfl)
theorem dJ36_putTreeVal_162 : decode cJ36_putTreeVal 162 = .ok (.ifnull 22, 3) := dk_198 0 22 (dk_at dksJ36_putTreeVal_7 0 rfl rfl)
theorem dJ36_putTreeVal_165 : decode cJ36_putTreeVal 165 = .ok (.aload 14, 2) := dk_25 14 (dk_at dksJ36_putTreeVal_7 3 rfl rfl)
theorem dJ36_putTreeVal_167 : decode cJ36_putTreeVal 167 = .ok (.iload_n 3, 1) := dk_29 (dk_at dksJ36_putTreeVal_7 5 rfl rfl)
theorem dJ36_putTreeVal_168 : decode cJ36_putTreeVal 168 = .ok (.aload 4, 2) := dk_25 4 (dk_at dksJ36_putTreeVal_7 6 rfl rfl)
theorem dJ36_putTreeVal_170 : decode cJ36_putTreeVal 170 = .ok (.aload 6, 2) := dk_25 6 (dk_at dksJ36_putTreeVal_7 8 rfl rfl)
theorem dJ36_putTreeVal_172 : decode cJ36_putTreeVal 172 = .ok (.invokevirtual 63, 3) := dk_182 0 63 (dk_at dksJ36_putTreeVal_7 10 rfl rfl)
theorem dJ36_putTreeVal_175 : decode cJ36_putTreeVal 175 = .ok (.dup, 1) := dk_89 (dk_at dksJ36_putTreeVal_7 13 rfl rfl)
theorem dJ36_putTreeVal_176 : decode cJ36_putTreeVal 176 = .ok (.astore 13, 2) := dk_58 13 (dk_at dksJ36_putTreeVal_7 14 rfl rfl)
theorem dJ36_putTreeVal_178 : decode cJ36_putTreeVal 178 = .ok (.ifnull 6, 3) := dk_198 0 6 (dk_at dksJ36_putTreeVal_7 16 rfl rfl)
theorem dJ36_putTreeVal_181 : decode cJ36_putTreeVal 181 = .ok (.aload 13, 2) := dk_25 13 (dk_at dksJ36_putTreeVal_7 19 rfl rfl)
theorem dJ36_putTreeVal_183 : decode cJ36_putTreeVal 183 = .ok (.areturn, 1) := dk_176 (dk_at dksJ36_putTreeVal_7 21 rfl rfl)
theorem dJ36_putTreeVal_184 : decode cJ36_putTreeVal 184 = .ok (.aload 4, 2) := dk_25 4 (dk_at dksJ36_putTreeVal_7 22 rfl rfl)
theorem dJ36_putTreeVal_186 : decode cJ36_putTreeVal 186 = .ok (.aload 12, 2) := dk_25 12 (dk_at dksJ36_putTreeVal_8 0 rfl rfl)
theorem dJ36_putTreeVal_188 : decode cJ36_putTreeVal 188 = .ok (.invokestatic 96, 3) := dk_184 0 96 (dk_at dksJ36_putTreeVal_8 2 rfl rfl)
theorem dJ36_putTreeVal_191 : decode cJ36_putTreeVal 191 = .ok (.istore 10, 2) := dk_54 10 (dk_at dksJ36_putTreeVal_8 5 rfl rfl)
theorem dJ36_putTreeVal_193 : decode cJ36_putTreeVal 193 = .ok (.aload 9, 2) := dk_25 9 (dk_at dksJ36_putTreeVal_8 7 rfl rfl)
theorem dJ36_putTreeVal_195 : decode cJ36_putTreeVal 195 = .ok (.astore 13, 2) := dk_58 13 (dk_at dksJ36_putTreeVal_8 9 rfl rfl)
theorem dJ36_putTreeVal_197 : decode cJ36_putTreeVal 197 = .ok (.iload 10, 2) := dk_21 10 (dk_at dksJ36_putTreeVal_8 11 rfl rfl)
theorem dJ36_putTreeVal_199 : decode cJ36_putTreeVal 199 = .ok (.ifCond .gt 11, 3) := dk_157 0 11 (dk_at dksJ36_putTreeVal_8 13 rfl rfl)
theorem dJ36_putTreeVal_202 : decode cJ36_putTreeVal 202 = .ok (.aload 9, 2) := dk_25 9 (dk_at dksJ36_putTreeVal_8 16 rfl rfl)
theorem dJ36_putTreeVal_204 : decode cJ36_putTreeVal 204 = .ok (.getfield 39, 3) := dk_180 0 39 (dk_at dksJ36_putTreeVal_8 18 rfl rfl)
theorem dJ36_putTreeVal_207 : decode cJ36_putTreeVal 207 = .ok (.goto 8, 3) := dk_167 0 8 (dk_at dksJ36_putTreeVal_8 21 rfl rfl)
theorem dJ36_putTreeVal_210 : decode cJ36_putTreeVal 210 = .ok (.aload 9, 2) := dk_25 9 (dk_at dksJ36_putTreeVal_9 0 rfl rfl)
theorem dJ36_putTreeVal_212 : decode cJ36_putTreeVal 212 = .ok (.getfield 42, 3) := dk_180 0 42 (dk_at dksJ36_putTreeVal_9 2 rfl rfl)
theorem dJ36_putTreeVal_215 : decode cJ36_putTreeVal 215 = .ok (.dup, 1) := dk_89 (dk_at dksJ36_putTreeVal_9 5 rfl rfl)
theorem dJ36_putTreeVal_216 : decode cJ36_putTreeVal 216 = .ok (.astore 9, 2) := dk_58 9 (dk_at dksJ36_putTreeVal_9 6 rfl rfl)
theorem dJ36_putTreeVal_218 : decode cJ36_putTreeVal 218 = .ok (.ifnonnull 93, 3) := dk_199 0 93 (dk_at dksJ36_putTreeVal_9 8 rfl rfl)
theorem dJ36_putTreeVal_221 : decode cJ36_putTreeVal 221 = .ok (.aload 13, 2) := dk_25 13 (dk_at dksJ36_putTreeVal_9 11 rfl rfl)
theorem dJ36_putTreeVal_223 : decode cJ36_putTreeVal 223 = .ok (.getfield 22, 3) := dk_180 0 22 (dk_at dksJ36_putTreeVal_9 13 rfl rfl)
theorem dJ36_putTreeVal_226 : decode cJ36_putTreeVal 226 = .ok (.astore 14, 2) := dk_58 14 (dk_at dksJ36_putTreeVal_9 16 rfl rfl)
theorem dJ36_putTreeVal_228 : decode cJ36_putTreeVal 228 = .ok (.aload_n 1, 1) := dk_43 (dk_at dksJ36_putTreeVal_9 18 rfl rfl)
theorem dJ36_putTreeVal_229 : decode cJ36_putTreeVal 229 = .ok (.iload_n 3, 1) := dk_29 (dk_at dksJ36_putTreeVal_9 19 rfl rfl)
theorem dJ36_putTreeVal_230 : decode cJ36_putTreeVal 230 = .ok (.aload 4, 2) := dk_25 4 (dk_at dksJ36_putTreeVal_9 20 rfl rfl)
theorem dJ36_putTreeVal_232 : decode cJ36_putTreeVal 232 = .ok (.aload 5, 2) := dk_25 5 (dk_at dksJ36_putTreeVal_9 22 rfl rfl)
theorem dJ36_putTreeVal_234 : decode cJ36_putTreeVal 234 = .ok (.aload 14, 2) := dk_25 14 (dk_at dksJ36_putTreeVal_10 0 rfl rfl)
theorem dJ36_putTreeVal_236 : decode cJ36_putTreeVal 236 = .ok (.invokevirtual 115, 3) := dk_182 0 115 (dk_at dksJ36_putTreeVal_10 2 rfl rfl)
theorem dJ36_putTreeVal_239 : decode cJ36_putTreeVal 239 = .ok (.astore 15, 2) := dk_58 15 (dk_at dksJ36_putTreeVal_10 5 rfl rfl)
theorem dJ36_putTreeVal_241 : decode cJ36_putTreeVal 241 = .ok (.iload 10, 2) := dk_21 10 (dk_at dksJ36_putTreeVal_10 7 rfl rfl)
theorem dJ36_putTreeVal_243 : decode cJ36_putTreeVal 243 = .ok (.ifCond .gt 13, 3) := dk_157 0 13 (dk_at dksJ36_putTreeVal_10 9 rfl rfl)
theorem dJ36_putTreeVal_246 : decode cJ36_putTreeVal 246 = .ok (.aload 13, 2) := dk_25 13 (dk_at dksJ36_putTreeVal_10 12 rfl rfl)
theorem dJ36_putTreeVal_248 : decode cJ36_putTreeVal 248 = .ok (.aload 15, 2) := dk_25 15 (dk_at dksJ36_putTreeVal_10 14 rfl rfl)
theorem dJ36_putTreeVal_250 : decode cJ36_putTreeVal 250 = .ok (.putfield 39, 3) := dk_181 0 39 (dk_at dksJ36_putTreeVal_10 16 rfl rfl)
theorem dJ36_putTreeVal_253 : decode cJ36_putTreeVal 253 = .ok (.goto 10, 3) := dk_167 0 10 (dk_at dksJ36_putTreeVal_10 19 rfl rfl)
theorem dJ36_putTreeVal_256 : decode cJ36_putTreeVal 256 = .ok (.aload 13, 2) := dk_25 13 (dk_at dksJ36_putTreeVal_10 22 rfl rfl)
theorem dJ36_putTreeVal_258 : decode cJ36_putTreeVal 258 = .ok (.aload 15, 2) := dk_25 15 (dk_at dksJ36_putTreeVal_11 0 rfl rfl)
theorem dJ36_putTreeVal_260 : decode cJ36_putTreeVal 260 = .ok (.putfield 42, 3) := dk_181 0 42 (dk_at dksJ36_putTreeVal_11 2 rfl rfl)
theorem dJ36_putTreeVal_263 : decode cJ36_putTreeVal 263 = .ok (.aload 13, 2) := dk_25 13 (dk_at dksJ36_putTreeVal_11 5 rfl rfl)
theorem dJ36_putTreeVal_265 : decode cJ36_putTreeVal 265 = .ok (.aload 15, 2) := dk_25 15 (dk_at dksJ36_putTreeVal_11 7 rfl rfl)
theorem dJ36_putTreeVal_267 : decode cJ36_putTreeVal 267 = .ok (.putfield 22, 3) := dk_181 0 22 (dk_at dksJ36_putTreeVal_11 9 rfl rfl)
theorem dJ36_putTreeVal_270 : decode cJ36_putTreeVal 270 = .ok (.aload 15, 2) := dk_25 15 (dk_at dksJ36_putTreeVal_11 12 rfl rfl)
theorem dJ36_putTreeVal_272 : decode cJ36_putTreeVal 272 = .ok (.aload 15, 2) := dk_25 15 (dk_at dksJ36_putTreeVal_11 14 rfl rfl)
theorem dJ36_putTreeVal_274 : decode cJ36_putTreeVal 274 = .ok (.aload 13, 2) := dk_25 13 (dk_at dksJ36_putTreeVal_11 16 rfl rfl)
theorem dJ36_putTreeVal_276 : decode cJ36_putTreeVal 276 = .ok (.dup_x1, 1) := dk_90 (dk_at dksJ36_putTreeVal_11 18 rfl rfl)
theorem dJ36_putTreeVal_277 : decode cJ36_putTreeVal 277 = .ok (.putfield 19, 3) := dk_181 0 19 (dk_at dksJ36_putTreeVal_11 19 rfl rfl)
theorem dJ36_putTreeVal_280 : decode cJ36_putTreeVal 280 = .ok (.putfield 9, 3) := dk_181 0 9 (dk_at dksJ36_putTreeVal_12 0 rfl rfl)
theorem dJ36_putTreeVal_283 : decode cJ36_putTreeVal 283 = .ok (.aload 14, 2) := dk_25 14 (dk_at dksJ36_putTreeVal_12 3 rfl rfl)
theorem dJ36_putTreeVal_285 : decode cJ36_putTreeVal 285 = .ok (.ifnull 13, 3) := dk_198 0 13 (dk_at dksJ36_putTreeVal_12 5 rfl rfl)
theorem dJ36_putTreeVal_288 : decode cJ36_putTreeVal 288 = .ok (.aload 14, 2) := dk_25 14 (dk_at dksJ36_putTreeVal_12 8 rfl rfl)
theorem dJ36_putTreeVal_290 : decode cJ36_putTreeVal 290 = .ok (.checkcast 10, 3) := dk_192 0 10 (dk_at dksJ36_putTreeVal_12 10 rfl rfl)
theorem dJ36_putTreeVal_293 : decode cJ36_putTreeVal 293 = .ok (.aload 15, 2) := dk_25 15 (dk_at dksJ36_putTreeVal_12 13 rfl rfl)
theorem dJ36_putTreeVal_295 : decode cJ36_putTreeVal 295 = .ok (.putfield 19, 3) := dk_181 0 19 (dk_at dksJ36_putTreeVal_12 15 rfl rfl)
theorem dJ36_putTreeVal_298 : decode cJ36_putTreeVal 298 = .ok (.aload_n 2, 1) := dk_44 (dk_at dksJ36_putTreeVal_12 18 rfl rfl)
theorem dJ36_putTreeVal_299 : decode cJ36_putTreeVal 299 = .ok (.aload 8, 2) := dk_25 8 (dk_at dksJ36_putTreeVal_12 19 rfl rfl)
theorem dJ36_putTreeVal_301 : decode cJ36_putTreeVal 301 = .ok (.aload 15, 2) := dk_25 15 (dk_at dksJ36_putTreeVal_12 21 rfl rfl)
theorem dJ36_putTreeVal_303 : decode cJ36_putTreeVal 303 = .ok (.invokestatic 100, 3) := dk_184 0 100 (dk_at dksJ36_putTreeVal_13 0 rfl rfl)
theorem dJ36_putTreeVal_306 : decode cJ36_putTreeVal 306 = .ok (.invokestatic 104, 3) := dk_184 0 104 (dk_at dksJ36_putTreeVal_13 3 rfl rfl)
theorem dJ36_putTreeVal_309 : decode cJ36_putTreeVal 309 = .ok (.aconst_null, 1) := dk_1 (dk_at dksJ36_putTreeVal_13 6 rfl rfl)
theorem dJ36_putTreeVal_310 : decode cJ36_putTreeVal 310 = .ok (.areturn, 1) := dk_176 (dk_at dksJ36_putTreeVal_13 7 rfl rfl)
theorem dJ36_putTreeVal_311 : decode cJ36_putTreeVal 311 = .ok (.goto (-284), 3) := dk_167 254 228 (dk_at dksJ36_putTreeVal_13 8 rfl rfl)
abbrev cJ36_init : ByteArray := prog_63_method_1_code
def yJ36_init : MethodName := ⟨RJ36, "<init>", "(ILjava/lang/Object;Ljava/lang/Object;Ljava/util/HashMap$Node;)V"⟩
def dkwJ36_init_0 : List UInt8 := [42, 27, 44, 45, 25, 4, 183, 0, 3, 177]
abbrev dktJ36_init_0 : List UInt8 := dkwJ36_init_0 ++ []
theorem dksJ36_init_0 : cJ36_init.data.toList.drop 0 = dktJ36_init_0 := by decide +kernel
theorem dJ36_init_0 : decode cJ36_init 0 = .ok (.aload_n 0, 1) := dk_42 (dk_at dksJ36_init_0 0 rfl rfl)
theorem dJ36_init_1 : decode cJ36_init 1 = .ok (.iload_n 1, 1) := dk_27 (dk_at dksJ36_init_0 1 rfl rfl)
theorem dJ36_init_2 : decode cJ36_init 2 = .ok (.aload_n 2, 1) := dk_44 (dk_at dksJ36_init_0 2 rfl rfl)
theorem dJ36_init_3 : decode cJ36_init 3 = .ok (.aload_n 3, 1) := dk_45 (dk_at dksJ36_init_0 3 rfl rfl)
theorem dJ36_init_4 : decode cJ36_init 4 = .ok (.aload 4, 2) := dk_25 4 (dk_at dksJ36_init_0 4 rfl rfl)
theorem dJ36_init_6 : decode cJ36_init 6 = .ok (.invokespecial 3, 3) := dk_183 0 3 (dk_at dksJ36_init_0 6 rfl rfl)
theorem dJ36_init_9 : decode cJ36_init 9 = .ok (.return_, 1) := dk_177 (dk_at dksJ36_init_0 9 rfl rfl)
theorem q155 : (Jvm.Cond.initialized "java/util/HashMap$TreeNode") ∈ lw_all := lw_g (lw_at lw_m1 49 rfl) rfl
theorem q564 : (Jvm.Cond.selects "java/util/HashMap$TreeNode" ({ cls := "java/util/LinkedHashMap$Entry", name := "getKey", desc := "()Ljava/lang/Object;" } : Jvm.MethodName) ({ cls := "java/util/HashMap$Node", name := "getKey", desc := "()Ljava/lang/Object;" } : Jvm.MethodName)) ∈ lw_all := lw_g (lw_at lw_m2 218 rfl) rfl
theorem q632 : (Jvm.Cond.selects "java/util/HashMap$TreeNode" ({ cls := "java/lang/Object", name := "getClass", desc := "()Ljava/lang/Class;" } : Jvm.MethodName) ({ cls := "java/lang/Object", name := "getClass", desc := "()Ljava/lang/Class;" } : Jvm.MethodName)) ∈ lw_all := lw_g (lw_at lw_m3 46 rfl) rfl
theorem q1069 : (Jvm.Cond.instanceMethod ({ cls := "java/util/HashMap$TreeNode", name := "getTreeNode", desc := "(ILjava/lang/Object;)Ljava/util/HashMap$TreeNode;" } : Jvm.MethodName)) ∈ lw_all := lw_g (lw_at lw_m5 3 rfl) rfl
theorem q1070 : (Jvm.Cond.selects "java/util/HashMap$TreeNode" ({ cls := "java/util/HashMap$TreeNode", name := "getTreeNode", desc := "(ILjava/lang/Object;)Ljava/util/HashMap$TreeNode;" } : Jvm.MethodName) ({ cls := "java/util/HashMap$TreeNode", name := "getTreeNode", desc := "(ILjava/lang/Object;)Ljava/util/HashMap$TreeNode;" } : Jvm.MethodName)) ∈ lw_all := lw_g (lw_at lw_m5 4 rfl) rfl
theorem q1071 : (Jvm.Cond.code ({ cls := "java/util/HashMap$TreeNode", name := "getTreeNode", desc := "(ILjava/lang/Object;)Ljava/util/HashMap$TreeNode;" } : Jvm.MethodName) prog_63_method_5_code (3 : Nat) (Option.some (Jvm.ClassFile.FieldType.object "java/util/HashMap$TreeNode"))) ∈ lw_all := lw_g (lw_at lw_m5 5 rfl) rfl
theorem q1072 : (Jvm.Cond.methodLink "java/util/HashMap$TreeNode" (67 : Nat) ({ cls := "java/util/HashMap$TreeNode", name := "root", desc := "()Ljava/util/HashMap$TreeNode;" } : Jvm.MethodName)) ∈ lw_all := lw_g (lw_at lw_m5 6 rfl) rfl
theorem q1073 : (Jvm.Cond.instanceMethod ({ cls := "java/util/HashMap$TreeNode", name := "root", desc := "()Ljava/util/HashMap$TreeNode;" } : Jvm.MethodName)) ∈ lw_all := lw_g (lw_at lw_m5 7 rfl) rfl
theorem q1074 : (Jvm.Cond.selects "java/util/HashMap$TreeNode" ({ cls := "java/util/HashMap$TreeNode", name := "root", desc := "()Ljava/util/HashMap$TreeNode;" } : Jvm.MethodName) ({ cls := "java/util/HashMap$TreeNode", name := "root", desc := "()Ljava/util/HashMap$TreeNode;" } : Jvm.MethodName)) ∈ lw_all := lw_g (lw_at lw_m5 8 rfl) rfl
theorem q1075 : (Jvm.Cond.code ({ cls := "java/util/HashMap$TreeNode", name := "root", desc := "()Ljava/util/HashMap$TreeNode;" } : Jvm.MethodName) prog_63_method_2_code (3 : Nat) (Option.some (Jvm.ClassFile.FieldType.object "java/util/HashMap$TreeNode"))) ∈ lw_all := lw_g (lw_at lw_m5 9 rfl) rfl
theorem q1076 : (Jvm.Cond.methodLink "java/util/HashMap$TreeNode" (63 : Nat) ({ cls := "java/util/HashMap$TreeNode", name := "find", desc := "(ILjava/lang/Object;Ljava/lang/Class;)Ljava/util/HashMap$TreeNode;" } : Jvm.MethodName)) ∈ lw_all := lw_g (lw_at lw_m5 10 rfl) rfl
theorem q1077 : (Jvm.Cond.instanceMethod ({ cls := "java/util/HashMap$TreeNode", name := "find", desc := "(ILjava/lang/Object;Ljava/lang/Class;)Ljava/util/HashMap$TreeNode;" } : Jvm.MethodName)) ∈ lw_all := lw_g (lw_at lw_m5 11 rfl) rfl
theorem q1078 : (Jvm.Cond.selects "java/util/HashMap$TreeNode" ({ cls := "java/util/HashMap$TreeNode", name := "find", desc := "(ILjava/lang/Object;Ljava/lang/Class;)Ljava/util/HashMap$TreeNode;" } : Jvm.MethodName) ({ cls := "java/util/HashMap$TreeNode", name := "find", desc := "(ILjava/lang/Object;Ljava/lang/Class;)Ljava/util/HashMap$TreeNode;" } : Jvm.MethodName)) ∈ lw_all := lw_g (lw_at lw_m5 12 rfl) rfl
theorem q1079 : (Jvm.Cond.code ({ cls := "java/util/HashMap$TreeNode", name := "find", desc := "(ILjava/lang/Object;Ljava/lang/Class;)Ljava/util/HashMap$TreeNode;" } : Jvm.MethodName) prog_63_method_4_code (11 : Nat) (Option.some (Jvm.ClassFile.FieldType.object "java/util/HashMap$TreeNode"))) ∈ lw_all := lw_g (lw_at lw_m5 13 rfl) rfl
theorem q1080 : (Jvm.Cond.methodLink "java/util/HashMap$TreeNode" (49 : Nat) ({ cls := "java/lang/Object", name := "equals", desc := "(Ljava/lang/Object;)Z" } : Jvm.MethodName)) ∈ lw_all := lw_g (lw_at lw_m5 14 rfl) rfl
theorem q1081 : (Jvm.Cond.methodLink "java/util/HashMap$TreeNode" (55 : Nat) ({ cls := "java/util/HashMap", name := "comparableClassFor", desc := "(Ljava/lang/Object;)Ljava/lang/Class;" } : Jvm.MethodName)) ∈ lw_all := lw_g (lw_at lw_m5 15 rfl) rfl
theorem q1087 : (Jvm.Cond.methodLink "java/util/HashMap$TreeNode" (59 : Nat) ({ cls := "java/util/HashMap", name := "compareComparables", desc := "(Ljava/lang/Class;Ljava/lang/Object;Ljava/lang/Object;)I" } : Jvm.MethodName)) ∈ lw_all := lw_g (lw_at lw_m5 21 rfl) rfl
theorem q1878 : (Jvm.Cond.instanceMethod ({ cls := "java/util/HashMap$TreeNode", name := "split", desc := "(Ljava/util/HashMap;[Ljava/util/HashMap$Node;II)V" } : Jvm.MethodName)) ∈ lw_all := lw_g (lw_at lw_m8 92 rfl) rfl
theorem q1879 : (Jvm.Cond.selects "java/util/HashMap$TreeNode" ({ cls := "java/util/HashMap$TreeNode", name := "split", desc := "(Ljava/util/HashMap;[Ljava/util/HashMap$Node;II)V" } : Jvm.MethodName) ({ cls := "java/util/HashMap$TreeNode", name := "split", desc := "(Ljava/util/HashMap;[Ljava/util/HashMap$Node;II)V" } : Jvm.MethodName)) ∈ lw_all := lw_g (lw_at lw_m8 93 rfl) rfl
theorem q1880 : (Jvm.Cond.code ({ cls := "java/util/HashMap$TreeNode", name := "split", desc := "(Ljava/util/HashMap;[Ljava/util/HashMap$Node;II)V" } : Jvm.MethodName) prog_63_method_11_code (14 : Nat) (Option.none : Option Jvm.ClassFile.FieldType)) ∈ lw_all := lw_g (lw_at lw_m8 94 rfl) rfl
theorem q1881 : (Jvm.Cond.classLink "java/util/HashMap$TreeNode" (10 : Nat) "java/util/HashMap$TreeNode") ∈ lw_all := lw_g (lw_at lw_m8 95 rfl) rfl
theorem q1882 : (Jvm.Cond.methodLink "java/util/HashMap$TreeNode" (119 : Nat) ({ cls := "java/util/HashMap$TreeNode", name := "untreeify", desc := "(Ljava/util/HashMap;)Ljava/util/HashMap$Node;" } : Jvm.MethodName)) ∈ lw_all := lw_g (lw_at lw_m8 96 rfl) rfl
theorem q1883 : (Jvm.Cond.instanceMethod ({ cls := "java/util/HashMap$TreeNode", name := "untreeify", desc := "(Ljava/util/HashMap;)Ljava/util/HashMap$Node;" } : Jvm.MethodName)) ∈ lw_all := lw_g (lw_at lw_m8 97 rfl) rfl
theorem q1884 : (Jvm.Cond.selects "java/util/HashMap$TreeNode" ({ cls := "java/util/HashMap$TreeNode", name := "untreeify", desc := "(Ljava/util/HashMap;)Ljava/util/HashMap$Node;" } : Jvm.MethodName) ({ cls := "java/util/HashMap$TreeNode", name := "untreeify", desc := "(Ljava/util/HashMap;)Ljava/util/HashMap$Node;" } : Jvm.MethodName)) ∈ lw_all := lw_g (lw_at lw_m8 98 rfl) rfl
theorem q1885 : (Jvm.Cond.code ({ cls := "java/util/HashMap$TreeNode", name := "untreeify", desc := "(Ljava/util/HashMap;)Ljava/util/HashMap$Node;" } : Jvm.MethodName) prog_63_method_8_code (6 : Nat) (Option.some (Jvm.ClassFile.FieldType.object "java/util/HashMap$Node"))) ∈ lw_all := lw_g (lw_at lw_m8 99 rfl) rfl
theorem q1886 : (Jvm.Cond.methodLink "java/util/HashMap$TreeNode" (108 : Nat) ({ cls := "java/util/HashMap", name := "replacementNode", desc := "(Ljava/util/HashMap$Node;Ljava/util/HashMap$Node;)Ljava/util/HashMap$Node;" } : Jvm.MethodName)) ∈ lw_all := lw_g (lw_at lw_m8 100 rfl) rfl
theorem q1906 : (Jvm.Cond.fieldLink "java/util/HashMap$TreeNode" (15 : Nat) "java/util/HashMap$TreeNode" "hash" "I") ∈ lw_all := lw_g (lw_at lw_m8 120 rfl) rfl
theorem q1907 : (Jvm.Cond.sameField "java/util/HashMap$TreeNode" "java/util/HashMap$Node" "hash" "I") ∈ lw_all := lw_g (lw_at lw_m8 121 rfl) rfl
theorem q1913 : (Jvm.Cond.fieldLink "java/util/HashMap$TreeNode" (45 : Nat) "java/util/HashMap$TreeNode" "key" "Ljava/lang/Object;") ∈ lw_all := lw_g (lw_at lw_m8 127 rfl) rfl
theorem q1914 : (Jvm.Cond.sameField "java/util/HashMap$TreeNode" "java/util/HashMap$Node" "key" "Ljava/lang/Object;") ∈ lw_all := lw_g (lw_at lw_m8 128 rfl) rfl
theorem q1925 : (Jvm.Cond.fieldLink "java/util/HashMap$TreeNode" (22 : Nat) "java/util/HashMap$TreeNode" "next" "Ljava/util/HashMap$Node;") ∈ lw_all := lw_g (lw_at lw_m8 139 rfl) rfl
theorem q1926 : (Jvm.Cond.sameField "java/util/HashMap$TreeNode" "java/util/HashMap$Node" "next" "Ljava/util/HashMap$Node;") ∈ lw_all := lw_g (lw_at lw_m8 140 rfl) rfl
theorem q1927 : (Jvm.Cond.fieldLink "java/util/HashMap$TreeNode" (112 : Nat) "java/util/HashMap$Node" "next" "Ljava/util/HashMap$Node;") ∈ lw_all := lw_g (lw_at lw_m8 141 rfl) rfl
theorem q1955 : (Jvm.Cond.methodLink "java/util/HashMap$TreeNode" (126 : Nat) ({ cls := "java/util/HashMap$TreeNode", name := "treeify", desc := "([Ljava/util/HashMap$Node;)V" } : Jvm.MethodName)) ∈ lw_all := lw_g (lw_at lw_m8 169 rfl) rfl
theorem q1956 : (Jvm.Cond.instanceMethod ({ cls := "java/util/HashMap$TreeNode", name := "treeify", desc := "([Ljava/util/HashMap$Node;)V" } : Jvm.MethodName)) ∈ lw_all := lw_g (lw_at lw_m8 170 rfl) rfl
theorem q1957 : (Jvm.Cond.selects "java/util/HashMap$TreeNode" ({ cls := "java/util/HashMap$TreeNode", name := "treeify", desc := "([Ljava/util/HashMap$Node;)V" } : Jvm.MethodName) ({ cls := "java/util/HashMap$TreeNode", name := "treeify", desc := "([Ljava/util/HashMap$Node;)V" } : Jvm.MethodName)) ∈ lw_all := lw_g (lw_at lw_m8 171 rfl) rfl
theorem q1958 : (Jvm.Cond.code ({ cls := "java/util/HashMap$TreeNode", name := "treeify", desc := "([Ljava/util/HashMap$Node;)V" } : Jvm.MethodName) prog_63_method_7_code (13 : Nat) (Option.none : Option Jvm.ClassFile.FieldType)) ∈ lw_all := lw_g (lw_at lw_m8 172 rfl) rfl
theorem q1959 : (Jvm.Cond.methodLink "java/util/HashMap$TreeNode" (100 : Nat) ({ cls := "java/util/HashMap$TreeNode", name := "balanceInsertion", desc := "(Ljava/util/HashMap$TreeNode;Ljava/util/HashMap$TreeNode;)Ljava/util/HashMap$TreeNode;" } : Jvm.MethodName)) ∈ lw_all := lw_g (lw_at lw_m8 173 rfl) rfl
theorem q1960 : (Jvm.Cond.static ({ cls := "java/util/HashMap$TreeNode", name := "balanceInsertion", desc := "(Ljava/util/HashMap$TreeNode;Ljava/util/HashMap$TreeNode;)Ljava/util/HashMap$TreeNode;" } : Jvm.MethodName)) ∈ lw_all := lw_g (lw_at lw_m8 174 rfl) rfl
theorem q1961 : (Jvm.Cond.code ({ cls := "java/util/HashMap$TreeNode", name := "balanceInsertion", desc := "(Ljava/util/HashMap$TreeNode;Ljava/util/HashMap$TreeNode;)Ljava/util/HashMap$TreeNode;" } : Jvm.MethodName) prog_63_method_14_code (6 : Nat) (Option.some (Jvm.ClassFile.FieldType.object "java/util/HashMap$TreeNode"))) ∈ lw_all := lw_g (lw_at lw_m8 175 rfl) rfl
theorem q1962 : (Jvm.Cond.methodLink "java/util/HashMap$TreeNode" (130 : Nat) ({ cls := "java/util/HashMap$TreeNode", name := "rotateLeft", desc := "(Ljava/util/HashMap$TreeNode;Ljava/util/HashMap$TreeNode;)Ljava/util/HashMap$TreeNode;" } : Jvm.MethodName)) ∈ lw_all := lw_g (lw_at lw_m8 176 rfl) rfl
theorem q1963 : (Jvm.Cond.static ({ cls := "java/util/HashMap$TreeNode", name := "rotateLeft", desc := "(Ljava/util/HashMap$TreeNode;Ljava/util/HashMap$TreeNode;)Ljava/util/HashMap$TreeNode;" } : Jvm.MethodName)) ∈ lw_all := lw_g (lw_at lw_m8 177 rfl) rfl
theorem q1964 : (Jvm.Cond.code ({ cls := "java/util/HashMap$TreeNode", name := "rotateLeft", desc := "(Ljava/util/HashMap$TreeNode;Ljava/util/HashMap$TreeNode;)Ljava/util/HashMap$TreeNode;" } : Jvm.MethodName) prog_63_method_12_code (5 : Nat) (Option.some (Jvm.ClassFile.FieldType.object "java/util/HashMap$TreeNode"))) ∈ lw_all := lw_g (lw_at lw_m8 178 rfl) rfl
theorem q1965 : (Jvm.Cond.methodLink "java/util/HashMap$TreeNode" (133 : Nat) ({ cls := "java/util/HashMap$TreeNode", name := "rotateRight", desc := "(Ljava/util/HashMap$TreeNode;Ljava/util/HashMap$TreeNode;)Ljava/util/HashMap$TreeNode;" } : Jvm.MethodName)) ∈ lw_all := lw_g (lw_at lw_m8 179 rfl) rfl
theorem q1966 : (Jvm.Cond.static ({ cls := "java/util/HashMap$TreeNode", name := "rotateRight", desc := "(Ljava/util/HashMap$TreeNode;Ljava/util/HashMap$TreeNode;)Ljava/util/HashMap$TreeNode;" } : Jvm.MethodName)) ∈ lw_all := lw_g (lw_at lw_m8 180 rfl) rfl
theorem q1967 : (Jvm.Cond.code ({ cls := "java/util/HashMap$TreeNode", name := "rotateRight", desc := "(Ljava/util/HashMap$TreeNode;Ljava/util/HashMap$TreeNode;)Ljava/util/HashMap$TreeNode;" } : Jvm.MethodName) prog_63_method_13_code (5 : Nat) (Option.some (Jvm.ClassFile.FieldType.object "java/util/HashMap$TreeNode"))) ∈ lw_all := lw_g (lw_at lw_m8 181 rfl) rfl
theorem q1968 : (Jvm.Cond.methodLink "java/util/HashMap$TreeNode" (104 : Nat) ({ cls := "java/util/HashMap$TreeNode", name := "moveRootToFront", desc := "([Ljava/util/HashMap$Node;Ljava/util/HashMap$TreeNode;)V" } : Jvm.MethodName)) ∈ lw_all := lw_g (lw_at lw_m8 182 rfl) rfl
theorem q1969 : (Jvm.Cond.static ({ cls := "java/util/HashMap$TreeNode", name := "moveRootToFront", desc := "([Ljava/util/HashMap$Node;Ljava/util/HashMap$TreeNode;)V" } : Jvm.MethodName)) ∈ lw_all := lw_g (lw_at lw_m8 183 rfl) rfl
theorem q1970 : (Jvm.Cond.code ({ cls := "java/util/HashMap$TreeNode", name := "moveRootToFront", desc := "([Ljava/util/HashMap$Node;Ljava/util/HashMap$TreeNode;)V" } : Jvm.MethodName) prog_63_method_3_code (7 : Nat) (Option.none : Option Jvm.ClassFile.FieldType)) ∈ lw_all := lw_g (lw_at lw_m8 184 rfl) rfl
theorem q1971 : (Jvm.Cond.fieldLink "java/util/HashMap$TreeNode" (26 : Nat) "java/util/HashMap$TreeNode" "$assertionsDisabled" "Z") ∈ lw_all := lw_g (lw_at lw_m8 185 rfl) rfl
theorem q1972 : (Jvm.Cond.laysStatic "java/util/HashMap$TreeNode" "$assertionsDisabled" "Z") ∈ lw_tbl := lw_at lw_m8 186 rfl
theorem q1986 : (Jvm.Cond.instanceMethod ({ cls := "java/util/HashMap$TreeNode", name := "putTreeVal", desc := "(Ljava/util/HashMap;[Ljava/util/HashMap$Node;ILjava/lang/Object;Ljava/lang/Object;)Ljava/util/HashMap$TreeNode;" } : Jvm.MethodName)) ∈ lw_all := lw_g (lw_at lw_m8 200 rfl) rfl
theorem q1987 : (Jvm.Cond.selects "java/util/HashMap$TreeNode" ({ cls := "java/util/HashMap$TreeNode", name := "putTreeVal", desc := "(Ljava/util/HashMap;[Ljava/util/HashMap$Node;ILjava/lang/Object;Ljava/lang/Object;)Ljava/util/HashMap$TreeNode;" } : Jvm.MethodName) ({ cls := "java/util/HashMap$TreeNode", name := "putTreeVal", desc := "(Ljava/util/HashMap;[Ljava/util/HashMap$Node;ILjava/lang/Object;Ljava/lang/Object;)Ljava/util/HashMap$TreeNode;" } : Jvm.MethodName)) ∈ lw_all := lw_g (lw_at lw_m8 201 rfl) rfl
theorem q1988 : (Jvm.Cond.code ({ cls := "java/util/HashMap$TreeNode", name := "putTreeVal", desc := "(Ljava/util/HashMap;[Ljava/util/HashMap$Node;ILjava/lang/Object;Ljava/lang/Object;)Ljava/util/HashMap$TreeNode;" } : Jvm.MethodName) prog_63_method_9_code (16 : Nat) (Option.some (Jvm.ClassFile.FieldType.object "java/util/HashMap$TreeNode"))) ∈ lw_all := lw_g (lw_at lw_m8 202 rfl) rfl
theorem q1989 : (Jvm.Cond.methodLink "java/util/HashMap$TreeNode" (115 : Nat) ({ cls := "java/util/HashMap", name := "newTreeNode", desc := "(ILjava/lang/Object;Ljava/lang/Object;Ljava/util/HashMap$Node;)Ljava/util/HashMap$TreeNode;" } : Jvm.MethodName)) ∈ lw_all := lw_g (lw_at lw_m8 203 rfl) rfl
theorem q1997 : (Jvm.Cond.instantiable "java/util/HashMap$TreeNode" (11 : Nat)) ∈ lw_all := lw_g (lw_at lw_m8 211 rfl) rfl
theorem q1999 : (Jvm.Cond.instanceMethod ({ cls := "java/util/HashMap$TreeNode", name := "<init>", desc := "(ILjava/lang/Object;Ljava/lang/Object;Ljava/util/HashMap$Node;)V" } : Jvm.MethodName)) ∈ lw_all := lw_g (lw_at lw_m8 213 rfl) rfl
theorem q2000 : (Jvm.Cond.code ({ cls := "java/util/HashMap$TreeNode", name := "<init>", desc := "(ILjava/lang/Object;Ljava/lang/Object;Ljava/util/HashMap$Node;)V" } : Jvm.MethodName) prog_63_method_1_code (5 : Nat) (Option.none : Option Jvm.ClassFile.FieldType)) ∈ lw_all := lw_g (lw_at lw_m8 214 rfl) rfl
theorem q2001 : (Jvm.Cond.methodLink "java/util/HashMap$TreeNode" (3 : Nat) ({ cls := "java/util/LinkedHashMap$Entry", name := "<init>", desc := "(ILjava/lang/Object;Ljava/lang/Object;Ljava/util/HashMap$Node;)V" } : Jvm.MethodName)) ∈ lw_all := lw_g (lw_at lw_m8 215 rfl) rfl
theorem q2002 : (Jvm.Cond.fieldLink "java/util/HashMap$TreeNode" (9 : Nat) "java/util/HashMap$TreeNode" "parent" "Ljava/util/HashMap$TreeNode;") ∈ lw_all := lw_g (lw_at lw_m8 216 rfl) rfl
theorem q2003 : (Jvm.Cond.fieldLink "java/util/HashMap$TreeNode" (39 : Nat) "java/util/HashMap$TreeNode" "left" "Ljava/util/HashMap$TreeNode;") ∈ lw_all := lw_g (lw_at lw_m8 217 rfl) rfl
theorem q2004 : (Jvm.Cond.fieldLink "java/util/HashMap$TreeNode" (42 : Nat) "java/util/HashMap$TreeNode" "right" "Ljava/util/HashMap$TreeNode;") ∈ lw_all := lw_g (lw_at lw_m8 218 rfl) rfl
theorem q2005 : (Jvm.Cond.fieldLink "java/util/HashMap$TreeNode" (19 : Nat) "java/util/HashMap$TreeNode" "prev" "Ljava/util/HashMap$TreeNode;") ∈ lw_all := lw_g (lw_at lw_m8 219 rfl) rfl
theorem q2007 : (Jvm.Cond.fieldLink "java/util/HashMap$TreeNode" (93 : Nat) "java/util/HashMap$TreeNode" "red" "Z") ∈ lw_all := lw_g (lw_at lw_m8 221 rfl) rfl
theorem q2008 : (Jvm.Cond.lays "java/util/HashMap$TreeNode" "java/util/HashMap$TreeNode" "parent" "Ljava/util/HashMap$TreeNode;") ∈ lw_all := lw_g (lw_at lw_m8 222 rfl) rfl
theorem q2009 : (Jvm.Cond.soleField "java/util/HashMap$TreeNode" "parent") ∈ lw_all := lw_g (lw_at lw_m8 223 rfl) rfl
theorem q2010 : (Jvm.Cond.lays "java/util/HashMap$TreeNode" "java/util/HashMap$TreeNode" "left" "Ljava/util/HashMap$TreeNode;") ∈ lw_all := lw_g (lw_at lw_m8 224 rfl) rfl
theorem q2011 : (Jvm.Cond.soleField "java/util/HashMap$TreeNode" "left") ∈ lw_all := lw_g (lw_at lw_m8 225 rfl) rfl
theorem q2012 : (Jvm.Cond.lays "java/util/HashMap$TreeNode" "java/util/HashMap$TreeNode" "right" "Ljava/util/HashMap$TreeNode;") ∈ lw_all := lw_g (lw_at lw_m8 226 rfl) rfl
theorem q2013 : (Jvm.Cond.soleField "java/util/HashMap$TreeNode" "right") ∈ lw_all := lw_g (lw_at lw_m8 227 rfl) rfl
theorem q2014 : (Jvm.Cond.lays "java/util/HashMap$TreeNode" "java/util/HashMap$TreeNode" "prev" "Ljava/util/HashMap$TreeNode;") ∈ lw_all := lw_g (lw_at lw_m8 228 rfl) rfl
theorem q2015 : (Jvm.Cond.soleField "java/util/HashMap$TreeNode" "prev") ∈ lw_all := lw_g (lw_at lw_m8 229 rfl) rfl
theorem q2016 : (Jvm.Cond.lays "java/util/HashMap$TreeNode" "java/util/HashMap$TreeNode" "red" "Z") ∈ lw_all := lw_g (lw_at lw_m8 230 rfl) rfl
theorem q2017 : (Jvm.Cond.soleField "java/util/HashMap$TreeNode" "red") ∈ lw_all := lw_g (lw_at lw_m8 231 rfl) rfl
theorem q2018 : (Jvm.Cond.lays "java/util/HashMap$TreeNode" "java/util/LinkedHashMap$Entry" "before" "Ljava/util/LinkedHashMap$Entry;") ∈ lw_all := lw_g (lw_at lw_m8 232 rfl) rfl
theorem q2019 : (Jvm.Cond.lays "java/util/HashMap$TreeNode" "java/util/LinkedHashMap$Entry" "after" "Ljava/util/LinkedHashMap$Entry;") ∈ lw_all := lw_g (lw_at lw_m8 233 rfl) rfl
theorem q2020 : (Jvm.Cond.laysFinal "java/util/HashMap$TreeNode" "java/util/HashMap$Node" "hash" "I") ∈ lw_all := lw_g (lw_at lw_m8 234 rfl) rfl
theorem q2021 : (Jvm.Cond.laysFinal "java/util/HashMap$TreeNode" "java/util/HashMap$Node" "key" "Ljava/lang/Object;") ∈ lw_all := lw_g (lw_at lw_m8 235 rfl) rfl
theorem q2022 : (Jvm.Cond.lays "java/util/HashMap$TreeNode" "java/util/HashMap$Node" "value" "Ljava/lang/Object;") ∈ lw_all := lw_g (lw_at lw_m8 236 rfl) rfl
theorem q2023 : (Jvm.Cond.lays "java/util/HashMap$TreeNode" "java/util/HashMap$Node" "next" "Ljava/util/HashMap$Node;") ∈ lw_all := lw_g (lw_at lw_m8 237 rfl) rfl
theorem q2024 : (Jvm.Cond.superclass "java/util/HashMap$TreeNode" "java/util/LinkedHashMap$Entry") ∈ lw_all := lw_g (lw_at lw_m8 238 rfl) rfl
theorem q3577 : (Jvm.Cond.castable "java/util/HashMap$TreeNode" "java/util/LinkedHashMap$Entry") ∈ lw_tbl := lw_at lw_m15 111 rfl
theorem q3605 : (Jvm.Cond.castable "java/util/HashMap$TreeNode" "java/lang/Object") ∈ lw_tbl := lw_at lw_m15 139 rfl
theorem q3622 : (Jvm.Cond.castable "java/util/HashMap$TreeNode" "java/util/HashMap$Node") ∈ lw_tbl := lw_at lw_m15 156 rfl
theorem in_J36 : ∀ w ∈ wsJ360, w ∈ lw_all := lw_in wsJ360 [2020, 2021, 2022, 2023, 2018, 2019, 2008, 2010, 2012, 2014, 2016] (by decide +kernel) (by decide +kernel)
/-! java/lang/Object -/
set_option maxRecDepth 100000
def RJ37 : String := "java/lang/Object"
abbrev cJ37_init : ByteArray := object_method_1_code
def yJ37_init : MethodName := ⟨RJ37, "<init>", "()V"⟩
theorem dJ37_init_0 : decode cJ37_init 0 = .ok (.return_, 1) := by decide +kernel
abbrev cJ37_equals : ByteArray := object_method_4_code
def yJ37_equals : MethodName := ⟨RJ37, "equals", "(Ljava/lang/Object;)Z"⟩
def dkwJ37_equals_0 : List UInt8 := [42, 43, 166, 0, 7, 4, 167, 0, 4, 3, 172]
abbrev dktJ37_equals_0 : List UInt8 := dkwJ37_equals_0 ++ []
theorem dksJ37_equals_0 : cJ37_equals.data.toList.drop 0 = dktJ37_equals_0 := by decide +kernel
theorem dJ37_equals_0 : decode cJ37_equals 0 = .ok (.aload_n 0, 1) := dk_42 (dk_at dksJ37_equals_0 0 rfl rfl)
theorem dJ37_equals_1 : decode cJ37_equals 1 = .ok (.aload_n 1, 1) := dk_43 (dk_at dksJ37_equals_0 1 rfl rfl)
theorem dJ37_equals_2 : decode cJ37_equals 2 = .ok (.if_acmp .ne 7, 3) := dk_166 0 7 (dk_at dksJ37_equals_0 2 rfl rfl)
theorem dJ37_equals_5 : decode cJ37_equals 5 = .ok (.iconst 1, 1) := dk_4 (dk_at dksJ37_equals_0 5 rfl rfl)
theorem dJ37_equals_6 : decode cJ37_equals 6 = .ok (.goto 4, 3) := dk_167 0 4 (dk_at dksJ37_equals_0 6 rfl rfl)
theorem dJ37_equals_9 : decode cJ37_equals 9 = .ok (.iconst 0, 1) := dk_3 (dk_at dksJ37_equals_0 9 rfl rfl)
theorem dJ37_equals_10 : decode cJ37_equals 10 = .ok (.ireturn, 1) := dk_172 (dk_at dksJ37_equals_0 10 rfl rfl)
theorem q177 : (Jvm.Cond.instanceMethod ({ cls := "java/lang/Object", name := "<init>", desc := "()V" } : Jvm.MethodName)) ∈ lw_all := lw_g (lw_at lw_m1 71 rfl) rfl
theorem q178 : (Jvm.Cond.code ({ cls := "java/lang/Object", name := "<init>", desc := "()V" } : Jvm.MethodName) object_method_1_code (1 : Nat) (Option.none : Option Jvm.ClassFile.FieldType)) ∈ lw_all := lw_g (lw_at lw_m1 72 rfl) rfl
theorem q599 : (Jvm.Cond.instanceMethod ({ cls := "java/lang/Object", name := "getClass", desc := "()Ljava/lang/Class;" } : Jvm.MethodName)) ∈ lw_all := lw_g (lw_at lw_m3 13 rfl) rfl
theorem q600 : (Jvm.Cond.sameMethod "java/lang/Object" "java/lang/Object" "getClass" "()Ljava/lang/Class;") ∈ lw_all := lw_g (lw_at lw_m3 14 rfl) rfl
theorem q640 : (Jvm.Cond.native ({ cls := "java/lang/Object", name := "getClass", desc := "()Ljava/lang/Class;" } : Jvm.MethodName)) ∈ lw_all := lw_g (lw_at lw_m3 54 rfl) rfl
theorem q905 : (Jvm.Cond.declares ({ cls := "java/lang/Object", name := "hashCode", desc := "()I" } : Jvm.MethodName)) ∈ lw_tbl := lw_at lw_m4 79 rfl
theorem q907 : (Jvm.Cond.instanceMethod ({ cls := "java/lang/Object", name := "hashCode", desc := "()I" } : Jvm.MethodName)) ∈ lw_all := lw_g (lw_at lw_m4 81 rfl) rfl
theorem q908 : (Jvm.Cond.sameMethod "java/lang/Object" "java/lang/Object" "hashCode" "()I") ∈ lw_all := lw_g (lw_at lw_m4 82 rfl) rfl
theorem q1010 : (Jvm.Cond.native ({ cls := "java/lang/Object", name := "hashCode", desc := "()I" } : Jvm.MethodName)) ∈ lw_all := lw_g (lw_at lw_m4 184 rfl) rfl
theorem q1011 : (Jvm.Cond.declares ({ cls := "java/lang/Object", name := "equals", desc := "(Ljava/lang/Object;)Z" } : Jvm.MethodName)) ∈ lw_tbl := lw_at lw_m4 185 rfl
theorem q1013 : (Jvm.Cond.instanceMethod ({ cls := "java/lang/Object", name := "equals", desc := "(Ljava/lang/Object;)Z" } : Jvm.MethodName)) ∈ lw_all := lw_g (lw_at lw_m4 187 rfl) rfl
theorem q1014 : (Jvm.Cond.sameMethod "java/lang/Object" "java/lang/Object" "equals" "(Ljava/lang/Object;)Z") ∈ lw_all := lw_g (lw_at lw_m4 188 rfl) rfl
theorem q1066 : (Jvm.Cond.code ({ cls := "java/lang/Object", name := "equals", desc := "(Ljava/lang/Object;)Z" } : Jvm.MethodName) object_method_4_code (2 : Nat) (Option.some Jvm.ClassFile.FieldType.boolean)) ∈ lw_all := lw_g (lw_at lw_m5 0 rfl) rfl
theorem q1622 : (Jvm.Cond.native ({ cls := "java/lang/Object", name := "clone", desc := "()Ljava/lang/Object;" } : Jvm.MethodName)) ∈ lw_all := lw_g (lw_at lw_m7 76 rfl) rfl
theorem q1623 : (Jvm.Cond.instanceMethod ({ cls := "java/lang/Object", name := "clone", desc := "()Ljava/lang/Object;" } : Jvm.MethodName)) ∈ lw_all := lw_g (lw_at lw_m7 77 rfl) rfl
theorem q3575 : (Jvm.Cond.initialized "java/lang/Object") ∈ lw_all := lw_g (lw_at lw_m15 109 rfl) rfl
theorem q3625 : (Jvm.Cond.declares ({ cls := "java/lang/Object", name := "getClass", desc := "()Ljava/lang/Class;" } : Jvm.MethodName)) ∈ lw_tbl := lw_at lw_m15 159 rfl
/-! java/util/HashMap -/
set_option maxRecDepth 100000
def RJ4 : String := "java/util/HashMap"
def TJ4 : u_T := fun k => match k with
  | 0 => ("java/util/AbstractMap", "keySet", "Ljava/util/Set;", false)
  | 1 => ("java/util/AbstractMap", "values", "Ljava/util/Collection;", false)
  | 2 => ("java/util/HashMap", "table", "[Ljava/util/HashMap$Node;", false)
  | 3 => ("java/util/HashMap", "entrySet", "Ljava/util/Set;", false)
  | 4 => ("java/util/HashMap", "size", "I", false)
  | 5 => ("java/util/HashMap", "modCount", "I", false)
  | 6 => ("java/util/HashMap", "threshold", "I", false)
  | _ => ("java/util/HashMap", "loadFactor", "F", true)
def tyJ4 : Nat → FieldType := fun k => match k with
  | 0 => .object "java/util/Set"
  | 1 => .object "java/util/Collection"
  | 2 => .array (.object "java/util/HashMap$Node")
  | 3 => .object "java/util/Set"
  | 4 => .int
  | 5 => .int
  | 6 => .int
  | _ => .float
abbrev wsJ40 : List Cond := u_ws RJ4 TJ4 8
theorem nmJ4 : ∀ a, a < 8 → ∀ b, b < 8 → a ≠ b → (TJ4 a).2.1 ≠ (TJ4 b).2.1 := by decide +kernel
theorem tyJ4_ok : ∀ k, k < 8 → parseFieldDescriptor (TJ4 k).2.2.1 = some (tyJ4 k) := by decide +kernel
abbrev cJ4_init : ByteArray := prog_58_method_7_code
def yJ4_init : MethodName := ⟨RJ4, "<init>", "()V"⟩
def dkwJ4_init_0 : List UInt8 := [42, 183, 0, 43, 42, 18, 92, 181, 0, 81, 177]
abbrev dktJ4_init_0 : List UInt8 := dkwJ4_init_0 ++ []
theorem dksJ4_init_0 : cJ4_init.data.toList.drop 0 = dktJ4_init_0 := by decide +kernel
theorem dJ4_init_0 : decode cJ4_init 0 = .ok (.aload_n 0, 1) := dk_42 (dk_at dksJ4_init_0 0 rfl rfl)
theorem dJ4_init_1 : decode cJ4_init 1 = .ok (.invokespecial 43, 3) := dk_183 0 43 (dk_at dksJ4_init_0 1 rfl rfl)
theorem dJ4_init_4 : decode cJ4_init 4 = .ok (.aload_n 0, 1) := dk_42 (dk_at dksJ4_init_0 4 rfl rfl)
theorem dJ4_init_5 : decode cJ4_init 5 = .ok (.ldc 92, 2) := dk_18 92 (dk_at dksJ4_init_0 5 rfl rfl)
theorem dJ4_init_7 : decode cJ4_init 7 = .ok (.putfield 81, 3) := dk_181 0 81 (dk_at dksJ4_init_0 7 rfl rfl)
theorem dJ4_init_10 : decode cJ4_init 10 = .ok (.return_, 1) := dk_177 (dk_at dksJ4_init_0 10 rfl rfl)
abbrev cJ4_init_2 : ByteArray := prog_58_method_6_code
def yJ4_init_2 : MethodName := ⟨RJ4, "<init>", "(I)V"⟩
def dkwJ4_init_2_0 : List UInt8 := [42, 27, 18, 92, 183, 0, 93, 177]
abbrev dktJ4_init_2_0 : List UInt8 := dkwJ4_init_2_0 ++ []
theorem dksJ4_init_2_0 : cJ4_init_2.data.toList.drop 0 = dktJ4_init_2_0 := by decide +kernel
theorem dJ4_init_2_0 : decode cJ4_init_2 0 = .ok (.aload_n 0, 1) := dk_42 (dk_at dksJ4_init_2_0 0 rfl rfl)
theorem dJ4_init_2_1 : decode cJ4_init_2 1 = .ok (.iload_n 1, 1) := dk_27 (dk_at dksJ4_init_2_0 1 rfl rfl)
theorem dJ4_init_2_2 : decode cJ4_init_2 2 = .ok (.ldc 92, 2) := dk_18 92 (dk_at dksJ4_init_2_0 2 rfl rfl)
theorem dJ4_init_2_4 : decode cJ4_init_2 4 = .ok (.invokespecial 93, 3) := dk_183 0 93 (dk_at dksJ4_init_2_0 4 rfl rfl)
theorem dJ4_init_2_7 : decode cJ4_init_2 7 = .ok (.return_, 1) := dk_177 (dk_at dksJ4_init_2_0 7 rfl rfl)
abbrev cJ4_init_3 : ByteArray := prog_58_method_5_code
def yJ4_init_3 : MethodName := ⟨RJ4, "<init>", "(IF)V"⟩
def dkwJ4_init_3_4 : List UInt8 := [181, 0, 88, 177]
abbrev dktJ4_init_3_4 : List UInt8 := dkwJ4_init_3_4 ++ []
def dkwJ4_init_3_3 : List UInt8 := [182, 0, 56, 36, 182, 0, 78, 182, 0, 63, 183, 0, 67, 191, 42, 36, 181, 0, 81, 42, 27, 184, 0, 85]
abbrev dktJ4_init_3_3 : List UInt8 := dkwJ4_init_3_3 ++ dktJ4_init_3_4
def dkwJ4_init_3_2 : List UInt8 := [158, 0, 10, 36, 184, 0, 70, 153, 0, 30, 187, 0, 49, 89, 187, 0, 51, 89, 183, 0, 53, 18, 76]
abbrev dktJ4_init_3_2 : List UInt8 := dkwJ4_init_3_2 ++ dktJ4_init_3_3
def dkwJ4_init_3_1 : List UInt8 := [27, 182, 0, 60, 182, 0, 63, 183, 0, 67, 191, 27, 18, 42, 164, 0, 6, 18, 42, 60, 36, 11, 150]
abbrev dktJ4_init_3_1 : List UInt8 := dkwJ4_init_3_1 ++ dktJ4_init_3_2
def dkwJ4_init_3_0 : List UInt8 := [42, 183, 0, 43, 27, 156, 0, 30, 187, 0, 49, 89, 187, 0, 51, 89, 183, 0, 53, 18, 54, 182, 0, 56]
abbrev dktJ4_init_3_0 : List UInt8 := dkwJ4_init_3_0 ++ dktJ4_init_3_1
theorem dksJ4_init_3_0 : cJ4_init_3.data.toList.drop 0 = dktJ4_init_3_0 := by decide +kernel
theorem dksJ4_init_3_1 : cJ4_init_3.data.toList.drop 24 = dktJ4_init_3_1 := dk_seg dksJ4_init_3_0 24 rfl rfl
theorem dksJ4_init_3_2 : cJ4_init_3.data.toList.drop 47 = dktJ4_init_3_2 := dk_seg dksJ4_init_3_1 23 rfl rfl
theorem dksJ4_init_3_3 : cJ4_init_3.data.toList.drop 70 = dktJ4_init_3_3 := dk_seg dksJ4_init_3_2 23 rfl rfl
theorem dksJ4_init_3_4 : cJ4_init_3.data.toList.drop 94 = dktJ4_init_3_4 := dk_seg dksJ4_init_3_3 24 rfl rfl
theorem dJ4_init_3_0 : decode cJ4_init_3 0 = .ok (.aload_n 0, 1) := dk_42 (dk_at dksJ4_init_3_0 0 rfl rfl)
theorem dJ4_init_3_1 : decode cJ4_init_3 1 = .ok (.invokespecial 43, 3) := dk_183 0 43 (dk_at dksJ4_init_3_0 1 rfl rfl)
theorem dJ4_init_3_4 : decode cJ4_init_3 4 = .ok (.iload_n 1, 1) := dk_27 (dk_at dksJ4_init_3_0 4 rfl rfl)
theorem dJ4_init_3_5 : decode cJ4_init_3 5 = .ok (.ifCond .ge 30, 3) := dk_156 0 30 (dk_at dksJ4_init_3_0 5 rfl rfl)
theorem dJ4_init_3_8 : decode cJ4_init_3 8 = .ok (.new 49, 3) := dk_187 0 49 (dk_at dksJ4_init_3_0 8 rfl rfl)
theorem dJ4_init_3_11 : decode cJ4_init_3 11 = .ok (.dup, 1) := dk_89 (dk_at dksJ4_init_3_0 11 rfl rfl)
theorem dJ4_init_3_12 : decode cJ4_init_3 12 = .ok (.new 51, 3) := dk_187 0 51 (dk_at dksJ4_init_3_0 12 rfl rfl)
theorem dJ4_init_3_15 : decode cJ4_init_3 15 = .ok (.dup, 1) := dk_89 (dk_at dksJ4_init_3_0 15 rfl rfl)
theorem dJ4_init_3_16 : decode cJ4_init_3 16 = .ok (.invokespecial 53, 3) := dk_183 0 53 (dk_at dksJ4_init_3_0 16 rfl rfl)
theorem dJ4_init_3_19 : decode cJ4_init_3 19 = .ok (.ldc 54, 2) := dk_18 54 (dk_at dksJ4_init_3_0 19 rfl rfl)
theorem dJ4_init_3_21 : decode cJ4_init_3 21 = .ok (.invokevirtual 56, 3) := dk_182 0 56 (dk_at dksJ4_init_3_0 21 rfl rfl)
theorem dJ4_init_3_24 : decode cJ4_init_3 24 = .ok (.iload_n 1, 1) := dk_27 (dk_at dksJ4_init_3_1 0 rfl rfl)
theorem dJ4_init_3_25 : decode cJ4_init_3 25 = .ok (.invokevirtual 60, 3) := dk_182 0 60 (dk_at dksJ4_init_3_1 1 rfl rfl)
theorem dJ4_init_3_28 : decode cJ4_init_3 28 = .ok (.invokevirtual 63, 3) := dk_182 0 63 (dk_at dksJ4_init_3_1 4 rfl rfl)
theorem dJ4_init_3_31 : decode cJ4_init_3 31 = .ok (.invokespecial 67, 3) := dk_183 0 67 (dk_at dksJ4_init_3_1 7 rfl rfl)
theorem dJ4_init_3_34 : decode cJ4_init_3 34 = .ok (.athrow, 1) := dk_191 (dk_at dksJ4_init_3_1 10 rfl rfl)
theorem dJ4_init_3_35 : decode cJ4_init_3 35 = .ok (.iload_n 1, 1) := dk_27 (dk_at dksJ4_init_3_1 11 rfl rfl)
theorem dJ4_init_3_36 : decode cJ4_init_3 36 = .ok (.ldc 42, 2) := dk_18 42 (dk_at dksJ4_init_3_1 12 rfl rfl)
theorem dJ4_init_3_38 : decode cJ4_init_3 38 = .ok (.if_icmp .le 6, 3) := dk_164 0 6 (dk_at dksJ4_init_3_1 14 rfl rfl)
theorem dJ4_init_3_41 : decode cJ4_init_3 41 = .ok (.ldc 42, 2) := dk_18 42 (dk_at dksJ4_init_3_1 17 rfl rfl)
theorem dJ4_init_3_43 : decode cJ4_init_3 43 = .ok (.istore_n 1, 1) := dk_60 (dk_at dksJ4_init_3_1 19 rfl rfl)
theorem dJ4_init_3_44 : decode cJ4_init_3 44 = .ok (.fload_n 2, 1) := dk_36 (dk_at dksJ4_init_3_1 20 rfl rfl)
theorem dJ4_init_3_45 : decode cJ4_init_3 45 = .ok (.fconst 0, 1) := dk_11 (dk_at dksJ4_init_3_1 21 rfl rfl)
theorem dJ4_init_3_46 : decode cJ4_init_3 46 = .ok (.fcmp .g, 1) := dk_150 (dk_at dksJ4_init_3_1 22 rfl rfl)
theorem dJ4_init_3_47 : decode cJ4_init_3 47 = .ok (.ifCond .le 10, 3) := dk_158 0 10 (dk_at dksJ4_init_3_2 0 rfl rfl)
theorem dJ4_init_3_50 : decode cJ4_init_3 50 = .ok (.fload_n 2, 1) := dk_36 (dk_at dksJ4_init_3_2 3 rfl rfl)
theorem dJ4_init_3_51 : decode cJ4_init_3 51 = .ok (.invokestatic 70, 3) := dk_184 0 70 (dk_at dksJ4_init_3_2 4 rfl rfl)
theorem dJ4_init_3_54 : decode cJ4_init_3 54 = .ok (.ifCond .eq 30, 3) := dk_153 0 30 (dk_at dksJ4_init_3_2 7 rfl rfl)
theorem dJ4_init_3_57 : decode cJ4_init_3 57 = .ok (.new 49, 3) := dk_187 0 49 (dk_at dksJ4_init_3_2 10 rfl rfl)
theorem dJ4_init_3_60 : decode cJ4_init_3 60 = .ok (.dup, 1) := dk_89 (dk_at dksJ4_init_3_2 13 rfl rfl)
theorem dJ4_init_3_61 : decode cJ4_init_3 61 = .ok (.new 51, 3) := dk_187 0 51 (dk_at dksJ4_init_3_2 14 rfl rfl)
theorem dJ4_init_3_64 : decode cJ4_init_3 64 = .ok (.dup, 1) := dk_89 (dk_at dksJ4_init_3_2 17 rfl rfl)
theorem dJ4_init_3_65 : decode cJ4_init_3 65 = .ok (.invokespecial 53, 3) := dk_183 0 53 (dk_at dksJ4_init_3_2 18 rfl rfl)
theorem dJ4_init_3_68 : decode cJ4_init_3 68 = .ok (.ldc 76, 2) := dk_18 76 (dk_at dksJ4_init_3_2 21 rfl rfl)
theorem dJ4_init_3_70 : decode cJ4_init_3 70 = .ok (.invokevirtual 56, 3) := dk_182 0 56 (dk_at dksJ4_init_3_3 0 rfl rfl)
theorem dJ4_init_3_73 : decode cJ4_init_3 73 = .ok (.fload_n 2, 1) := dk_36 (dk_at dksJ4_init_3_3 3 rfl rfl)
theorem dJ4_init_3_74 : decode cJ4_init_3 74 = .ok (.invokevirtual 78, 3) := dk_182 0 78 (dk_at dksJ4_init_3_3 4 rfl rfl)
theorem dJ4_init_3_77 : decode cJ4_init_3 77 = .ok (.invokevirtual 63, 3) := dk_182 0 63 (dk_at dksJ4_init_3_3 7 rfl rfl)
theorem dJ4_init_3_80 : decode cJ4_init_3 80 = .ok (.invokespecial 67, 3) := dk_183 0 67 (dk_at dksJ4_init_3_3 10 rfl rfl)
theorem dJ4_init_3_83 : decode cJ4_init_3 83 = .ok (.athrow, 1) := dk_191 (dk_at dksJ4_init_3_3 13 rfl rfl)
theorem dJ4_init_3_84 : decode cJ4_init_3 84 = .ok (.aload_n 0, 1) := dk_42 (dk_at dksJ4_init_3_3 14 rfl rfl)
theorem dJ4_init_3_85 : decode cJ4_init_3 85 = .ok (.fload_n 2, 1) := dk_36 (dk_at dksJ4_init_3_3 15 rfl rfl)
theorem dJ4_init_3_86 : decode cJ4_init_3 86 = .ok (.putfield 81, 3) := dk_181 0 81 (dk_at dksJ4_init_3_3 16 rfl rfl)
theorem dJ4_init_3_89 : decode cJ4_init_3 89 = .ok (.aload_n 0, 1) := dk_42 (dk_at dksJ4_init_3_3 19 rfl rfl)
theorem dJ4_init_3_90 : decode cJ4_init_3 90 = .ok (.iload_n 1, 1) := dk_27 (dk_at dksJ4_init_3_3 20 rfl rfl)
theorem dJ4_init_3_91 : decode cJ4_init_3 91 = .ok (.invokestatic 85, 3) := dk_184 0 85 (dk_at dksJ4_init_3_3 21 rfl rfl)
theorem dJ4_init_3_94 : decode cJ4_init_3 94 = .ok (.putfield 88, 3) := dk_181 0 88 (dk_at dksJ4_init_3_4 0 rfl rfl)
theorem dJ4_init_3_97 : decode cJ4_init_3 97 = .ok (.return_, 1) := dk_177 (dk_at dksJ4_init_3_4 3 rfl rfl)
abbrev cJ4_tableSizeFor : ByteArray := prog_58_method_4_code
def yJ4_tableSizeFor : MethodName := ⟨RJ4, "tableSizeFor", "(I)I"⟩
def dkwJ4_tableSizeFor_1 : List UInt8 := [18, 42, 167, 0, 6, 27, 4, 96, 172]
abbrev dktJ4_tableSizeFor_1 : List UInt8 := dkwJ4_tableSizeFor_1 ++ []
def dkwJ4_tableSizeFor_0 : List UInt8 := [2, 26, 4, 100, 184, 0, 34, 124, 60, 27, 156, 0, 7, 4, 167, 0, 17, 27, 18, 42, 161, 0, 8]
abbrev dktJ4_tableSizeFor_0 : List UInt8 := dkwJ4_tableSizeFor_0 ++ dktJ4_tableSizeFor_1
theorem dksJ4_tableSizeFor_0 : cJ4_tableSizeFor.data.toList.drop 0 = dktJ4_tableSizeFor_0 := by decide +kernel
theorem dksJ4_tableSizeFor_1 : cJ4_tableSizeFor.data.toList.drop 23 = dktJ4_tableSizeFor_1 := dk_seg dksJ4_tableSizeFor_0 23 rfl rfl
theorem dJ4_tableSizeFor_0 : decode cJ4_tableSizeFor 0 = .ok (.iconst (-1), 1) := dk_2 (dk_at dksJ4_tableSizeFor_0 0 rfl rfl)
theorem dJ4_tableSizeFor_1 : decode cJ4_tableSizeFor 1 = .ok (.iload_n 0, 1) := dk_26 (dk_at dksJ4_tableSizeFor_0 1 rfl rfl)
theorem dJ4_tableSizeFor_2 : decode cJ4_tableSizeFor 2 = .ok (.iconst 1, 1) := dk_4 (dk_at dksJ4_tableSizeFor_0 2 rfl rfl)
theorem dJ4_tableSizeFor_3 : decode cJ4_tableSizeFor 3 = .ok (.isub, 1) := dk_100 (dk_at dksJ4_tableSizeFor_0 3 rfl rfl)
theorem dJ4_tableSizeFor_4 : decode cJ4_tableSizeFor 4 = .ok (.invokestatic 34, 3) := dk_184 0 34 (dk_at dksJ4_tableSizeFor_0 4 rfl rfl)
theorem dJ4_tableSizeFor_7 : decode cJ4_tableSizeFor 7 = .ok (.iushr, 1) := dk_124 (dk_at dksJ4_tableSizeFor_0 7 rfl rfl)
theorem dJ4_tableSizeFor_8 : decode cJ4_tableSizeFor 8 = .ok (.istore_n 1, 1) := dk_60 (dk_at dksJ4_tableSizeFor_0 8 rfl rfl)
theorem dJ4_tableSizeFor_9 : decode cJ4_tableSizeFor 9 = .ok (.iload_n 1, 1) := dk_27 (dk_at dksJ4_tableSizeFor_0 9 rfl rfl)
theorem dJ4_tableSizeFor_10 : decode cJ4_tableSizeFor 10 = .ok (.ifCond .ge 7, 3) := dk_156 0 7 (dk_at dksJ4_tableSizeFor_0 10 rfl rfl)
theorem dJ4_tableSizeFor_13 : decode cJ4_tableSizeFor 13 = .ok (.iconst 1, 1) := dk_4 (dk_at dksJ4_tableSizeFor_0 13 rfl rfl)
theorem dJ4_tableSizeFor_14 : decode cJ4_tableSizeFor 14 = .ok (.goto 17, 3) := dk_167 0 17 (dk_at dksJ4_tableSizeFor_0 14 rfl rfl)
theorem dJ4_tableSizeFor_17 : decode cJ4_tableSizeFor 17 = .ok (.iload_n 1, 1) := dk_27 (dk_at dksJ4_tableSizeFor_0 17 rfl rfl)
theorem dJ4_tableSizeFor_18 : decode cJ4_tableSizeFor 18 = .ok (.ldc 42, 2) := dk_18 42 (dk_at dksJ4_tableSizeFor_0 18 rfl rfl)
theorem dJ4_tableSizeFor_20 : decode cJ4_tableSizeFor 20 = .ok (.if_icmp .lt 8, 3) := dk_161 0 8 (dk_at dksJ4_tableSizeFor_0 20 rfl rfl)
theorem dJ4_tableSizeFor_23 : decode cJ4_tableSizeFor 23 = .ok (.ldc 42, 2) := dk_18 42 (dk_at dksJ4_tableSizeFor_1 0 rfl rfl)
theorem dJ4_tableSizeFor_25 : decode cJ4_tableSizeFor 25 = .ok (.goto 6, 3) := dk_167 0 6 (dk_at dksJ4_tableSizeFor_1 2 rfl rfl)
theorem dJ4_tableSizeFor_28 : decode cJ4_tableSizeFor 28 = .ok (.iload_n 1, 1) := dk_27 (dk_at dksJ4_tableSizeFor_1 5 rfl rfl)
theorem dJ4_tableSizeFor_29 : decode cJ4_tableSizeFor 29 = .ok (.iconst 1, 1) := dk_4 (dk_at dksJ4_tableSizeFor_1 6 rfl rfl)
theorem dJ4_tableSizeFor_30 : decode cJ4_tableSizeFor 30 = .ok (.iadd, 1) := dk_96 (dk_at dksJ4_tableSizeFor_1 7 rfl rfl)
theorem dJ4_tableSizeFor_31 : decode cJ4_tableSizeFor 31 = .ok (.ireturn, 1) := dk_172 (dk_at dksJ4_tableSizeFor_1 8 rfl rfl)
abbrev cJ4_clear : ByteArray := prog_58_method_22_code
def yJ4_clear : MethodName := ⟨RJ4, "clear", "()V"⟩
def dkwJ4_clear_2 : List UInt8 := [167, 255, 243, 177]
abbrev dktJ4_clear_2 : List UInt8 := dkwJ4_clear_2 ++ []
def dkwJ4_clear_1 : List UInt8 := [158, 0, 26, 42, 3, 181, 0, 156, 3, 61, 28, 43, 190, 162, 0, 13, 43, 28, 1, 83, 132, 2, 1]
abbrev dktJ4_clear_1 : List UInt8 := dkwJ4_clear_1 ++ dktJ4_clear_2
def dkwJ4_clear_0 : List UInt8 := [42, 89, 180, 0, 202, 4, 96, 181, 0, 202, 42, 180, 0, 105, 89, 76, 198, 0, 33, 42, 180, 0, 156]
abbrev dktJ4_clear_0 : List UInt8 := dkwJ4_clear_0 ++ dktJ4_clear_1
theorem dksJ4_clear_0 : cJ4_clear.data.toList.drop 0 = dktJ4_clear_0 := by decide +kernel
theorem dksJ4_clear_1 : cJ4_clear.data.toList.drop 23 = dktJ4_clear_1 := dk_seg dksJ4_clear_0 23 rfl rfl
theorem dksJ4_clear_2 : cJ4_clear.data.toList.drop 46 = dktJ4_clear_2 := dk_seg dksJ4_clear_1 23 rfl rfl
theorem dJ4_clear_0 : decode cJ4_clear 0 = .ok (.aload_n 0, 1) := dk_42 (dk_at dksJ4_clear_0 0 rfl rfl)
theorem dJ4_clear_1 : decode cJ4_clear 1 = .ok (.dup, 1) := dk_89 (dk_at dksJ4_clear_0 1 rfl rfl)
theorem dJ4_clear_2 : decode cJ4_clear 2 = .ok (.getfield 202, 3) := dk_180 0 202 (dk_at dksJ4_clear_0 2 rfl rfl)
theorem dJ4_clear_5 : decode cJ4_clear 5 = .ok (.iconst 1, 1) := dk_4 (dk_at dksJ4_clear_0 5 rfl rfl)
theorem dJ4_clear_6 : decode cJ4_clear 6 = .ok (.iadd, 1) := dk_96 (dk_at dksJ4_clear_0 6 rfl rfl)
theorem dJ4_clear_7 : decode cJ4_clear 7 = .ok (.putfield 202, 3) := dk_181 0 202 (dk_at dksJ4_clear_0 7 rfl rfl)
theorem dJ4_clear_10 : decode cJ4_clear 10 = .ok (.aload_n 0, 1) := dk_42 (dk_at dksJ4_clear_0 10 rfl rfl)
theorem dJ4_clear_11 : decode cJ4_clear 11 = .ok (.getfield 105, 3) := dk_180 0 105 (dk_at dksJ4_clear_0 11 rfl rfl)
theorem dJ4_clear_14 : decode cJ4_clear 14 = .ok (.dup, 1) := dk_89 (dk_at dksJ4_clear_0 14 rfl rfl)
theorem dJ4_clear_15 : decode cJ4_clear 15 = .ok (.astore_n 1, 1) := dk_76 (dk_at dksJ4_clear_0 15 rfl rfl)
theorem dJ4_clear_16 : decode cJ4_clear 16 = .ok (.ifnull 33, 3) := dk_198 0 33 (dk_at dksJ4_clear_0 16 rfl rfl)
theorem dJ4_clear_19 : decode cJ4_clear 19 = .ok (.aload_n 0, 1) := dk_42 (dk_at dksJ4_clear_0 19 rfl rfl)
theorem dJ4_clear_20 : decode cJ4_clear 20 = .ok (.getfield 156, 3) := dk_180 0 156 (dk_at dksJ4_clear_0 20 rfl rfl)
theorem dJ4_clear_23 : decode cJ4_clear 23 = .ok (.ifCond .le 26, 3) := dk_158 0 26 (dk_at dksJ4_clear_1 0 rfl rfl)
theorem dJ4_clear_26 : decode cJ4_clear 26 = .ok (.aload_n 0, 1) := dk_42 (dk_at dksJ4_clear_1 3 rfl rfl)
theorem dJ4_clear_27 : decode cJ4_clear 27 = .ok (.iconst 0, 1) := dk_3 (dk_at dksJ4_clear_1 4 rfl rfl)
theorem dJ4_clear_28 : decode cJ4_clear 28 = .ok (.putfield 156, 3) := dk_181 0 156 (dk_at dksJ4_clear_1 5 rfl rfl)
theorem dJ4_clear_31 : decode cJ4_clear 31 = .ok (.iconst 0, 1) := dk_3 (dk_at dksJ4_clear_1 8 rfl rfl)
theorem dJ4_clear_32 : decode cJ4_clear 32 = .ok (.istore_n 2, 1) := dk_61 (dk_at dksJ4_clear_1 9 rfl rfl)
theorem dJ4_clear_33 : decode cJ4_clear 33 = .ok (.iload_n 2, 1) := dk_28 (dk_at dksJ4_clear_1 10 rfl rfl)
theorem dJ4_clear_34 : decode cJ4_clear 34 = .ok (.aload_n 1, 1) := dk_43 (dk_at dksJ4_clear_1 11 rfl rfl)
theorem dJ4_clear_35 : decode cJ4_clear 35 = .ok (.arraylength, 1) := dk_190 (dk_at dksJ4_clear_1 12 rfl rfl)
theorem dJ4_clear_36 : decode cJ4_clear 36 = .ok (.if_icmp .ge 13, 3) := dk_162 0 13 (dk_at dksJ4_clear_1 13 rfl rfl)
theorem dJ4_clear_39 : decode cJ4_clear 39 = .ok (.aload_n 1, 1) := dk_43 (dk_at dksJ4_clear_1 16 rfl rfl)
theorem dJ4_clear_40 : decode cJ4_clear 40 = .ok (.iload_n 2, 1) := dk_28 (dk_at dksJ4_clear_1 17 rfl rfl)
theorem dJ4_clear_41 : decode cJ4_clear 41 = .ok (.aconst_null, 1) := dk_1 (dk_at dksJ4_clear_1 18 rfl rfl)
theorem dJ4_clear_42 : decode cJ4_clear 42 = .ok (.aastore, 1) := dk_83 (dk_at dksJ4_clear_1 19 rfl rfl)
theorem dJ4_clear_43 : decode cJ4_clear 43 = .ok (.iinc 2 1, 3) := dk_132 2 1 (dk_at dksJ4_clear_1 20 rfl rfl)
theorem dJ4_clear_46 : decode cJ4_clear 46 = .ok (.goto (-13), 3) := dk_167 255 243 (dk_at dksJ4_clear_2 0 rfl rfl)
theorem dJ4_clear_49 : decode cJ4_clear 49 = .ok (.return_, 1) := dk_177 (dk_at dksJ4_clear_2 3 rfl rfl)
abbrev cJ4_keySet : ByteArray := prog_58_method_24_code
def yJ4_keySet : MethodName := ⟨RJ4, "keySet", "()Ljava/util/Set;"⟩
def dkwJ4_keySet_1 : List UInt8 := [176]
abbrev dktJ4_keySet_1 : List UInt8 := dkwJ4_keySet_1 ++ []
def dkwJ4_keySet_0 : List UInt8 := [42, 180, 0, 239, 76, 43, 199, 0, 17, 187, 0, 243, 89, 42, 183, 0, 245, 76, 42, 43, 181, 0, 239, 43]
abbrev dktJ4_keySet_0 : List UInt8 := dkwJ4_keySet_0 ++ dktJ4_keySet_1
theorem dksJ4_keySet_0 : cJ4_keySet.data.toList.drop 0 = dktJ4_keySet_0 := by decide +kernel
theorem dksJ4_keySet_1 : cJ4_keySet.data.toList.drop 24 = dktJ4_keySet_1 := dk_seg dksJ4_keySet_0 24 rfl rfl
theorem dJ4_keySet_0 : decode cJ4_keySet 0 = .ok (.aload_n 0, 1) := dk_42 (dk_at dksJ4_keySet_0 0 rfl rfl)
theorem dJ4_keySet_1 : decode cJ4_keySet 1 = .ok (.getfield 239, 3) := dk_180 0 239 (dk_at dksJ4_keySet_0 1 rfl rfl)
theorem dJ4_keySet_4 : decode cJ4_keySet 4 = .ok (.astore_n 1, 1) := dk_76 (dk_at dksJ4_keySet_0 4 rfl rfl)
theorem dJ4_keySet_5 : decode cJ4_keySet 5 = .ok (.aload_n 1, 1) := dk_43 (dk_at dksJ4_keySet_0 5 rfl rfl)
theorem dJ4_keySet_6 : decode cJ4_keySet 6 = .ok (.ifnonnull 17, 3) := dk_199 0 17 (dk_at dksJ4_keySet_0 6 rfl rfl)
theorem dJ4_keySet_9 : decode cJ4_keySet 9 = .ok (.new 243, 3) := dk_187 0 243 (dk_at dksJ4_keySet_0 9 rfl rfl)
theorem dJ4_keySet_12 : decode cJ4_keySet 12 = .ok (.dup, 1) := dk_89 (dk_at dksJ4_keySet_0 12 rfl rfl)
theorem dJ4_keySet_13 : decode cJ4_keySet 13 = .ok (.aload_n 0, 1) := dk_42 (dk_at dksJ4_keySet_0 13 rfl rfl)
theorem dJ4_keySet_14 : decode cJ4_keySet 14 = .ok (.invokespecial 245, 3) := dk_183 0 245 (dk_at dksJ4_keySet_0 14 rfl rfl)
theorem dJ4_keySet_17 : decode cJ4_keySet 17 = .ok (.astore_n 1, 1) := dk_76 (dk_at dksJ4_keySet_0 17 rfl rfl)
theorem dJ4_keySet_18 : decode cJ4_keySet 18 = .ok (.aload_n 0, 1) := dk_42 (dk_at dksJ4_keySet_0 18 rfl rfl)
theorem dJ4_keySet_19 : decode cJ4_keySet 19 = .ok (.aload_n 1, 1) := dk_43 (dk_at dksJ4_keySet_0 19 rfl rfl)
theorem dJ4_keySet_20 : decode cJ4_keySet 20 = .ok (.putfield 239, 3) := dk_181 0 239 (dk_at dksJ4_keySet_0 20 rfl rfl)
theorem dJ4_keySet_23 : decode cJ4_keySet 23 = .ok (.aload_n 1, 1) := dk_43 (dk_at dksJ4_keySet_0 23 rfl rfl)
theorem dJ4_keySet_24 : decode cJ4_keySet 24 = .ok (.areturn, 1) := dk_176 (dk_at dksJ4_keySet_1 0 rfl rfl)
abbrev cJ4_getNode : ByteArray := prog_58_method_13_code
def yJ4_getNode : MethodName := ⟨RJ4, "getNode", "(Ljava/lang/Object;)Ljava/util/HashMap$Node;"⟩
def dkwJ4_getNode_6 : List UInt8 := [89, 58, 4, 199, 255, 210, 1, 176]
abbrev dktJ4_getNode_6 : List UInt8 := dkwJ4_getNode_6 ++ []
def dkwJ4_getNode_5 : List UInt8 := [165, 0, 16, 43, 198, 0, 15, 43, 25, 7, 182, 0, 173, 153, 0, 6, 25, 4, 176, 25, 4, 180, 0, 177]
abbrev dktJ4_getNode_5 : List UInt8 := dkwJ4_getNode_5 ++ dktJ4_getNode_6
def dkwJ4_getNode_4 : List UInt8 := [43, 182, 0, 182, 176, 25, 4, 180, 0, 168, 21, 6, 160, 0, 31, 25, 4, 180, 0, 170, 89, 58, 7, 43]
abbrev dktJ4_getNode_4 : List UInt8 := dkwJ4_getNode_4 ++ dktJ4_getNode_5
def dkwJ4_getNode_3 : List UInt8 := [176, 45, 180, 0, 177, 89, 58, 4, 198, 0, 70, 45, 193, 0, 180, 153, 0, 14, 45, 192, 0, 180, 21, 6]
abbrev dktJ4_getNode_3 : List UInt8 := dkwJ4_getNode_3 ++ dktJ4_getNode_4
def dkwJ4_getNode_2 : List UInt8 := [180, 0, 170, 89, 58, 7, 43, 165, 0, 16, 43, 198, 0, 14, 43, 25, 7, 182, 0, 173, 153, 0, 5, 45]
abbrev dktJ4_getNode_2 : List UInt8 := dkwJ4_getNode_2 ++ dktJ4_getNode_3
def dkwJ4_getNode_1 : List UInt8 := [184, 0, 149, 89, 54, 6, 126, 50, 89, 78, 198, 0, 115, 45, 180, 0, 168, 21, 6, 160, 0, 29, 45]
abbrev dktJ4_getNode_1 : List UInt8 := dkwJ4_getNode_1 ++ dktJ4_getNode_2
def dkwJ4_getNode_0 : List UInt8 := [42, 180, 0, 105, 89, 77, 198, 0, 142, 44, 190, 89, 54, 5, 158, 0, 134, 44, 21, 5, 4, 100, 43]
abbrev dktJ4_getNode_0 : List UInt8 := dkwJ4_getNode_0 ++ dktJ4_getNode_1
theorem dksJ4_getNode_0 : cJ4_getNode.data.toList.drop 0 = dktJ4_getNode_0 := by decide +kernel
theorem dksJ4_getNode_1 : cJ4_getNode.data.toList.drop 23 = dktJ4_getNode_1 := dk_seg dksJ4_getNode_0 23 rfl rfl
theorem dksJ4_getNode_2 : cJ4_getNode.data.toList.drop 46 = dktJ4_getNode_2 := dk_seg dksJ4_getNode_1 23 rfl rfl
theorem dksJ4_getNode_3 : cJ4_getNode.data.toList.drop 70 = dktJ4_getNode_3 := dk_seg dksJ4_getNode_2 24 rfl rfl
theorem dksJ4_getNode_4 : cJ4_getNode.data.toList.drop 94 = dktJ4_getNode_4 := dk_seg dksJ4_getNode_3 24 rfl rfl
theorem dksJ4_getNode_5 : cJ4_getNode.data.toList.drop 118 = dktJ4_getNode_5 := dk_seg dksJ4_getNode_4 24 rfl rfl
theorem dksJ4_getNode_6 : cJ4_getNode.data.toList.drop 142 = dktJ4_getNode_6 := dk_seg dksJ4_getNode_5 24 rfl rfl
theorem dJ4_getNode_0 : decode cJ4_getNode 0 = .ok (.aload_n 0, 1) := dk_42 (dk_at dksJ4_getNode_0 0 rfl rfl)
theorem dJ4_getNode_1 : decode cJ4_getNode 1 = .ok (.getfield 105, 3) := dk_180 0 105 (dk_at dksJ4_getNode_0 1 rfl rfl)
theorem dJ4_getNode_4 : decode cJ4_getNode 4 = .ok (.dup, 1) := dk_89 (dk_at dksJ4_getNode_0 4 rfl rfl)
theorem dJ4_getNode_5 : decode cJ4_getNode 5 = .ok (.astore_n 2, 1) := dk_77 (dk_at dksJ4_getNode_0 5 rfl rfl)
theorem dJ4_getNode_6 : decode cJ4_getNode 6 = .ok (.ifnull 142, 3) := dk_198 0 142 (dk_at dksJ4_getNode_0 6 rfl rfl)
theorem dJ4_getNode_9 : decode cJ4_getNode 9 = .ok (.aload_n 2, 1) := dk_44 (dk_at dksJ4_getNode_0 9 rfl rfl)
theorem dJ4_getNode_10 : decode cJ4_getNode 10 = .ok (.arraylength, 1) := dk_190 (dk_at dksJ4_getNode_0 10 rfl rfl)
theorem dJ4_getNode_11 : decode cJ4_getNode 11 = .ok (.dup, 1) := dk_89 (dk_at dksJ4_getNode_0 11 rfl rfl)
theorem dJ4_getNode_12 : decode cJ4_getNode 12 = .ok (.istore 5, 2) := dk_54 5 (dk_at dksJ4_getNode_0 12 rfl rfl)
theorem dJ4_getNode_14 : decode cJ4_getNode 14 = .ok (.ifCond .le 134, 3) := dk_158 0 134 (dk_at dksJ4_getNode_0 14 rfl rfl)
theorem dJ4_getNode_17 : decode cJ4_getNode 17 = .ok (.aload_n 2, 1) := dk_44 (dk_at dksJ4_getNode_0 17 rfl rfl)
theorem dJ4_getNode_18 : decode cJ4_getNode 18 = .ok (.iload 5, 2) := dk_21 5 (dk_at dksJ4_getNode_0 18 rfl rfl)
theorem dJ4_getNode_20 : decode cJ4_getNode 20 = .ok (.iconst 1, 1) := dk_4 (dk_at dksJ4_getNode_0 20 rfl rfl)
theorem dJ4_getNode_21 : decode cJ4_getNode 21 = .ok (.isub, 1) := dk_100 (dk_at dksJ4_getNode_0 21 rfl rfl)
theorem dJ4_getNode_22 : decode cJ4_getNode 22 = .ok (.aload_n 1, 1) := dk_43 (dk_at dksJ4_getNode_0 22 rfl rfl)
theorem dJ4_getNode_23 : decode cJ4_getNode 23 = .ok (.invokestatic 149, 3) := dk_184 0 149 (dk_at dksJ4_getNode_1 0 rfl rfl)
theorem dJ4_getNode_26 : decode cJ4_getNode 26 = .ok (.dup, 1) := dk_89 (dk_at dksJ4_getNode_1 3 rfl rfl)
theorem dJ4_getNode_27 : decode cJ4_getNode 27 = .ok (.istore 6, 2) := dk_54 6 (dk_at dksJ4_getNode_1 4 rfl rfl)
theorem dJ4_getNode_29 : decode cJ4_getNode 29 = .ok (.iand, 1) := dk_126 (dk_at dksJ4_getNode_1 6 rfl rfl)
theorem dJ4_getNode_30 : decode cJ4_getNode 30 = .ok (.aaload, 1) := dk_50 (dk_at dksJ4_getNode_1 7 rfl rfl)
theorem dJ4_getNode_31 : decode cJ4_getNode 31 = .ok (.dup, 1) := dk_89 (dk_at dksJ4_getNode_1 8 rfl rfl)
theorem dJ4_getNode_32 : decode cJ4_getNode 32 = .ok (.astore_n 3, 1) := dk_78 (dk_at dksJ4_getNode_1 9 rfl rfl)
theorem dJ4_getNode_33 : decode cJ4_getNode 33 = .ok (.ifnull 115, 3) := dk_198 0 115 (dk_at dksJ4_getNode_1 10 rfl rfl)
theorem dJ4_getNode_36 : decode cJ4_getNode 36 = .ok (.aload_n 3, 1) := dk_45 (dk_at dksJ4_getNode_1 13 rfl rfl)
theorem dJ4_getNode_37 : decode cJ4_getNode 37 = .ok (.getfield 168, 3) := dk_180 0 168 (dk_at dksJ4_getNode_1 14 rfl rfl)
theorem dJ4_getNode_40 : decode cJ4_getNode 40 = .ok (.iload 6, 2) := dk_21 6 (dk_at dksJ4_getNode_1 17 rfl rfl)
theorem dJ4_getNode_42 : decode cJ4_getNode 42 = .ok (.if_icmp .ne 29, 3) := dk_160 0 29 (dk_at dksJ4_getNode_1 19 rfl rfl)
theorem dJ4_getNode_45 : decode cJ4_getNode 45 = .ok (.aload_n 3, 1) := dk_45 (dk_at dksJ4_getNode_1 22 rfl rfl)
theorem dJ4_getNode_46 : decode cJ4_getNode 46 = .ok (.getfield 170, 3) := dk_180 0 170 (dk_at dksJ4_getNode_2 0 rfl rfl)
theorem dJ4_getNode_49 : decode cJ4_getNode 49 = .ok (.dup, 1) := dk_89 (dk_at dksJ4_getNode_2 3 rfl rfl)
theorem dJ4_getNode_50 : decode cJ4_getNode 50 = .ok (.astore 7, 2) := dk_58 7 (dk_at dksJ4_getNode_2 4 rfl rfl)
theorem dJ4_getNode_52 : decode cJ4_getNode 52 = .ok (.aload_n 1, 1) := dk_43 (dk_at dksJ4_getNode_2 6 rfl rfl)
theorem dJ4_getNode_53 : decode cJ4_getNode 53 = .ok (.if_acmp .eq 16, 3) := dk_165 0 16 (dk_at dksJ4_getNode_2 7 rfl rfl)
theorem dJ4_getNode_56 : decode cJ4_getNode 56 = .ok (.aload_n 1, 1) := dk_43 (dk_at dksJ4_getNode_2 10 rfl rfl)
theorem dJ4_getNode_57 : decode cJ4_getNode 57 = .ok (.ifnull 14, 3) := dk_198 0 14 (dk_at dksJ4_getNode_2 11 rfl rfl)
theorem dJ4_getNode_60 : decode cJ4_getNode 60 = .ok (.aload_n 1, 1) := dk_43 (dk_at dksJ4_getNode_2 14 rfl rfl)
theorem dJ4_getNode_61 : decode cJ4_getNode 61 = .ok (.aload 7, 2) := dk_25 7 (dk_at dksJ4_getNode_2 15 rfl rfl)
theorem dJ4_getNode_63 : decode cJ4_getNode 63 = .ok (.invokevirtual 173, 3) := dk_182 0 173 (dk_at dksJ4_getNode_2 17 rfl rfl)
theorem dJ4_getNode_66 : decode cJ4_getNode 66 = .ok (.ifCond .eq 5, 3) := dk_153 0 5 (dk_at dksJ4_getNode_2 20 rfl rfl)
theorem dJ4_getNode_69 : decode cJ4_getNode 69 = .ok (.aload_n 3, 1) := dk_45 (dk_at dksJ4_getNode_2 23 rfl rfl)
theorem dJ4_getNode_70 : decode cJ4_getNode 70 = .ok (.areturn, 1) := dk_176 (dk_at dksJ4_getNode_3 0 rfl rfl)
theorem dJ4_getNode_71 : decode cJ4_getNode 71 = .ok (.aload_n 3, 1) := dk_45 (dk_at dksJ4_getNode_3 1 rfl rfl)
theorem dJ4_getNode_72 : decode cJ4_getNode 72 = .ok (.getfield 177, 3) := dk_180 0 177 (dk_at dksJ4_getNode_3 2 rfl rfl)
theorem dJ4_getNode_75 : decode cJ4_getNode 75 = .ok (.dup, 1) := dk_89 (dk_at dksJ4_getNode_3 5 rfl rfl)
theorem dJ4_getNode_76 : decode cJ4_getNode 76 = .ok (.astore 4, 2) := dk_58 4 (dk_at dksJ4_getNode_3 6 rfl rfl)
theorem dJ4_getNode_78 : decode cJ4_getNode 78 = .ok (.ifnull 70, 3) := dk_198 0 70 (dk_at dksJ4_getNode_3 8 rfl rfl)
theorem dJ4_getNode_81 : decode cJ4_getNode 81 = .ok (.aload_n 3, 1) := dk_45 (dk_at dksJ4_getNode_3 11 rfl rfl)
theorem dJ4_getNode_82 : decode cJ4_getNode 82 = .ok (.instanceof 180, 3) := dk_193 0 180 (dk_at dksJ4_getNode_3 12 rfl rfl)
theorem dJ4_getNode_85 : decode cJ4_getNode 85 = .ok (.ifCond .eq 14, 3) := dk_153 0 14 (dk_at dksJ4_getNode_3 15 rfl rfl)
theorem dJ4_getNode_88 : decode cJ4_getNode 88 = .ok (.aload_n 3, 1) := dk_45 (dk_at dksJ4_getNode_3 18 rfl rfl)
theorem dJ4_getNode_89 : decode cJ4_getNode 89 = .ok (.checkcast 180, 3) := dk_192 0 180 (dk_at dksJ4_getNode_3 19 rfl rfl)
theorem dJ4_getNode_92 : decode cJ4_getNode 92 = .ok (.iload 6, 2) := dk_21 6 (dk_at dksJ4_getNode_3 22 rfl rfl)
theorem dJ4_getNode_94 : decode cJ4_getNode 94 = .ok (.aload_n 1, 1) := dk_43 (dk_at dksJ4_getNode_4 0 rfl rfl)
theorem dJ4_getNode_95 : decode cJ4_getNode 95 = .ok (.invokevirtual 182, 3) := dk_182 0 182 (dk_at dksJ4_getNode_4 1 rfl rfl)
theorem dJ4_getNode_98 : decode cJ4_getNode 98 = .ok (.areturn, 1) := dk_176 (dk_at dksJ4_getNode_4 4 rfl rfl)
theorem dJ4_getNode_99 : decode cJ4_getNode 99 = .ok (.aload 4, 2) := dk_25 4 (dk_at dksJ4_getNode_4 5 rfl rfl)
theorem dJ4_getNode_101 : decode cJ4_getNode 101 = .ok (.getfield 168, 3) := dk_180 0 168 (dk_at dksJ4_getNode_4 7 rfl rfl)
theorem dJ4_getNode_104 : decode cJ4_getNode 104 = .ok (.iload 6, 2) := dk_21 6 (dk_at dksJ4_getNode_4 10 rfl rfl)
theorem dJ4_getNode_106 : decode cJ4_getNode 106 = .ok (.if_icmp .ne 31, 3) := dk_160 0 31 (dk_at dksJ4_getNode_4 12 rfl rfl)
theorem dJ4_getNode_109 : decode cJ4_getNode 109 = .ok (.aload 4, 2) := dk_25 4 (dk_at dksJ4_getNode_4 15 rfl rfl)
theorem dJ4_getNode_111 : decode cJ4_getNode 111 = .ok (.getfield 170, 3) := dk_180 0 170 (dk_at dksJ4_getNode_4 17 rfl rfl)
theorem dJ4_getNode_114 : decode cJ4_getNode 114 = .ok (.dup, 1) := dk_89 (dk_at dksJ4_getNode_4 20 rfl rfl)
theorem dJ4_getNode_115 : decode cJ4_getNode 115 = .ok (.astore 7, 2) := dk_58 7 (dk_at dksJ4_getNode_4 21 rfl rfl)
theorem dJ4_getNode_117 : decode cJ4_getNode 117 = .ok (.aload_n 1, 1) := dk_43 (dk_at dksJ4_getNode_4 23 rfl rfl)
theorem dJ4_getNode_118 : decode cJ4_getNode 118 = .ok (.if_acmp .eq 16, 3) := dk_165 0 16 (dk_at dksJ4_getNode_5 0 rfl rfl)
theorem dJ4_getNode_121 : decode cJ4_getNode 121 = .ok (.aload_n 1, 1) := dk_43 (dk_at dksJ4_getNode_5 3 rfl rfl)
theorem dJ4_getNode_122 : decode cJ4_getNode 122 = .ok (.ifnull 15, 3) := dk_198 0 15 (dk_at dksJ4_getNode_5 4 rfl rfl)
theorem dJ4_getNode_125 : decode cJ4_getNode 125 = .ok (.aload_n 1, 1) := dk_43 (dk_at dksJ4_getNode_5 7 rfl rfl)
theorem dJ4_getNode_126 : decode cJ4_getNode 126 = .ok (.aload 7, 2) := dk_25 7 (dk_at dksJ4_getNode_5 8 rfl rfl)
theorem dJ4_getNode_128 : decode cJ4_getNode 128 = .ok (.invokevirtual 173, 3) := dk_182 0 173 (dk_at dksJ4_getNode_5 10 rfl rfl)
theorem dJ4_getNode_131 : decode cJ4_getNode 131 = .ok (.ifCond .eq 6, 3) := dk_153 0 6 (dk_at dksJ4_getNode_5 13 rfl rfl)
theorem dJ4_getNode_134 : decode cJ4_getNode 134 = .ok (.aload 4, 2) := dk_25 4 (dk_at dksJ4_getNode_5 16 rfl rfl)
theorem dJ4_getNode_136 : decode cJ4_getNode 136 = .ok (.areturn, 1) := dk_176 (dk_at dksJ4_getNode_5 18 rfl rfl)
theorem dJ4_getNode_137 : decode cJ4_getNode 137 = .ok (.aload 4, 2) := dk_25 4 (dk_at dksJ4_getNode_5 19 rfl rfl)
theorem dJ4_getNode_139 : decode cJ4_getNode 139 = .ok (.getfield 177, 3) := dk_180 0 177 (dk_at dksJ4_getNode_5 21 rfl rfl)
theorem dJ4_getNode_142 : decode cJ4_getNode 142 = .ok (.dup, 1) := dk_89 (dk_at dksJ4_getNode_6 0 rfl rfl)
theorem dJ4_getNode_143 : decode cJ4_getNode 143 = .ok (.astore 4, 2) := dk_58 4 (dk_at dksJ4_getNode_6 1 rfl rfl)
theorem dJ4_getNode_145 : decode cJ4_getNode 145 = .ok (.ifnonnull (-46), 3) := dk_199 255 210 (dk_at dksJ4_getNode_6 3 rfl rfl)
theorem dJ4_getNode_148 : decode cJ4_getNode 148 = .ok (.aconst_null, 1) := dk_1 (dk_at dksJ4_getNode_6 6 rfl rfl)
theorem dJ4_getNode_149 : decode cJ4_getNode 149 = .ok (.areturn, 1) := dk_176 (dk_at dksJ4_getNode_6 7 rfl rfl)
abbrev cJ4_hash : ByteArray := prog_58_method_1_code
def yJ4_hash : MethodName := ⟨RJ4, "hash", "(Ljava/lang/Object;)I"⟩
def dkwJ4_hash_0 : List UInt8 := [42, 199, 0, 7, 3, 167, 0, 14, 42, 182, 0, 1, 89, 60, 27, 16, 16, 124, 130, 172]
abbrev dktJ4_hash_0 : List UInt8 := dkwJ4_hash_0 ++ []
theorem dksJ4_hash_0 : cJ4_hash.data.toList.drop 0 = dktJ4_hash_0 := by decide +kernel
theorem dJ4_hash_0 : decode cJ4_hash 0 = .ok (.aload_n 0, 1) := dk_42 (dk_at dksJ4_hash_0 0 rfl rfl)
theorem dJ4_hash_1 : decode cJ4_hash 1 = .ok (.ifnonnull 7, 3) := dk_199 0 7 (dk_at dksJ4_hash_0 1 rfl rfl)
theorem dJ4_hash_4 : decode cJ4_hash 4 = .ok (.iconst 0, 1) := dk_3 (dk_at dksJ4_hash_0 4 rfl rfl)
theorem dJ4_hash_5 : decode cJ4_hash 5 = .ok (.goto 14, 3) := dk_167 0 14 (dk_at dksJ4_hash_0 5 rfl rfl)
theorem dJ4_hash_8 : decode cJ4_hash 8 = .ok (.aload_n 0, 1) := dk_42 (dk_at dksJ4_hash_0 8 rfl rfl)
theorem dJ4_hash_9 : decode cJ4_hash 9 = .ok (.invokevirtual 1, 3) := dk_182 0 1 (dk_at dksJ4_hash_0 9 rfl rfl)
theorem dJ4_hash_12 : decode cJ4_hash 12 = .ok (.dup, 1) := dk_89 (dk_at dksJ4_hash_0 12 rfl rfl)
theorem dJ4_hash_13 : decode cJ4_hash 13 = .ok (.istore_n 1, 1) := dk_60 (dk_at dksJ4_hash_0 13 rfl rfl)
theorem dJ4_hash_14 : decode cJ4_hash 14 = .ok (.iload_n 1, 1) := dk_27 (dk_at dksJ4_hash_0 14 rfl rfl)
theorem dJ4_hash_15 : decode cJ4_hash 15 = .ok (.bipush 16, 2) := dk_16 16 (dk_at dksJ4_hash_0 15 rfl rfl)
theorem dJ4_hash_17 : decode cJ4_hash 17 = .ok (.iushr, 1) := dk_124 (dk_at dksJ4_hash_0 17 rfl rfl)
theorem dJ4_hash_18 : decode cJ4_hash 18 = .ok (.ixor, 1) := dk_130 (dk_at dksJ4_hash_0 18 rfl rfl)
theorem dJ4_hash_19 : decode cJ4_hash 19 = .ok (.ireturn, 1) := dk_172 (dk_at dksJ4_hash_0 19 rfl rfl)
abbrev cJ4_comparableClassFor : ByteArray := prog_58_method_2_code
def yJ4_comparableClassFor : MethodName := ⟨RJ4, "comparableClassFor", "(Ljava/lang/Object;)Ljava/lang/Class;"⟩
def dkwJ4_comparableClassFor_4 : List UInt8 := [4, 160, 0, 12, 45, 3, 50, 43, 166, 0, 5, 43, 176, 132, 7, 1, 167, 255, 186, 1, 176]
abbrev dktJ4_comparableClassFor_4 : List UInt8 := dkwJ4_comparableClassFor_4 ++ []
def dkwJ4_comparableClassFor_3 : List UInt8 := [185, 0, 23, 1, 0, 18, 7, 166, 0, 30, 25, 4, 185, 0, 27, 1, 0, 89, 78, 198, 0, 18, 45, 190]
abbrev dktJ4_comparableClassFor_3 : List UInt8 := dkwJ4_comparableClassFor_3 ++ dktJ4_comparableClassFor_4
def dkwJ4_comparableClassFor_2 : List UInt8 := [25, 5, 21, 7, 50, 58, 8, 25, 8, 193, 0, 21, 153, 0, 48, 25, 8, 192, 0, 21, 89, 58, 4]
abbrev dktJ4_comparableClassFor_2 : List UInt8 := dkwJ4_comparableClassFor_2 ++ dktJ4_comparableClassFor_3
def dkwJ4_comparableClassFor_1 : List UInt8 := [89, 77, 198, 0, 87, 44, 58, 5, 25, 5, 190, 54, 6, 3, 54, 7, 21, 7, 21, 6, 162, 0, 69]
abbrev dktJ4_comparableClassFor_1 : List UInt8 := dkwJ4_comparableClassFor_1 ++ dktJ4_comparableClassFor_2
def dkwJ4_comparableClassFor_0 : List UInt8 := [42, 193, 0, 7, 153, 0, 109, 42, 182, 0, 9, 89, 76, 18, 13, 166, 0, 5, 43, 176, 43, 182, 0, 15]
abbrev dktJ4_comparableClassFor_0 : List UInt8 := dkwJ4_comparableClassFor_0 ++ dktJ4_comparableClassFor_1
theorem dksJ4_comparableClassFor_0 : cJ4_comparableClassFor.data.toList.drop 0 = dktJ4_comparableClassFor_0 := by decide +kernel
theorem dksJ4_comparableClassFor_1 : cJ4_comparableClassFor.data.toList.drop 24 = dktJ4_comparableClassFor_1 := dk_seg dksJ4_comparableClassFor_0 24 rfl rfl
theorem dksJ4_comparableClassFor_2 : cJ4_comparableClassFor.data.toList.drop 47 = dktJ4_comparableClassFor_2 := dk_seg dksJ4_comparableClassFor_1 23 rfl rfl
theorem dksJ4_comparableClassFor_3 : cJ4_comparableClassFor.data.toList.drop 70 = dktJ4_comparableClassFor_3 := dk_seg dksJ4_comparableClassFor_2 23 rfl rfl
theorem dksJ4_comparableClassFor_4 : cJ4_comparableClassFor.data.toList.drop 94 = dktJ4_comparableClassFor_4 := dk_seg dksJ4_comparableClassFor_3 24 rfl rfl
theorem dJ4_comparableClassFor_0 : decode cJ4_comparableClassFor 0 = .ok (.aload_n 0, 1) := dk_42 (dk_at dksJ4_comparableClassFor_0 0 rfl rfl)
theorem dJ4_comparableClassFor_1 : decode cJ4_comparableClassFor 1 = .ok (.instanceof 7, 3) := dk_193 0 7 (dk_at dksJ4_comparableClassFor_0 1 rfl rfl)
theorem dJ4_comparableClassFor_4 : decode cJ4_comparableClassFor 4 = .ok (.ifCond .eq 109, 3) := dk_153 0 109 (dk_at dksJ4_comparableClassFor_0 4 rfl rfl)
theorem dJ4_comparableClassFor_7 : decode cJ4_comparableClassFor 7 = .ok (.aload_n 0, 1) := dk_42 (dk_at dksJ4_comparableClassFor_0 7 rfl rfl)
theorem dJ4_comparableClassFor_8 : decode cJ4_comparableClassFor 8 = .ok (.invokevirtual 9, 3) := dk_182 0 9 (dk_at dksJ4_comparableClassFor_0 8 rfl rfl)
theorem dJ4_comparableClassFor_11 : decode cJ4_comparableClassFor 11 = .ok (.dup, 1) := dk_89 (dk_at dksJ4_comparableClassFor_0 11 rfl rfl)
theorem dJ4_comparableClassFor_12 : decode cJ4_comparableClassFor 12 = .ok (.astore_n 1, 1) := dk_76 (dk_at dksJ4_comparableClassFor_0 12 rfl rfl)
theorem dJ4_comparableClassFor_13 : decode cJ4_comparableClassFor 13 = .ok (.ldc 13, 2) := dk_18 13 (dk_at dksJ4_comparableClassFor_0 13 rfl rfl)
theorem dJ4_comparableClassFor_15 : decode cJ4_comparableClassFor 15 = .ok (.if_acmp .ne 5, 3) := dk_166 0 5 (dk_at dksJ4_comparableClassFor_0 15 rfl rfl)
theorem dJ4_comparableClassFor_18 : decode cJ4_comparableClassFor 18 = .ok (.aload_n 1, 1) := dk_43 (dk_at dksJ4_comparableClassFor_0 18 rfl rfl)
theorem dJ4_comparableClassFor_19 : decode cJ4_comparableClassFor 19 = .ok (.areturn, 1) := dk_176 (dk_at dksJ4_comparableClassFor_0 19 rfl rfl)
theorem dJ4_comparableClassFor_20 : decode cJ4_comparableClassFor 20 = .ok (.aload_n 1, 1) := dk_43 (dk_at dksJ4_comparableClassFor_0 20 rfl rfl)
theorem dJ4_comparableClassFor_21 : decode cJ4_comparableClassFor 21 = .ok (.invokevirtual 15, 3) := dk_182 0 15 (dk_at dksJ4_comparableClassFor_0 21 rfl rfl)
theorem dJ4_comparableClassFor_24 : decode cJ4_comparableClassFor 24 = .ok (.dup, 1) := dk_89 (dk_at dksJ4_comparableClassFor_1 0 rfl rfl)
theorem dJ4_comparableClassFor_25 : decode cJ4_comparableClassFor 25 = .ok (.astore_n 2, 1) := dk_77 (dk_at dksJ4_comparableClassFor_1 1 rfl rfl)
theorem dJ4_comparableClassFor_26 : decode cJ4_comparableClassFor 26 = .ok (.ifnull 87, 3) := dk_198 0 87 (dk_at dksJ4_comparableClassFor_1 2 rfl rfl)
theorem dJ4_comparableClassFor_29 : decode cJ4_comparableClassFor 29 = .ok (.aload_n 2, 1) := dk_44 (dk_at dksJ4_comparableClassFor_1 5 rfl rfl)
theorem dJ4_comparableClassFor_30 : decode cJ4_comparableClassFor 30 = .ok (.astore 5, 2) := dk_58 5 (dk_at dksJ4_comparableClassFor_1 6 rfl rfl)
theorem dJ4_comparableClassFor_32 : decode cJ4_comparableClassFor 32 = .ok (.aload 5, 2) := dk_25 5 (dk_at dksJ4_comparableClassFor_1 8 rfl rfl)
theorem dJ4_comparableClassFor_34 : decode cJ4_comparableClassFor 34 = .ok (.arraylength, 1) := dk_190 (dk_at dksJ4_comparableClassFor_1 10 rfl rfl)
theorem dJ4_comparableClassFor_35 : decode cJ4_comparableClassFor 35 = .ok (.istore 6, 2) := dk_54 6 (dk_at dksJ4_comparableClassFor_1 11 rfl rfl)
theorem dJ4_comparableClassFor_37 : decode cJ4_comparableClassFor 37 = .ok (.iconst 0, 1) := dk_3 (dk_at dksJ4_comparableClassFor_1 13 rfl rfl)
theorem dJ4_comparableClassFor_38 : decode cJ4_comparableClassFor 38 = .ok (.istore 7, 2) := dk_54 7 (dk_at dksJ4_comparableClassFor_1 14 rfl rfl)
theorem dJ4_comparableClassFor_40 : decode cJ4_comparableClassFor 40 = .ok (.iload 7, 2) := dk_21 7 (dk_at dksJ4_comparableClassFor_1 16 rfl rfl)
theorem dJ4_comparableClassFor_42 : decode cJ4_comparableClassFor 42 = .ok (.iload 6, 2) := dk_21 6 (dk_at dksJ4_comparableClassFor_1 18 rfl rfl)
theorem dJ4_comparableClassFor_44 : decode cJ4_comparableClassFor 44 = .ok (.if_icmp .ge 69, 3) := dk_162 0 69 (dk_at dksJ4_comparableClassFor_1 20 rfl rfl)
theorem dJ4_comparableClassFor_47 : decode cJ4_comparableClassFor 47 = .ok (.aload 5, 2) := dk_25 5 (dk_at dksJ4_comparableClassFor_2 0 rfl rfl)
theorem dJ4_comparableClassFor_49 : decode cJ4_comparableClassFor 49 = .ok (.iload 7, 2) := dk_21 7 (dk_at dksJ4_comparableClassFor_2 2 rfl rfl)
theorem dJ4_comparableClassFor_51 : decode cJ4_comparableClassFor 51 = .ok (.aaload, 1) := dk_50 (dk_at dksJ4_comparableClassFor_2 4 rfl rfl)
theorem dJ4_comparableClassFor_52 : decode cJ4_comparableClassFor 52 = .ok (.astore 8, 2) := dk_58 8 (dk_at dksJ4_comparableClassFor_2 5 rfl rfl)
theorem dJ4_comparableClassFor_54 : decode cJ4_comparableClassFor 54 = .ok (.aload 8, 2) := dk_25 8 (dk_at dksJ4_comparableClassFor_2 7 rfl rfl)
theorem dJ4_comparableClassFor_56 : decode cJ4_comparableClassFor 56 = .ok (.instanceof 21, 3) := dk_193 0 21 (dk_at dksJ4_comparableClassFor_2 9 rfl rfl)
theorem dJ4_comparableClassFor_59 : decode cJ4_comparableClassFor 59 = .ok (.ifCond .eq 48, 3) := dk_153 0 48 (dk_at dksJ4_comparableClassFor_2 12 rfl rfl)
theorem dJ4_comparableClassFor_62 : decode cJ4_comparableClassFor 62 = .ok (.aload 8, 2) := dk_25 8 (dk_at dksJ4_comparableClassFor_2 15 rfl rfl)
theorem dJ4_comparableClassFor_64 : decode cJ4_comparableClassFor 64 = .ok (.checkcast 21, 3) := dk_192 0 21 (dk_at dksJ4_comparableClassFor_2 17 rfl rfl)
theorem dJ4_comparableClassFor_67 : decode cJ4_comparableClassFor 67 = .ok (.dup, 1) := dk_89 (dk_at dksJ4_comparableClassFor_2 20 rfl rfl)
theorem dJ4_comparableClassFor_68 : decode cJ4_comparableClassFor 68 = .ok (.astore 4, 2) := dk_58 4 (dk_at dksJ4_comparableClassFor_2 21 rfl rfl)
theorem dJ4_comparableClassFor_70 : decode cJ4_comparableClassFor 70 = .ok (.invokeinterface 23 1, 5) := by decide +kernel
theorem dJ4_comparableClassFor_75 : decode cJ4_comparableClassFor 75 = .ok (.ldc 7, 2) := dk_18 7 (dk_at dksJ4_comparableClassFor_3 5 rfl rfl)
theorem dJ4_comparableClassFor_77 : decode cJ4_comparableClassFor 77 = .ok (.if_acmp .ne 30, 3) := dk_166 0 30 (dk_at dksJ4_comparableClassFor_3 7 rfl rfl)
theorem dJ4_comparableClassFor_80 : decode cJ4_comparableClassFor 80 = .ok (.aload 4, 2) := dk_25 4 (dk_at dksJ4_comparableClassFor_3 10 rfl rfl)
theorem dJ4_comparableClassFor_82 : decode cJ4_comparableClassFor 82 = .ok (.invokeinterface 27 1, 5) := by decide +kernel
theorem dJ4_comparableClassFor_87 : decode cJ4_comparableClassFor 87 = .ok (.dup, 1) := dk_89 (dk_at dksJ4_comparableClassFor_3 17 rfl rfl)
theorem dJ4_comparableClassFor_88 : decode cJ4_comparableClassFor 88 = .ok (.astore_n 3, 1) := dk_78 (dk_at dksJ4_comparableClassFor_3 18 rfl rfl)
theorem dJ4_comparableClassFor_89 : decode cJ4_comparableClassFor 89 = .ok (.ifnull 18, 3) := dk_198 0 18 (dk_at dksJ4_comparableClassFor_3 19 rfl rfl)
theorem dJ4_comparableClassFor_92 : decode cJ4_comparableClassFor 92 = .ok (.aload_n 3, 1) := dk_45 (dk_at dksJ4_comparableClassFor_3 22 rfl rfl)
theorem dJ4_comparableClassFor_93 : decode cJ4_comparableClassFor 93 = .ok (.arraylength, 1) := dk_190 (dk_at dksJ4_comparableClassFor_3 23 rfl rfl)
theorem dJ4_comparableClassFor_94 : decode cJ4_comparableClassFor 94 = .ok (.iconst 1, 1) := dk_4 (dk_at dksJ4_comparableClassFor_4 0 rfl rfl)
theorem dJ4_comparableClassFor_95 : decode cJ4_comparableClassFor 95 = .ok (.if_icmp .ne 12, 3) := dk_160 0 12 (dk_at dksJ4_comparableClassFor_4 1 rfl rfl)
theorem dJ4_comparableClassFor_98 : decode cJ4_comparableClassFor 98 = .ok (.aload_n 3, 1) := dk_45 (dk_at dksJ4_comparableClassFor_4 4 rfl rfl)
theorem dJ4_comparableClassFor_99 : decode cJ4_comparableClassFor 99 = .ok (.iconst 0, 1) := dk_3 (dk_at dksJ4_comparableClassFor_4 5 rfl rfl)
theorem dJ4_comparableClassFor_100 : decode cJ4_comparableClassFor 100 = .ok (.aaload, 1) := dk_50 (dk_at dksJ4_comparableClassFor_4 6 rfl rfl)
theorem dJ4_comparableClassFor_101 : decode cJ4_comparableClassFor 101 = .ok (.aload_n 1, 1) := dk_43 (dk_at dksJ4_comparableClassFor_4 7 rfl rfl)
theorem dJ4_comparableClassFor_102 : decode cJ4_comparableClassFor 102 = .ok (.if_acmp .ne 5, 3) := dk_166 0 5 (dk_at dksJ4_comparableClassFor_4 8 rfl rfl)
theorem dJ4_comparableClassFor_105 : decode cJ4_comparableClassFor 105 = .ok (.aload_n 1, 1) := dk_43 (dk_at dksJ4_comparableClassFor_4 11 rfl rfl)
theorem dJ4_comparableClassFor_106 : decode cJ4_comparableClassFor 106 = .ok (.areturn, 1) := dk_176 (dk_at dksJ4_comparableClassFor_4 12 rfl rfl)
theorem dJ4_comparableClassFor_107 : decode cJ4_comparableClassFor 107 = .ok (.iinc 7 1, 3) := dk_132 7 1 (dk_at dksJ4_comparableClassFor_4 13 rfl rfl)
theorem dJ4_comparableClassFor_110 : decode cJ4_comparableClassFor 110 = .ok (.goto (-70), 3) := dk_167 255 186 (dk_at dksJ4_comparableClassFor_4 16 rfl rfl)
theorem dJ4_comparableClassFor_113 : decode cJ4_comparableClassFor 113 = .ok (.aconst_null, 1) := dk_1 (dk_at dksJ4_comparableClassFor_4 19 rfl rfl)
theorem dJ4_comparableClassFor_114 : decode cJ4_comparableClassFor 114 = .ok (.areturn, 1) := dk_176 (dk_at dksJ4_comparableClassFor_4 20 rfl rfl)
abbrev cJ4_compareComparables : ByteArray := prog_58_method_3_code
def yJ4_compareComparables : MethodName := ⟨RJ4, "compareComparables", "(Ljava/lang/Class;Ljava/lang/Object;Ljava/lang/Object;)I"⟩
def dkwJ4_compareComparables_1 : List UInt8 := [185, 0, 30, 2, 0, 172]
abbrev dktJ4_compareComparables_1 : List UInt8 := dkwJ4_compareComparables_1 ++ []
def dkwJ4_compareComparables_0 : List UInt8 := [44, 198, 0, 11, 44, 182, 0, 9, 42, 165, 0, 7, 3, 167, 0, 13, 43, 192, 0, 7, 44]
abbrev dktJ4_compareComparables_0 : List UInt8 := dkwJ4_compareComparables_0 ++ dktJ4_compareComparables_1
theorem dksJ4_compareComparables_0 : cJ4_compareComparables.data.toList.drop 0 = dktJ4_compareComparables_0 := by decide +kernel
theorem dksJ4_compareComparables_1 : cJ4_compareComparables.data.toList.drop 21 = dktJ4_compareComparables_1 := dk_seg dksJ4_compareComparables_0 21 rfl rfl
theorem dJ4_compareComparables_0 : decode cJ4_compareComparables 0 = .ok (.aload_n 2, 1) := dk_44 (dk_at dksJ4_compareComparables_0 0 rfl rfl)
theorem dJ4_compareComparables_1 : decode cJ4_compareComparables 1 = .ok (.ifnull 11, 3) := dk_198 0 11 (dk_at dksJ4_compareComparables_0 1 rfl rfl)
theorem dJ4_compareComparables_4 : decode cJ4_compareComparables 4 = .ok (.aload_n 2, 1) := dk_44 (dk_at dksJ4_compareComparables_0 4 rfl rfl)
theorem dJ4_compareComparables_5 : decode cJ4_compareComparables 5 = .ok (.invokevirtual 9, 3) := dk_182 0 9 (dk_at dksJ4_compareComparables_0 5 rfl rfl)
theorem dJ4_compareComparables_8 : decode cJ4_compareComparables 8 = .ok (.aload_n 0, 1) := dk_42 (dk_at dksJ4_compareComparables_0 8 rfl rfl)
theorem dJ4_compareComparables_9 : decode cJ4_compareComparables 9 = .ok (.if_acmp .eq 7, 3) := dk_165 0 7 (dk_at dksJ4_compareComparables_0 9 rfl rfl)
theorem dJ4_compareComparables_12 : decode cJ4_compareComparables 12 = .ok (.iconst 0, 1) := dk_3 (dk_at dksJ4_compareComparables_0 12 rfl rfl)
theorem dJ4_compareComparables_13 : decode cJ4_compareComparables 13 = .ok (.goto 13, 3) := dk_167 0 13 (dk_at dksJ4_compareComparables_0 13 rfl rfl)
theorem dJ4_compareComparables_16 : decode cJ4_compareComparables 16 = .ok (.aload_n 1, 1) := dk_43 (dk_at dksJ4_compareComparables_0 16 rfl rfl)
theorem dJ4_compareComparables_17 : decode cJ4_compareComparables 17 = .ok (.checkcast 7, 3) := dk_192 0 7 (dk_at dksJ4_compareComparables_0 17 rfl rfl)
theorem dJ4_compareComparables_20 : decode cJ4_compareComparables 20 = .ok (.aload_n 2, 1) := dk_44 (dk_at dksJ4_compareComparables_0 20 rfl rfl)
theorem dJ4_compareComparables_21 : decode cJ4_compareComparables 21 = .ok (.invokeinterface 30 2, 5) := by decide +kernel
theorem dJ4_compareComparables_26 : decode cJ4_compareComparables 26 = .ok (.ireturn, 1) := dk_172 (dk_at dksJ4_compareComparables_1 5 rfl rfl)
abbrev cJ4_containsKey : ByteArray := prog_58_method_14_code
def yJ4_containsKey : MethodName := ⟨RJ4, "containsKey", "(Ljava/lang/Object;)Z"⟩
def dkwJ4_containsKey_0 : List UInt8 := [42, 43, 182, 0, 158, 198, 0, 7, 4, 167, 0, 4, 3, 172]
abbrev dktJ4_containsKey_0 : List UInt8 := dkwJ4_containsKey_0 ++ []
theorem dksJ4_containsKey_0 : cJ4_containsKey.data.toList.drop 0 = dktJ4_containsKey_0 := by decide +kernel
theorem dJ4_containsKey_0 : decode cJ4_containsKey 0 = .ok (.aload_n 0, 1) := dk_42 (dk_at dksJ4_containsKey_0 0 rfl rfl)
theorem dJ4_containsKey_1 : decode cJ4_containsKey 1 = .ok (.aload_n 1, 1) := dk_43 (dk_at dksJ4_containsKey_0 1 rfl rfl)
theorem dJ4_containsKey_2 : decode cJ4_containsKey 2 = .ok (.invokevirtual 158, 3) := dk_182 0 158 (dk_at dksJ4_containsKey_0 2 rfl rfl)
theorem dJ4_containsKey_5 : decode cJ4_containsKey 5 = .ok (.ifnull 7, 3) := dk_198 0 7 (dk_at dksJ4_containsKey_0 5 rfl rfl)
theorem dJ4_containsKey_8 : decode cJ4_containsKey 8 = .ok (.iconst 1, 1) := dk_4 (dk_at dksJ4_containsKey_0 8 rfl rfl)
theorem dJ4_containsKey_9 : decode cJ4_containsKey 9 = .ok (.goto 4, 3) := dk_167 0 4 (dk_at dksJ4_containsKey_0 9 rfl rfl)
theorem dJ4_containsKey_12 : decode cJ4_containsKey 12 = .ok (.iconst 0, 1) := dk_3 (dk_at dksJ4_containsKey_0 12 rfl rfl)
theorem dJ4_containsKey_13 : decode cJ4_containsKey 13 = .ok (.ireturn, 1) := dk_172 (dk_at dksJ4_containsKey_0 13 rfl rfl)
abbrev cJ4_get : ByteArray := prog_58_method_12_code
def yJ4_get : MethodName := ⟨RJ4, "get", "(Ljava/lang/Object;)Ljava/lang/Object;"⟩
def dkwJ4_get_0 : List UInt8 := [42, 43, 182, 0, 158, 89, 77, 199, 0, 7, 1, 167, 0, 7, 44, 180, 0, 162, 176]
abbrev dktJ4_get_0 : List UInt8 := dkwJ4_get_0 ++ []
theorem dksJ4_get_0 : cJ4_get.data.toList.drop 0 = dktJ4_get_0 := by decide +kernel
theorem dJ4_get_0 : decode cJ4_get 0 = .ok (.aload_n 0, 1) := dk_42 (dk_at dksJ4_get_0 0 rfl rfl)
theorem dJ4_get_1 : decode cJ4_get 1 = .ok (.aload_n 1, 1) := dk_43 (dk_at dksJ4_get_0 1 rfl rfl)
theorem dJ4_get_2 : decode cJ4_get 2 = .ok (.invokevirtual 158, 3) := dk_182 0 158 (dk_at dksJ4_get_0 2 rfl rfl)
theorem dJ4_get_5 : decode cJ4_get 5 = .ok (.dup, 1) := dk_89 (dk_at dksJ4_get_0 5 rfl rfl)
theorem dJ4_get_6 : decode cJ4_get 6 = .ok (.astore_n 2, 1) := dk_77 (dk_at dksJ4_get_0 6 rfl rfl)
theorem dJ4_get_7 : decode cJ4_get 7 = .ok (.ifnonnull 7, 3) := dk_199 0 7 (dk_at dksJ4_get_0 7 rfl rfl)
theorem dJ4_get_10 : decode cJ4_get 10 = .ok (.aconst_null, 1) := dk_1 (dk_at dksJ4_get_0 10 rfl rfl)
theorem dJ4_get_11 : decode cJ4_get 11 = .ok (.goto 7, 3) := dk_167 0 7 (dk_at dksJ4_get_0 11 rfl rfl)
theorem dJ4_get_14 : decode cJ4_get 14 = .ok (.aload_n 2, 1) := dk_44 (dk_at dksJ4_get_0 14 rfl rfl)
theorem dJ4_get_15 : decode cJ4_get 15 = .ok (.getfield 162, 3) := dk_180 0 162 (dk_at dksJ4_get_0 15 rfl rfl)
theorem dJ4_get_18 : decode cJ4_get 18 = .ok (.areturn, 1) := dk_176 (dk_at dksJ4_get_0 18 rfl rfl)
abbrev cJ4_put : ByteArray := prog_58_method_15_code
def yJ4_put : MethodName := ⟨RJ4, "put", "(Ljava/lang/Object;Ljava/lang/Object;)Ljava/lang/Object;"⟩
def dkwJ4_put_0 : List UInt8 := [42, 43, 184, 0, 149, 43, 44, 3, 4, 182, 0, 152, 176]
abbrev dktJ4_put_0 : List UInt8 := dkwJ4_put_0 ++ []
theorem dksJ4_put_0 : cJ4_put.data.toList.drop 0 = dktJ4_put_0 := by decide +kernel
theorem dJ4_put_0 : decode cJ4_put 0 = .ok (.aload_n 0, 1) := dk_42 (dk_at dksJ4_put_0 0 rfl rfl)
theorem dJ4_put_1 : decode cJ4_put 1 = .ok (.aload_n 1, 1) := dk_43 (dk_at dksJ4_put_0 1 rfl rfl)
theorem dJ4_put_2 : decode cJ4_put 2 = .ok (.invokestatic 149, 3) := dk_184 0 149 (dk_at dksJ4_put_0 2 rfl rfl)
theorem dJ4_put_5 : decode cJ4_put 5 = .ok (.aload_n 1, 1) := dk_43 (dk_at dksJ4_put_0 5 rfl rfl)
theorem dJ4_put_6 : decode cJ4_put 6 = .ok (.aload_n 2, 1) := dk_44 (dk_at dksJ4_put_0 6 rfl rfl)
theorem dJ4_put_7 : decode cJ4_put 7 = .ok (.iconst 0, 1) := dk_3 (dk_at dksJ4_put_0 7 rfl rfl)
theorem dJ4_put_8 : decode cJ4_put 8 = .ok (.iconst 1, 1) := dk_4 (dk_at dksJ4_put_0 8 rfl rfl)
theorem dJ4_put_9 : decode cJ4_put 9 = .ok (.invokevirtual 152, 3) := dk_182 0 152 (dk_at dksJ4_put_0 9 rfl rfl)
theorem dJ4_put_12 : decode cJ4_put 12 = .ok (.areturn, 1) := dk_176 (dk_at dksJ4_put_0 12 rfl rfl)
abbrev cJ4_putVal : ByteArray := prog_58_method_16_code
def yJ4_putVal : MethodName := ⟨RJ4, "putVal", "(ILjava/lang/Object;Ljava/lang/Object;ZZ)Ljava/lang/Object;"⟩
def dkwJ4_putVal_12 : List UInt8 := [181, 0, 156, 42, 180, 0, 88, 164, 0, 8, 42, 182, 0, 117, 87, 42, 21, 5, 182, 0, 205, 1, 176]
abbrev dktJ4_putVal_12 : List UInt8 := dkwJ4_putVal_12 ++ []
def dkwJ4_putVal_11 : List UInt8 := [182, 0, 198, 25, 12, 176, 42, 89, 180, 0, 202, 4, 96, 181, 0, 202, 42, 89, 180, 0, 156, 4, 96, 90]
abbrev dktJ4_putVal_11 : List UInt8 := dkwJ4_putVal_11 ++ dktJ4_putVal_12
def dkwJ4_putVal_10 : List UInt8 := [180, 0, 162, 58, 12, 21, 4, 153, 0, 8, 25, 12, 199, 0, 9, 25, 10, 45, 181, 0, 162, 42, 25, 10]
abbrev dktJ4_putVal_10 : List UInt8 := dkwJ4_putVal_10 ++ dktJ4_putVal_11
def dkwJ4_putVal_9 : List UInt8 := [153, 0, 6, 167, 0, 13, 25, 10, 58, 7, 132, 12, 1, 167, 255, 171, 25, 10, 198, 0, 35, 25, 10]
abbrev dktJ4_putVal_9 : List UInt8 := dkwJ4_putVal_9 ++ dktJ4_putVal_10
def dkwJ4_putVal_8 : List UInt8 := [25, 10, 180, 0, 170, 89, 58, 11, 44, 165, 0, 29, 44, 198, 0, 15, 44, 25, 11, 182, 0, 173]
abbrev dktJ4_putVal_8 : List UInt8 := dkwJ4_putVal_8 ++ dktJ4_putVal_9
def dkwJ4_putVal_7 : List UInt8 := [16, 7, 161, 0, 60, 42, 25, 6, 27, 182, 0, 194, 167, 0, 50, 25, 10, 180, 0, 168, 27, 160, 0, 31]
abbrev dktJ4_putVal_7 : List UInt8 := dkwJ4_putVal_7 ++ dktJ4_putVal_8
def dkwJ4_putVal_6 : List UInt8 := [180, 0, 177, 89, 58, 10, 199, 0, 33, 25, 7, 42, 27, 44, 45, 1, 182, 0, 186, 181, 0, 177, 21, 12]
abbrev dktJ4_putVal_6 : List UInt8 := dkwJ4_putVal_6 ++ dktJ4_putVal_7
def dkwJ4_putVal_5 : List UInt8 := [192, 0, 180, 42, 25, 6, 27, 44, 45, 182, 0, 190, 58, 10, 167, 0, 94, 3, 54, 12, 25, 7]
abbrev dktJ4_putVal_5 : List UInt8 := dkwJ4_putVal_5 ++ dktJ4_putVal_6
def dkwJ4_putVal_4 : List UInt8 := [182, 0, 173, 153, 0, 10, 25, 7, 58, 10, 167, 0, 121, 25, 7, 193, 0, 180, 153, 0, 22, 25, 7]
abbrev dktJ4_putVal_4 : List UInt8 := dkwJ4_putVal_4 ++ dktJ4_putVal_5
def dkwJ4_putVal_3 : List UInt8 := [160, 0, 35, 25, 7, 180, 0, 170, 89, 58, 11, 44, 165, 0, 16, 44, 198, 0, 19, 44, 25, 11]
abbrev dktJ4_putVal_3 : List UInt8 := dkwJ4_putVal_3 ++ dktJ4_putVal_4
def dkwJ4_putVal_2 : List UInt8 := [25, 6, 21, 9, 42, 27, 44, 45, 1, 182, 0, 186, 83, 167, 0, 199, 25, 7, 180, 0, 168, 27]
abbrev dktJ4_putVal_2 : List UInt8 := dkwJ4_putVal_2 ++ dktJ4_putVal_3
def dkwJ4_putVal_1 : List UInt8 := [58, 6, 190, 54, 8, 25, 6, 21, 8, 4, 100, 27, 126, 89, 54, 9, 50, 89, 58, 7, 199, 0, 19]
abbrev dktJ4_putVal_1 : List UInt8 := dkwJ4_putVal_1 ++ dktJ4_putVal_2
def dkwJ4_putVal_0 : List UInt8 := [42, 180, 0, 105, 89, 58, 6, 198, 0, 12, 25, 6, 190, 89, 54, 8, 154, 0, 13, 42, 182, 0, 117, 89]
abbrev dktJ4_putVal_0 : List UInt8 := dkwJ4_putVal_0 ++ dktJ4_putVal_1
theorem dksJ4_putVal_0 : cJ4_putVal.data.toList.drop 0 = dktJ4_putVal_0 := by decide +kernel
theorem dksJ4_putVal_1 : cJ4_putVal.data.toList.drop 24 = dktJ4_putVal_1 := dk_seg dksJ4_putVal_0 24 rfl rfl
theorem dksJ4_putVal_2 : cJ4_putVal.data.toList.drop 47 = dktJ4_putVal_2 := dk_seg dksJ4_putVal_1 23 rfl rfl
theorem dksJ4_putVal_3 : cJ4_putVal.data.toList.drop 69 = dktJ4_putVal_3 := dk_seg dksJ4_putVal_2 22 rfl rfl
theorem dksJ4_putVal_4 : cJ4_putVal.data.toList.drop 91 = dktJ4_putVal_4 := dk_seg dksJ4_putVal_3 22 rfl rfl
theorem dksJ4_putVal_5 : cJ4_putVal.data.toList.drop 114 = dktJ4_putVal_5 := dk_seg dksJ4_putVal_4 23 rfl rfl
theorem dksJ4_putVal_6 : cJ4_putVal.data.toList.drop 136 = dktJ4_putVal_6 := dk_seg dksJ4_putVal_5 22 rfl rfl
theorem dksJ4_putVal_7 : cJ4_putVal.data.toList.drop 160 = dktJ4_putVal_7 := dk_seg dksJ4_putVal_6 24 rfl rfl
theorem dksJ4_putVal_8 : cJ4_putVal.data.toList.drop 184 = dktJ4_putVal_8 := dk_seg dksJ4_putVal_7 24 rfl rfl
theorem dksJ4_putVal_9 : cJ4_putVal.data.toList.drop 206 = dktJ4_putVal_9 := dk_seg dksJ4_putVal_8 22 rfl rfl
theorem dksJ4_putVal_10 : cJ4_putVal.data.toList.drop 229 = dktJ4_putVal_10 := dk_seg dksJ4_putVal_9 23 rfl rfl
theorem dksJ4_putVal_11 : cJ4_putVal.data.toList.drop 253 = dktJ4_putVal_11 := dk_seg dksJ4_putVal_10 24 rfl rfl
theorem dksJ4_putVal_12 : cJ4_putVal.data.toList.drop 277 = dktJ4_putVal_12 := dk_seg dksJ4_putVal_11 24 rfl rfl
theorem dJ4_putVal_0 : decode cJ4_putVal 0 = .ok (.aload_n 0, 1) := dk_42 (dk_at dksJ4_putVal_0 0 rfl rfl)
theorem dJ4_putVal_1 : decode cJ4_putVal 1 = .ok (.getfield 105, 3) := dk_180 0 105 (dk_at dksJ4_putVal_0 1 rfl rfl)
theorem dJ4_putVal_4 : decode cJ4_putVal 4 = .ok (.dup, 1) := dk_89 (dk_at dksJ4_putVal_0 4 rfl rfl)
theorem dJ4_putVal_5 : decode cJ4_putVal 5 = .ok (.astore 6, 2) := dk_58 6 (dk_at dksJ4_putVal_0 5 rfl rfl)
theorem dJ4_putVal_7 : decode cJ4_putVal 7 = .ok (.ifnull 12, 3) := dk_198 0 12 (dk_at dksJ4_putVal_0 7 rfl rfl)
theorem dJ4_putVal_10 : decode cJ4_putVal 10 = .ok (.aload 6, 2) := dk_25 6 (dk_at dksJ4_putVal_0 10 rfl rfl)
theorem dJ4_putVal_12 : decode cJ4_putVal 12 = .ok (.arraylength, 1) := dk_190 (dk_at dksJ4_putVal_0 12 rfl rfl)
theorem dJ4_putVal_13 : decode cJ4_putVal 13 = .ok (.dup, 1) := dk_89 (dk_at dksJ4_putVal_0 13 rfl rfl)
theorem dJ4_putVal_14 : decode cJ4_putVal 14 = .ok (.istore 8, 2) := dk_54 8 (dk_at dksJ4_putVal_0 14 rfl rfl)
theorem dJ4_putVal_16 : decode cJ4_putVal 16 = .ok (.ifCond .ne 13, 3) := dk_154 0 13 (dk_at dksJ4_putVal_0 16 rfl rfl)
theorem dJ4_putVal_19 : decode cJ4_putVal 19 = .ok (.aload_n 0, 1) := dk_42 (dk_at dksJ4_putVal_0 19 rfl rfl)
theorem dJ4_putVal_20 : decode cJ4_putVal 20 = .ok (.invokevirtual 117, 3) := dk_182 0 117 (dk_at dksJ4_putVal_0 20 rfl rfl)
theorem dJ4_putVal_23 : decode cJ4_putVal 23 = .ok (.dup, 1) := dk_89 (dk_at dksJ4_putVal_0 23 rfl rfl)
theorem dJ4_putVal_24 : decode cJ4_putVal 24 = .ok (.astore 6, 2) := dk_58 6 (dk_at dksJ4_putVal_1 0 rfl rfl)
theorem dJ4_putVal_26 : decode cJ4_putVal 26 = .ok (.arraylength, 1) := dk_190 (dk_at dksJ4_putVal_1 2 rfl rfl)
theorem dJ4_putVal_27 : decode cJ4_putVal 27 = .ok (.istore 8, 2) := dk_54 8 (dk_at dksJ4_putVal_1 3 rfl rfl)
theorem dJ4_putVal_29 : decode cJ4_putVal 29 = .ok (.aload 6, 2) := dk_25 6 (dk_at dksJ4_putVal_1 5 rfl rfl)
theorem dJ4_putVal_31 : decode cJ4_putVal 31 = .ok (.iload 8, 2) := dk_21 8 (dk_at dksJ4_putVal_1 7 rfl rfl)
theorem dJ4_putVal_33 : decode cJ4_putVal 33 = .ok (.iconst 1, 1) := dk_4 (dk_at dksJ4_putVal_1 9 rfl rfl)
theorem dJ4_putVal_34 : decode cJ4_putVal 34 = .ok (.isub, 1) := dk_100 (dk_at dksJ4_putVal_1 10 rfl rfl)
theorem dJ4_putVal_35 : decode cJ4_putVal 35 = .ok (.iload_n 1, 1) := dk_27 (dk_at dksJ4_putVal_1 11 rfl rfl)
theorem dJ4_putVal_36 : decode cJ4_putVal 36 = .ok (.iand, 1) := dk_126 (dk_at dksJ4_putVal_1 12 rfl rfl)
theorem dJ4_putVal_37 : decode cJ4_putVal 37 = .ok (.dup, 1) := dk_89 (dk_at dksJ4_putVal_1 13 rfl rfl)
theorem dJ4_putVal_38 : decode cJ4_putVal 38 = .ok (.istore 9, 2) := dk_54 9 (dk_at dksJ4_putVal_1 14 rfl rfl)
theorem dJ4_putVal_40 : decode cJ4_putVal 40 = .ok (.aaload, 1) := dk_50 (dk_at dksJ4_putVal_1 16 rfl rfl)
theorem dJ4_putVal_41 : decode cJ4_putVal 41 = .ok (.dup, 1) := dk_89 (dk_at dksJ4_putVal_1 17 rfl rfl)
theorem dJ4_putVal_42 : decode cJ4_putVal 42 = .ok (.astore 7, 2) := dk_58 7 (dk_at dksJ4_putVal_1 18 rfl rfl)
theorem dJ4_putVal_44 : decode cJ4_putVal 44 = .ok (.ifnonnull 19, 3) := dk_199 0 19 (dk_at dksJ4_putVal_1 20 rfl rfl)
theorem dJ4_putVal_47 : decode cJ4_putVal 47 = .ok (.aload 6, 2) := dk_25 6 (dk_at dksJ4_putVal_2 0 rfl rfl)
theorem dJ4_putVal_49 : decode cJ4_putVal 49 = .ok (.iload 9, 2) := dk_21 9 (dk_at dksJ4_putVal_2 2 rfl rfl)
theorem dJ4_putVal_51 : decode cJ4_putVal 51 = .ok (.aload_n 0, 1) := dk_42 (dk_at dksJ4_putVal_2 4 rfl rfl)
theorem dJ4_putVal_52 : decode cJ4_putVal 52 = .ok (.iload_n 1, 1) := dk_27 (dk_at dksJ4_putVal_2 5 rfl rfl)
theorem dJ4_putVal_53 : decode cJ4_putVal 53 = .ok (.aload_n 2, 1) := dk_44 (dk_at dksJ4_putVal_2 6 rfl rfl)
theorem dJ4_putVal_54 : decode cJ4_putVal 54 = .ok (.aload_n 3, 1) := dk_45 (dk_at dksJ4_putVal_2 7 rfl rfl)
theorem dJ4_putVal_55 : decode cJ4_putVal 55 = .ok (.aconst_null, 1) := dk_1 (dk_at dksJ4_putVal_2 8 rfl rfl)
theorem dJ4_putVal_56 : decode cJ4_putVal 56 = .ok (.invokevirtual 186, 3) := dk_182 0 186 (dk_at dksJ4_putVal_2 9 rfl rfl)
theorem dJ4_putVal_59 : decode cJ4_putVal 59 = .ok (.aastore, 1) := dk_83 (dk_at dksJ4_putVal_2 12 rfl rfl)
theorem dJ4_putVal_60 : decode cJ4_putVal 60 = .ok (.goto 199, 3) := dk_167 0 199 (dk_at dksJ4_putVal_2 13 rfl rfl)
theorem dJ4_putVal_63 : decode cJ4_putVal 63 = .ok (.aload 7, 2) := dk_25 7 (dk_at dksJ4_putVal_2 16 rfl rfl)
theorem dJ4_putVal_65 : decode cJ4_putVal 65 = .ok (.getfield 168, 3) := dk_180 0 168 (dk_at dksJ4_putVal_2 18 rfl rfl)
theorem dJ4_putVal_68 : decode cJ4_putVal 68 = .ok (.iload_n 1, 1) := dk_27 (dk_at dksJ4_putVal_2 21 rfl rfl)
theorem dJ4_putVal_69 : decode cJ4_putVal 69 = .ok (.if_icmp .ne 35, 3) := dk_160 0 35 (dk_at dksJ4_putVal_3 0 rfl rfl)
theorem dJ4_putVal_72 : decode cJ4_putVal 72 = .ok (.aload 7, 2) := dk_25 7 (dk_at dksJ4_putVal_3 3 rfl rfl)
theorem dJ4_putVal_74 : decode cJ4_putVal 74 = .ok (.getfield 170, 3) := dk_180 0 170 (dk_at dksJ4_putVal_3 5 rfl rfl)
theorem dJ4_putVal_77 : decode cJ4_putVal 77 = .ok (.dup, 1) := dk_89 (dk_at dksJ4_putVal_3 8 rfl rfl)
theorem dJ4_putVal_78 : decode cJ4_putVal 78 = .ok (.astore 11, 2) := dk_58 11 (dk_at dksJ4_putVal_3 9 rfl rfl)
theorem dJ4_putVal_80 : decode cJ4_putVal 80 = .ok (.aload_n 2, 1) := dk_44 (dk_at dksJ4_putVal_3 11 rfl rfl)
theorem dJ4_putVal_81 : decode cJ4_putVal 81 = .ok (.if_acmp .eq 16, 3) := dk_165 0 16 (dk_at dksJ4_putVal_3 12 rfl rfl)
theorem dJ4_putVal_84 : decode cJ4_putVal 84 = .ok (.aload_n 2, 1) := dk_44 (dk_at dksJ4_putVal_3 15 rfl rfl)
theorem dJ4_putVal_85 : decode cJ4_putVal 85 = .ok (.ifnull 19, 3) := dk_198 0 19 (dk_at dksJ4_putVal_3 16 rfl rfl)
theorem dJ4_putVal_88 : decode cJ4_putVal 88 = .ok (.aload_n 2, 1) := dk_44 (dk_at dksJ4_putVal_3 19 rfl rfl)
theorem dJ4_putVal_89 : decode cJ4_putVal 89 = .ok (.aload 11, 2) := dk_25 11 (dk_at dksJ4_putVal_3 20 rfl rfl)
theorem dJ4_putVal_91 : decode cJ4_putVal 91 = .ok (.invokevirtual 173, 3) := dk_182 0 173 (dk_at dksJ4_putVal_4 0 rfl rfl)
theorem dJ4_putVal_94 : decode cJ4_putVal 94 = .ok (.ifCond .eq 10, 3) := dk_153 0 10 (dk_at dksJ4_putVal_4 3 rfl rfl)
theorem dJ4_putVal_97 : decode cJ4_putVal 97 = .ok (.aload 7, 2) := dk_25 7 (dk_at dksJ4_putVal_4 6 rfl rfl)
theorem dJ4_putVal_99 : decode cJ4_putVal 99 = .ok (.astore 10, 2) := dk_58 10 (dk_at dksJ4_putVal_4 8 rfl rfl)
theorem dJ4_putVal_101 : decode cJ4_putVal 101 = .ok (.goto 121, 3) := dk_167 0 121 (dk_at dksJ4_putVal_4 10 rfl rfl)
theorem dJ4_putVal_104 : decode cJ4_putVal 104 = .ok (.aload 7, 2) := dk_25 7 (dk_at dksJ4_putVal_4 13 rfl rfl)
theorem dJ4_putVal_106 : decode cJ4_putVal 106 = .ok (.instanceof 180, 3) := dk_193 0 180 (dk_at dksJ4_putVal_4 15 rfl rfl)
theorem dJ4_putVal_109 : decode cJ4_putVal 109 = .ok (.ifCond .eq 22, 3) := dk_153 0 22 (dk_at dksJ4_putVal_4 18 rfl rfl)
theorem dJ4_putVal_112 : decode cJ4_putVal 112 = .ok (.aload 7, 2) := dk_25 7 (dk_at dksJ4_putVal_4 21 rfl rfl)
theorem dJ4_putVal_114 : decode cJ4_putVal 114 = .ok (.checkcast 180, 3) := dk_192 0 180 (dk_at dksJ4_putVal_5 0 rfl rfl)
theorem dJ4_putVal_117 : decode cJ4_putVal 117 = .ok (.aload_n 0, 1) := dk_42 (dk_at dksJ4_putVal_5 3 rfl rfl)
theorem dJ4_putVal_118 : decode cJ4_putVal 118 = .ok (.aload 6, 2) := dk_25 6 (dk_at dksJ4_putVal_5 4 rfl rfl)
theorem dJ4_putVal_120 : decode cJ4_putVal 120 = .ok (.iload_n 1, 1) := dk_27 (dk_at dksJ4_putVal_5 6 rfl rfl)
theorem dJ4_putVal_121 : decode cJ4_putVal 121 = .ok (.aload_n 2, 1) := dk_44 (dk_at dksJ4_putVal_5 7 rfl rfl)
theorem dJ4_putVal_122 : decode cJ4_putVal 122 = .ok (.aload_n 3, 1) := dk_45 (dk_at dksJ4_putVal_5 8 rfl rfl)
theorem dJ4_putVal_123 : decode cJ4_putVal 123 = .ok (.invokevirtual 190, 3) := dk_182 0 190 (dk_at dksJ4_putVal_5 9 rfl rfl)
theorem dJ4_putVal_126 : decode cJ4_putVal 126 = .ok (.astore 10, 2) := dk_58 10 (dk_at dksJ4_putVal_5 12 rfl rfl)
theorem dJ4_putVal_128 : decode cJ4_putVal 128 = .ok (.goto 94, 3) := dk_167 0 94 (dk_at dksJ4_putVal_5 14 rfl rfl)
theorem dJ4_putVal_131 : decode cJ4_putVal 131 = .ok (.iconst 0, 1) := dk_3 (dk_at dksJ4_putVal_5 17 rfl rfl)
theorem dJ4_putVal_132 : decode cJ4_putVal 132 = .ok (.istore 12, 2) := dk_54 12 (dk_at dksJ4_putVal_5 18 rfl rfl)
theorem dJ4_putVal_134 : decode cJ4_putVal 134 = .ok (.aload 7, 2) := dk_25 7 (dk_at dksJ4_putVal_5 20 rfl rfl)
theorem dJ4_putVal_136 : decode cJ4_putVal 136 = .ok (.getfield 177, 3) := dk_180 0 177 (dk_at dksJ4_putVal_6 0 rfl rfl)
theorem dJ4_putVal_139 : decode cJ4_putVal 139 = .ok (.dup, 1) := dk_89 (dk_at dksJ4_putVal_6 3 rfl rfl)
theorem dJ4_putVal_140 : decode cJ4_putVal 140 = .ok (.astore 10, 2) := dk_58 10 (dk_at dksJ4_putVal_6 4 rfl rfl)
theorem dJ4_putVal_142 : decode cJ4_putVal 142 = .ok (.ifnonnull 33, 3) := dk_199 0 33 (dk_at dksJ4_putVal_6 6 rfl rfl)
theorem dJ4_putVal_145 : decode cJ4_putVal 145 = .ok (.aload 7, 2) := dk_25 7 (dk_at dksJ4_putVal_6 9 rfl rfl)
theorem dJ4_putVal_147 : decode cJ4_putVal 147 = .ok (.aload_n 0, 1) := dk_42 (dk_at dksJ4_putVal_6 11 rfl rfl)
theorem dJ4_putVal_148 : decode cJ4_putVal 148 = .ok (.iload_n 1, 1) := dk_27 (dk_at dksJ4_putVal_6 12 rfl rfl)
theorem dJ4_putVal_149 : decode cJ4_putVal 149 = .ok (.aload_n 2, 1) := dk_44 (dk_at dksJ4_putVal_6 13 rfl rfl)
theorem dJ4_putVal_150 : decode cJ4_putVal 150 = .ok (.aload_n 3, 1) := dk_45 (dk_at dksJ4_putVal_6 14 rfl rfl)
theorem dJ4_putVal_151 : decode cJ4_putVal 151 = .ok (.aconst_null, 1) := dk_1 (dk_at dksJ4_putVal_6 15 rfl rfl)
theorem dJ4_putVal_152 : decode cJ4_putVal 152 = .ok (.invokevirtual 186, 3) := dk_182 0 186 (dk_at dksJ4_putVal_6 16 rfl rfl)
theorem dJ4_putVal_155 : decode cJ4_putVal 155 = .ok (.putfield 177, 3) := dk_181 0 177 (dk_at dksJ4_putVal_6 19 rfl rfl)
theorem dJ4_putVal_158 : decode cJ4_putVal 158 = .ok (.iload 12, 2) := dk_21 12 (dk_at dksJ4_putVal_6 22 rfl rfl)
theorem dJ4_putVal_160 : decode cJ4_putVal 160 = .ok (.bipush 7, 2) := dk_16 7 (dk_at dksJ4_putVal_7 0 rfl rfl)
theorem dJ4_putVal_162 : decode cJ4_putVal 162 = .ok (.if_icmp .lt 60, 3) := dk_161 0 60 (dk_at dksJ4_putVal_7 2 rfl rfl)
theorem dJ4_putVal_165 : decode cJ4_putVal 165 = .ok (.aload_n 0, 1) := dk_42 (dk_at dksJ4_putVal_7 5 rfl rfl)
theorem dJ4_putVal_166 : decode cJ4_putVal 166 = .ok (.aload 6, 2) := dk_25 6 (dk_at dksJ4_putVal_7 6 rfl rfl)
theorem dJ4_putVal_168 : decode cJ4_putVal 168 = .ok (.iload_n 1, 1) := dk_27 (dk_at dksJ4_putVal_7 8 rfl rfl)
theorem dJ4_putVal_169 : decode cJ4_putVal 169 = .ok (.invokevirtual 194, 3) := dk_182 0 194 (dk_at dksJ4_putVal_7 9 rfl rfl)
theorem dJ4_putVal_172 : decode cJ4_putVal 172 = .ok (.goto 50, 3) := dk_167 0 50 (dk_at dksJ4_putVal_7 12 rfl rfl)
theorem dJ4_putVal_175 : decode cJ4_putVal 175 = .ok (.aload 10, 2) := dk_25 10 (dk_at dksJ4_putVal_7 15 rfl rfl)
theorem dJ4_putVal_177 : decode cJ4_putVal 177 = .ok (.getfield 168, 3) := dk_180 0 168 (dk_at dksJ4_putVal_7 17 rfl rfl)
theorem dJ4_putVal_180 : decode cJ4_putVal 180 = .ok (.iload_n 1, 1) := dk_27 (dk_at dksJ4_putVal_7 20 rfl rfl)
theorem dJ4_putVal_181 : decode cJ4_putVal 181 = .ok (.if_icmp .ne 31, 3) := dk_160 0 31 (dk_at dksJ4_putVal_7 21 rfl rfl)
theorem dJ4_putVal_184 : decode cJ4_putVal 184 = .ok (.aload 10, 2) := dk_25 10 (dk_at dksJ4_putVal_8 0 rfl rfl)
theorem dJ4_putVal_186 : decode cJ4_putVal 186 = .ok (.getfield 170, 3) := dk_180 0 170 (dk_at dksJ4_putVal_8 2 rfl rfl)
theorem dJ4_putVal_189 : decode cJ4_putVal 189 = .ok (.dup, 1) := dk_89 (dk_at dksJ4_putVal_8 5 rfl rfl)
theorem dJ4_putVal_190 : decode cJ4_putVal 190 = .ok (.astore 11, 2) := dk_58 11 (dk_at dksJ4_putVal_8 6 rfl rfl)
theorem dJ4_putVal_192 : decode cJ4_putVal 192 = .ok (.aload_n 2, 1) := dk_44 (dk_at dksJ4_putVal_8 8 rfl rfl)
theorem dJ4_putVal_193 : decode cJ4_putVal 193 = .ok (.if_acmp .eq 29, 3) := dk_165 0 29 (dk_at dksJ4_putVal_8 9 rfl rfl)
theorem dJ4_putVal_196 : decode cJ4_putVal 196 = .ok (.aload_n 2, 1) := dk_44 (dk_at dksJ4_putVal_8 12 rfl rfl)
theorem dJ4_putVal_197 : decode cJ4_putVal 197 = .ok (.ifnull 15, 3) := dk_198 0 15 (dk_at dksJ4_putVal_8 13 rfl rfl)
theorem dJ4_putVal_200 : decode cJ4_putVal 200 = .ok (.aload_n 2, 1) := dk_44 (dk_at dksJ4_putVal_8 16 rfl rfl)
theorem dJ4_putVal_201 : decode cJ4_putVal 201 = .ok (.aload 11, 2) := dk_25 11 (dk_at dksJ4_putVal_8 17 rfl rfl)
theorem dJ4_putVal_203 : decode cJ4_putVal 203 = .ok (.invokevirtual 173, 3) := dk_182 0 173 (dk_at dksJ4_putVal_8 19 rfl rfl)
theorem dJ4_putVal_206 : decode cJ4_putVal 206 = .ok (.ifCond .eq 6, 3) := dk_153 0 6 (dk_at dksJ4_putVal_9 0 rfl rfl)
theorem dJ4_putVal_209 : decode cJ4_putVal 209 = .ok (.goto 13, 3) := dk_167 0 13 (dk_at dksJ4_putVal_9 3 rfl rfl)
theorem dJ4_putVal_212 : decode cJ4_putVal 212 = .ok (.aload 10, 2) := dk_25 10 (dk_at dksJ4_putVal_9 6 rfl rfl)
theorem dJ4_putVal_214 : decode cJ4_putVal 214 = .ok (.astore 7, 2) := dk_58 7 (dk_at dksJ4_putVal_9 8 rfl rfl)
theorem dJ4_putVal_216 : decode cJ4_putVal 216 = .ok (.iinc 12 1, 3) := dk_132 12 1 (dk_at dksJ4_putVal_9 10 rfl rfl)
theorem dJ4_putVal_219 : decode cJ4_putVal 219 = .ok (.goto (-85), 3) := dk_167 255 171 (dk_at dksJ4_putVal_9 13 rfl rfl)
theorem dJ4_putVal_222 : decode cJ4_putVal 222 = .ok (.aload 10, 2) := dk_25 10 (dk_at dksJ4_putVal_9 16 rfl rfl)
theorem dJ4_putVal_224 : decode cJ4_putVal 224 = .ok (.ifnull 35, 3) := dk_198 0 35 (dk_at dksJ4_putVal_9 18 rfl rfl)
theorem dJ4_putVal_227 : decode cJ4_putVal 227 = .ok (.aload 10, 2) := dk_25 10 (dk_at dksJ4_putVal_9 21 rfl rfl)
theorem dJ4_putVal_229 : decode cJ4_putVal 229 = .ok (.getfield 162, 3) := dk_180 0 162 (dk_at dksJ4_putVal_10 0 rfl rfl)
theorem dJ4_putVal_232 : decode cJ4_putVal 232 = .ok (.astore 12, 2) := dk_58 12 (dk_at dksJ4_putVal_10 3 rfl rfl)
theorem dJ4_putVal_234 : decode cJ4_putVal 234 = .ok (.iload 4, 2) := dk_21 4 (dk_at dksJ4_putVal_10 5 rfl rfl)
theorem dJ4_putVal_236 : decode cJ4_putVal 236 = .ok (.ifCond .eq 8, 3) := dk_153 0 8 (dk_at dksJ4_putVal_10 7 rfl rfl)
theorem dJ4_putVal_239 : decode cJ4_putVal 239 = .ok (.aload 12, 2) := dk_25 12 (dk_at dksJ4_putVal_10 10 rfl rfl)
theorem dJ4_putVal_241 : decode cJ4_putVal 241 = .ok (.ifnonnull 9, 3) := dk_199 0 9 (dk_at dksJ4_putVal_10 12 rfl rfl)
theorem dJ4_putVal_244 : decode cJ4_putVal 244 = .ok (.aload 10, 2) := dk_25 10 (dk_at dksJ4_putVal_10 15 rfl rfl)
theorem dJ4_putVal_246 : decode cJ4_putVal 246 = .ok (.aload_n 3, 1) := dk_45 (dk_at dksJ4_putVal_10 17 rfl rfl)
theorem dJ4_putVal_247 : decode cJ4_putVal 247 = .ok (.putfield 162, 3) := dk_181 0 162 (dk_at dksJ4_putVal_10 18 rfl rfl)
theorem dJ4_putVal_250 : decode cJ4_putVal 250 = .ok (.aload_n 0, 1) := dk_42 (dk_at dksJ4_putVal_10 21 rfl rfl)
theorem dJ4_putVal_251 : decode cJ4_putVal 251 = .ok (.aload 10, 2) := dk_25 10 (dk_at dksJ4_putVal_10 22 rfl rfl)
theorem dJ4_putVal_253 : decode cJ4_putVal 253 = .ok (.invokevirtual 198, 3) := dk_182 0 198 (dk_at dksJ4_putVal_11 0 rfl rfl)
theorem dJ4_putVal_256 : decode cJ4_putVal 256 = .ok (.aload 12, 2) := dk_25 12 (dk_at dksJ4_putVal_11 3 rfl rfl)
theorem dJ4_putVal_258 : decode cJ4_putVal 258 = .ok (.areturn, 1) := dk_176 (dk_at dksJ4_putVal_11 5 rfl rfl)
theorem dJ4_putVal_259 : decode cJ4_putVal 259 = .ok (.aload_n 0, 1) := dk_42 (dk_at dksJ4_putVal_11 6 rfl rfl)
theorem dJ4_putVal_260 : decode cJ4_putVal 260 = .ok (.dup, 1) := dk_89 (dk_at dksJ4_putVal_11 7 rfl rfl)
theorem dJ4_putVal_261 : decode cJ4_putVal 261 = .ok (.getfield 202, 3) := dk_180 0 202 (dk_at dksJ4_putVal_11 8 rfl rfl)
theorem dJ4_putVal_264 : decode cJ4_putVal 264 = .ok (.iconst 1, 1) := dk_4 (dk_at dksJ4_putVal_11 11 rfl rfl)
theorem dJ4_putVal_265 : decode cJ4_putVal 265 = .ok (.iadd, 1) := dk_96 (dk_at dksJ4_putVal_11 12 rfl rfl)
theorem dJ4_putVal_266 : decode cJ4_putVal 266 = .ok (.putfield 202, 3) := dk_181 0 202 (dk_at dksJ4_putVal_11 13 rfl rfl)
theorem dJ4_putVal_269 : decode cJ4_putVal 269 = .ok (.aload_n 0, 1) := dk_42 (dk_at dksJ4_putVal_11 16 rfl rfl)
theorem dJ4_putVal_270 : decode cJ4_putVal 270 = .ok (.dup, 1) := dk_89 (dk_at dksJ4_putVal_11 17 rfl rfl)
theorem dJ4_putVal_271 : decode cJ4_putVal 271 = .ok (.getfield 156, 3) := dk_180 0 156 (dk_at dksJ4_putVal_11 18 rfl rfl)
theorem dJ4_putVal_274 : decode cJ4_putVal 274 = .ok (.iconst 1, 1) := dk_4 (dk_at dksJ4_putVal_11 21 rfl rfl)
theorem dJ4_putVal_275 : decode cJ4_putVal 275 = .ok (.iadd, 1) := dk_96 (dk_at dksJ4_putVal_11 22 rfl rfl)
theorem dJ4_putVal_276 : decode cJ4_putVal 276 = .ok (.dup_x1, 1) := dk_90 (dk_at dksJ4_putVal_11 23 rfl rfl)
theorem dJ4_putVal_277 : decode cJ4_putVal 277 = .ok (.putfield 156, 3) := dk_181 0 156 (dk_at dksJ4_putVal_12 0 rfl rfl)
theorem dJ4_putVal_280 : decode cJ4_putVal 280 = .ok (.aload_n 0, 1) := dk_42 (dk_at dksJ4_putVal_12 3 rfl rfl)
theorem dJ4_putVal_281 : decode cJ4_putVal 281 = .ok (.getfield 88, 3) := dk_180 0 88 (dk_at dksJ4_putVal_12 4 rfl rfl)
theorem dJ4_putVal_284 : decode cJ4_putVal 284 = .ok (.if_icmp .le 8, 3) := dk_164 0 8 (dk_at dksJ4_putVal_12 7 rfl rfl)
theorem dJ4_putVal_287 : decode cJ4_putVal 287 = .ok (.aload_n 0, 1) := dk_42 (dk_at dksJ4_putVal_12 10 rfl rfl)
theorem dJ4_putVal_288 : decode cJ4_putVal 288 = .ok (.invokevirtual 117, 3) := dk_182 0 117 (dk_at dksJ4_putVal_12 11 rfl rfl)
theorem dJ4_putVal_291 : decode cJ4_putVal 291 = .ok (.pop, 1) := dk_87 (dk_at dksJ4_putVal_12 14 rfl rfl)
theorem dJ4_putVal_292 : decode cJ4_putVal 292 = .ok (.aload_n 0, 1) := dk_42 (dk_at dksJ4_putVal_12 15 rfl rfl)
theorem dJ4_putVal_293 : decode cJ4_putVal 293 = .ok (.iload 5, 2) := dk_21 5 (dk_at dksJ4_putVal_12 16 rfl rfl)
theorem dJ4_putVal_295 : decode cJ4_putVal 295 = .ok (.invokevirtual 205, 3) := dk_182 0 205 (dk_at dksJ4_putVal_12 18 rfl rfl)
theorem dJ4_putVal_298 : decode cJ4_putVal 298 = .ok (.aconst_null, 1) := dk_1 (dk_at dksJ4_putVal_12 21 rfl rfl)
theorem dJ4_putVal_299 : decode cJ4_putVal 299 = .ok (.areturn, 1) := dk_176 (dk_at dksJ4_putVal_12 22 rfl rfl)
abbrev cJ4_resize : ByteArray := prog_58_method_17_code
def yJ4_resize : MethodName := ⟨RJ4, "resize", "()[Ljava/util/HashMap$Node;"⟩
def dkwJ4_resize_15 : List UInt8 := [25, 6, 176]
abbrev dktJ4_resize_15 : List UInt8 := dkwJ4_resize_15 ++ []
def dkwJ4_resize_14 : List UInt8 := [198, 0, 18, 25, 12, 1, 181, 0, 177, 25, 6, 21, 7, 28, 96, 25, 11, 83, 132, 7, 1, 167, 255, 57]
abbrev dktJ4_resize_14 : List UInt8 := dkwJ4_resize_14 ++ dktJ4_resize_15
def dkwJ4_resize_13 : List UInt8 := [199, 255, 185, 25, 10, 198, 0, 16, 25, 10, 1, 181, 0, 177, 25, 6, 21, 7, 25, 9, 83, 25, 12]
abbrev dktJ4_resize_13 : List UInt8 := dkwJ4_resize_13 ++ dktJ4_resize_14
def dkwJ4_resize_12 : List UInt8 := [25, 8, 58, 11, 167, 0, 10, 25, 12, 25, 8, 181, 0, 177, 25, 8, 58, 12, 25, 13, 89, 58, 8]
abbrev dktJ4_resize_12 : List UInt8 := dkwJ4_resize_12 ++ dktJ4_resize_13
def dkwJ4_resize_11 : List UInt8 := [58, 9, 167, 0, 10, 25, 10, 25, 8, 181, 0, 177, 25, 8, 58, 10, 167, 0, 26, 25, 12, 199, 0, 10]
abbrev dktJ4_resize_11 : List UInt8 := dkwJ4_resize_11 ++ dktJ4_resize_12
def dkwJ4_resize_10 : List UInt8 := [25, 8, 180, 0, 177, 58, 13, 25, 8, 180, 0, 168, 28, 126, 154, 0, 29, 25, 10, 199, 0, 10, 25, 8]
abbrev dktJ4_resize_10 : List UInt8 := dkwJ4_resize_10 ++ dktJ4_resize_11
def dkwJ4_resize_9 : List UInt8 := [42, 25, 6, 21, 7, 28, 182, 0, 211, 167, 0, 127, 1, 58, 9, 1, 58, 10, 1, 58, 11, 1, 58, 12]
abbrev dktJ4_resize_9 : List UInt8 := dkwJ4_resize_9 ++ dktJ4_resize_10
def dkwJ4_resize_8 : List UInt8 := [21, 4, 4, 100, 126, 25, 8, 83, 167, 0, 152, 25, 8, 193, 0, 180, 153, 0, 20, 25, 8, 192, 0, 180]
abbrev dktJ4_resize_8 : List UInt8 := dkwJ4_resize_8 ++ dktJ4_resize_9
def dkwJ4_resize_7 : List UInt8 := [198, 0, 183, 43, 21, 7, 1, 83, 25, 8, 180, 0, 177, 199, 0, 21, 25, 6, 25, 8, 180, 0, 168]
abbrev dktJ4_resize_7 : List UInt8 := dkwJ4_resize_7 ++ dktJ4_resize_8
def dkwJ4_resize_6 : List UInt8 := [181, 0, 105, 43, 198, 0, 208, 3, 54, 7, 21, 7, 28, 162, 0, 199, 43, 21, 7, 50, 89, 58, 8]
abbrev dktJ4_resize_6 : List UInt8 := dkwJ4_resize_6 ++ dktJ4_resize_7
def dkwJ4_resize_5 : List UInt8 := [167, 0, 5, 18, 209, 54, 5, 42, 21, 5, 181, 0, 88, 21, 4, 189, 0, 163, 58, 6, 42, 25, 6]
abbrev dktJ4_resize_5 : List UInt8 := dkwJ4_resize_5 ++ dktJ4_resize_6
def dkwJ4_resize_4 : List UInt8 := [180, 0, 81, 106, 56, 6, 21, 4, 18, 42, 162, 0, 17, 23, 6, 18, 210, 150, 156, 0, 9, 23, 6, 139]
abbrev dktJ4_resize_4 : List UInt8 := dkwJ4_resize_4 ++ dktJ4_resize_5
def dkwJ4_resize_3 : List UInt8 := [54, 4, 167, 0, 11, 16, 16, 54, 4, 16, 12, 54, 5, 21, 5, 154, 0, 38, 21, 4, 134, 42]
abbrev dktJ4_resize_3 : List UInt8 := dkwJ4_resize_3 ++ dktJ4_resize_4
def dkwJ4_resize_2 : List UInt8 := [18, 42, 162, 0, 35, 28, 16, 16, 161, 0, 29, 29, 4, 120, 54, 5, 167, 0, 21, 29, 158, 0, 9, 29]
abbrev dktJ4_resize_2 : List UInt8 := dkwJ4_resize_2 ++ dktJ4_resize_3
def dkwJ4_resize_1 : List UInt8 := [28, 158, 0, 42, 28, 18, 42, 161, 0, 11, 42, 18, 209, 181, 0, 88, 43, 176, 28, 4, 120, 89, 54, 4]
abbrev dktJ4_resize_1 : List UInt8 := dkwJ4_resize_1 ++ dktJ4_resize_2
def dkwJ4_resize_0 : List UInt8 := [42, 180, 0, 105, 76, 43, 199, 0, 7, 3, 167, 0, 5, 43, 190, 61, 42, 180, 0, 88, 62, 3, 54, 5]
abbrev dktJ4_resize_0 : List UInt8 := dkwJ4_resize_0 ++ dktJ4_resize_1
theorem dksJ4_resize_0 : cJ4_resize.data.toList.drop 0 = dktJ4_resize_0 := by decide +kernel
theorem dksJ4_resize_1 : cJ4_resize.data.toList.drop 24 = dktJ4_resize_1 := dk_seg dksJ4_resize_0 24 rfl rfl
theorem dksJ4_resize_2 : cJ4_resize.data.toList.drop 48 = dktJ4_resize_2 := dk_seg dksJ4_resize_1 24 rfl rfl
theorem dksJ4_resize_3 : cJ4_resize.data.toList.drop 72 = dktJ4_resize_3 := dk_seg dksJ4_resize_2 24 rfl rfl
theorem dksJ4_resize_4 : cJ4_resize.data.toList.drop 94 = dktJ4_resize_4 := dk_seg dksJ4_resize_3 22 rfl rfl
theorem dksJ4_resize_5 : cJ4_resize.data.toList.drop 118 = dktJ4_resize_5 := dk_seg dksJ4_resize_4 24 rfl rfl
theorem dksJ4_resize_6 : cJ4_resize.data.toList.drop 141 = dktJ4_resize_6 := dk_seg dksJ4_resize_5 23 rfl rfl
theorem dksJ4_resize_7 : cJ4_resize.data.toList.drop 164 = dktJ4_resize_7 := dk_seg dksJ4_resize_6 23 rfl rfl
theorem dksJ4_resize_8 : cJ4_resize.data.toList.drop 187 = dktJ4_resize_8 := dk_seg dksJ4_resize_7 23 rfl rfl
theorem dksJ4_resize_9 : cJ4_resize.data.toList.drop 211 = dktJ4_resize_9 := dk_seg dksJ4_resize_8 24 rfl rfl
theorem dksJ4_resize_10 : cJ4_resize.data.toList.drop 235 = dktJ4_resize_10 := dk_seg dksJ4_resize_9 24 rfl rfl
theorem dksJ4_resize_11 : cJ4_resize.data.toList.drop 259 = dktJ4_resize_11 := dk_seg dksJ4_resize_10 24 rfl rfl
theorem dksJ4_resize_12 : cJ4_resize.data.toList.drop 283 = dktJ4_resize_12 := dk_seg dksJ4_resize_11 24 rfl rfl
theorem dksJ4_resize_13 : cJ4_resize.data.toList.drop 306 = dktJ4_resize_13 := dk_seg dksJ4_resize_12 23 rfl rfl
theorem dksJ4_resize_14 : cJ4_resize.data.toList.drop 329 = dktJ4_resize_14 := dk_seg dksJ4_resize_13 23 rfl rfl
theorem dksJ4_resize_15 : cJ4_resize.data.toList.drop 353 = dktJ4_resize_15 := dk_seg dksJ4_resize_14 24 rfl rfl
theorem dJ4_resize_0 : decode cJ4_resize 0 = .ok (.aload_n 0, 1) := dk_42 (dk_at dksJ4_resize_0 0 rfl rfl)
theorem dJ4_resize_1 : decode cJ4_resize 1 = .ok (.getfield 105, 3) := dk_180 0 105 (dk_at dksJ4_resize_0 1 rfl rfl)
theorem dJ4_resize_4 : decode cJ4_resize 4 = .ok (.astore_n 1, 1) := dk_76 (dk_at dksJ4_resize_0 4 rfl rfl)
theorem dJ4_resize_5 : decode cJ4_resize 5 = .ok (.aload_n 1, 1) := dk_43 (dk_at dksJ4_resize_0 5 rfl rfl)
theorem dJ4_resize_6 : decode cJ4_resize 6 = .ok (.ifnonnull 7, 3) := dk_199 0 7 (dk_at dksJ4_resize_0 6 rfl rfl)
theorem dJ4_resize_9 : decode cJ4_resize 9 = .ok (.iconst 0, 1) := dk_3 (dk_at dksJ4_resize_0 9 rfl rfl)
theorem dJ4_resize_10 : decode cJ4_resize 10 = .ok (.goto 5, 3) := dk_167 0 5 (dk_at dksJ4_resize_0 10 rfl rfl)
theorem dJ4_resize_13 : decode cJ4_resize 13 = .ok (.aload_n 1, 1) := dk_43 (dk_at dksJ4_resize_0 13 rfl rfl)
theorem dJ4_resize_14 : decode cJ4_resize 14 = .ok (.arraylength, 1) := dk_190 (dk_at dksJ4_resize_0 14 rfl rfl)
theorem dJ4_resize_15 : decode cJ4_resize 15 = .ok (.istore_n 2, 1) := dk_61 (dk_at dksJ4_resize_0 15 rfl rfl)
theorem dJ4_resize_16 : decode cJ4_resize 16 = .ok (.aload_n 0, 1) := dk_42 (dk_at dksJ4_resize_0 16 rfl rfl)
theorem dJ4_resize_17 : decode cJ4_resize 17 = .ok (.getfield 88, 3) := dk_180 0 88 (dk_at dksJ4_resize_0 17 rfl rfl)
theorem dJ4_resize_20 : decode cJ4_resize 20 = .ok (.istore_n 3, 1) := dk_62 (dk_at dksJ4_resize_0 20 rfl rfl)
theorem dJ4_resize_21 : decode cJ4_resize 21 = .ok (.iconst 0, 1) := dk_3 (dk_at dksJ4_resize_0 21 rfl rfl)
theorem dJ4_resize_22 : decode cJ4_resize 22 = .ok (.istore 5, 2) := dk_54 5 (dk_at dksJ4_resize_0 22 rfl rfl)
theorem dJ4_resize_24 : decode cJ4_resize 24 = .ok (.iload_n 2, 1) := dk_28 (dk_at dksJ4_resize_1 0 rfl rfl)
theorem dJ4_resize_25 : decode cJ4_resize 25 = .ok (.ifCond .le 42, 3) := dk_158 0 42 (dk_at dksJ4_resize_1 1 rfl rfl)
theorem dJ4_resize_28 : decode cJ4_resize 28 = .ok (.iload_n 2, 1) := dk_28 (dk_at dksJ4_resize_1 4 rfl rfl)
theorem dJ4_resize_29 : decode cJ4_resize 29 = .ok (.ldc 42, 2) := dk_18 42 (dk_at dksJ4_resize_1 5 rfl rfl)
theorem dJ4_resize_31 : decode cJ4_resize 31 = .ok (.if_icmp .lt 11, 3) := dk_161 0 11 (dk_at dksJ4_resize_1 7 rfl rfl)
theorem dJ4_resize_34 : decode cJ4_resize 34 = .ok (.aload_n 0, 1) := dk_42 (dk_at dksJ4_resize_1 10 rfl rfl)
theorem dJ4_resize_35 : decode cJ4_resize 35 = .ok (.ldc 209, 2) := dk_18 209 (dk_at dksJ4_resize_1 11 rfl rfl)
theorem dJ4_resize_37 : decode cJ4_resize 37 = .ok (.putfield 88, 3) := dk_181 0 88 (dk_at dksJ4_resize_1 13 rfl rfl)
theorem dJ4_resize_40 : decode cJ4_resize 40 = .ok (.aload_n 1, 1) := dk_43 (dk_at dksJ4_resize_1 16 rfl rfl)
theorem dJ4_resize_41 : decode cJ4_resize 41 = .ok (.areturn, 1) := dk_176 (dk_at dksJ4_resize_1 17 rfl rfl)
theorem dJ4_resize_42 : decode cJ4_resize 42 = .ok (.iload_n 2, 1) := dk_28 (dk_at dksJ4_resize_1 18 rfl rfl)
theorem dJ4_resize_43 : decode cJ4_resize 43 = .ok (.iconst 1, 1) := dk_4 (dk_at dksJ4_resize_1 19 rfl rfl)
theorem dJ4_resize_44 : decode cJ4_resize 44 = .ok (.ishl, 1) := dk_120 (dk_at dksJ4_resize_1 20 rfl rfl)
theorem dJ4_resize_45 : decode cJ4_resize 45 = .ok (.dup, 1) := dk_89 (dk_at dksJ4_resize_1 21 rfl rfl)
theorem dJ4_resize_46 : decode cJ4_resize 46 = .ok (.istore 4, 2) := dk_54 4 (dk_at dksJ4_resize_1 22 rfl rfl)
theorem dJ4_resize_48 : decode cJ4_resize 48 = .ok (.ldc 42, 2) := dk_18 42 (dk_at dksJ4_resize_2 0 rfl rfl)
theorem dJ4_resize_50 : decode cJ4_resize 50 = .ok (.if_icmp .ge 35, 3) := dk_162 0 35 (dk_at dksJ4_resize_2 2 rfl rfl)
theorem dJ4_resize_53 : decode cJ4_resize 53 = .ok (.iload_n 2, 1) := dk_28 (dk_at dksJ4_resize_2 5 rfl rfl)
theorem dJ4_resize_54 : decode cJ4_resize 54 = .ok (.bipush 16, 2) := dk_16 16 (dk_at dksJ4_resize_2 6 rfl rfl)
theorem dJ4_resize_56 : decode cJ4_resize 56 = .ok (.if_icmp .lt 29, 3) := dk_161 0 29 (dk_at dksJ4_resize_2 8 rfl rfl)
theorem dJ4_resize_59 : decode cJ4_resize 59 = .ok (.iload_n 3, 1) := dk_29 (dk_at dksJ4_resize_2 11 rfl rfl)
theorem dJ4_resize_60 : decode cJ4_resize 60 = .ok (.iconst 1, 1) := dk_4 (dk_at dksJ4_resize_2 12 rfl rfl)
theorem dJ4_resize_61 : decode cJ4_resize 61 = .ok (.ishl, 1) := dk_120 (dk_at dksJ4_resize_2 13 rfl rfl)
theorem dJ4_resize_62 : decode cJ4_resize 62 = .ok (.istore 5, 2) := dk_54 5 (dk_at dksJ4_resize_2 14 rfl rfl)
theorem dJ4_resize_64 : decode cJ4_resize 64 = .ok (.goto 21, 3) := dk_167 0 21 (dk_at dksJ4_resize_2 16 rfl rfl)
theorem dJ4_resize_67 : decode cJ4_resize 67 = .ok (.iload_n 3, 1) := dk_29 (dk_at dksJ4_resize_2 19 rfl rfl)
theorem dJ4_resize_68 : decode cJ4_resize 68 = .ok (.ifCond .le 9, 3) := dk_158 0 9 (dk_at dksJ4_resize_2 20 rfl rfl)
theorem dJ4_resize_71 : decode cJ4_resize 71 = .ok (.iload_n 3, 1) := dk_29 (dk_at dksJ4_resize_2 23 rfl rfl)
theorem dJ4_resize_72 : decode cJ4_resize 72 = .ok (.istore 4, 2) := dk_54 4 (dk_at dksJ4_resize_3 0 rfl rfl)
theorem dJ4_resize_74 : decode cJ4_resize 74 = .ok (.goto 11, 3) := dk_167 0 11 (dk_at dksJ4_resize_3 2 rfl rfl)
theorem dJ4_resize_77 : decode cJ4_resize 77 = .ok (.bipush 16, 2) := dk_16 16 (dk_at dksJ4_resize_3 5 rfl rfl)
theorem dJ4_resize_79 : decode cJ4_resize 79 = .ok (.istore 4, 2) := dk_54 4 (dk_at dksJ4_resize_3 7 rfl rfl)
theorem dJ4_resize_81 : decode cJ4_resize 81 = .ok (.bipush 12, 2) := dk_16 12 (dk_at dksJ4_resize_3 9 rfl rfl)
theorem dJ4_resize_83 : decode cJ4_resize 83 = .ok (.istore 5, 2) := dk_54 5 (dk_at dksJ4_resize_3 11 rfl rfl)
theorem dJ4_resize_85 : decode cJ4_resize 85 = .ok (.iload 5, 2) := dk_21 5 (dk_at dksJ4_resize_3 13 rfl rfl)
theorem dJ4_resize_87 : decode cJ4_resize 87 = .ok (.ifCond .ne 38, 3) := dk_154 0 38 (dk_at dksJ4_resize_3 15 rfl rfl)
theorem dJ4_resize_90 : decode cJ4_resize 90 = .ok (.iload 4, 2) := dk_21 4 (dk_at dksJ4_resize_3 18 rfl rfl)
theorem dJ4_resize_92 : decode cJ4_resize 92 = .ok (.i2f, 1) := dk_134 (dk_at dksJ4_resize_3 20 rfl rfl)
theorem dJ4_resize_93 : decode cJ4_resize 93 = .ok (.aload_n 0, 1) := dk_42 (dk_at dksJ4_resize_3 21 rfl rfl)
theorem dJ4_resize_94 : decode cJ4_resize 94 = .ok (.getfield 81, 3) := dk_180 0 81 (dk_at dksJ4_resize_4 0 rfl rfl)
theorem dJ4_resize_97 : decode cJ4_resize 97 = .ok (.fmul, 1) := dk_106 (dk_at dksJ4_resize_4 3 rfl rfl)
theorem dJ4_resize_98 : decode cJ4_resize 98 = .ok (.fstore 6, 2) := dk_56 6 (dk_at dksJ4_resize_4 4 rfl rfl)
theorem dJ4_resize_100 : decode cJ4_resize 100 = .ok (.iload 4, 2) := dk_21 4 (dk_at dksJ4_resize_4 6 rfl rfl)
theorem dJ4_resize_102 : decode cJ4_resize 102 = .ok (.ldc 42, 2) := dk_18 42 (dk_at dksJ4_resize_4 8 rfl rfl)
theorem dJ4_resize_104 : decode cJ4_resize 104 = .ok (.if_icmp .ge 17, 3) := dk_162 0 17 (dk_at dksJ4_resize_4 10 rfl rfl)
theorem dJ4_resize_107 : decode cJ4_resize 107 = .ok (.fload 6, 2) := dk_23 6 (dk_at dksJ4_resize_4 13 rfl rfl)
theorem dJ4_resize_109 : decode cJ4_resize 109 = .ok (.ldc 210, 2) := dk_18 210 (dk_at dksJ4_resize_4 15 rfl rfl)
theorem dJ4_resize_111 : decode cJ4_resize 111 = .ok (.fcmp .g, 1) := dk_150 (dk_at dksJ4_resize_4 17 rfl rfl)
theorem dJ4_resize_112 : decode cJ4_resize 112 = .ok (.ifCond .ge 9, 3) := dk_156 0 9 (dk_at dksJ4_resize_4 18 rfl rfl)
theorem dJ4_resize_115 : decode cJ4_resize 115 = .ok (.fload 6, 2) := dk_23 6 (dk_at dksJ4_resize_4 21 rfl rfl)
theorem dJ4_resize_117 : decode cJ4_resize 117 = .ok (.f2i, 1) := dk_139 (dk_at dksJ4_resize_4 23 rfl rfl)
theorem dJ4_resize_118 : decode cJ4_resize 118 = .ok (.goto 5, 3) := dk_167 0 5 (dk_at dksJ4_resize_5 0 rfl rfl)
theorem dJ4_resize_121 : decode cJ4_resize 121 = .ok (.ldc 209, 2) := dk_18 209 (dk_at dksJ4_resize_5 3 rfl rfl)
theorem dJ4_resize_123 : decode cJ4_resize 123 = .ok (.istore 5, 2) := dk_54 5 (dk_at dksJ4_resize_5 5 rfl rfl)
theorem dJ4_resize_125 : decode cJ4_resize 125 = .ok (.aload_n 0, 1) := dk_42 (dk_at dksJ4_resize_5 7 rfl rfl)
theorem dJ4_resize_126 : decode cJ4_resize 126 = .ok (.iload 5, 2) := dk_21 5 (dk_at dksJ4_resize_5 8 rfl rfl)
theorem dJ4_resize_128 : decode cJ4_resize 128 = .ok (.putfield 88, 3) := dk_181 0 88 (dk_at dksJ4_resize_5 10 rfl rfl)
theorem dJ4_resize_131 : decode cJ4_resize 131 = .ok (.iload 4, 2) := dk_21 4 (dk_at dksJ4_resize_5 13 rfl rfl)
theorem dJ4_resize_133 : decode cJ4_resize 133 = .ok (.anewarray 163, 3) := dk_189 0 163 (dk_at dksJ4_resize_5 15 rfl rfl)
theorem dJ4_resize_136 : decode cJ4_resize 136 = .ok (.astore 6, 2) := dk_58 6 (dk_at dksJ4_resize_5 18 rfl rfl)
theorem dJ4_resize_138 : decode cJ4_resize 138 = .ok (.aload_n 0, 1) := dk_42 (dk_at dksJ4_resize_5 20 rfl rfl)
theorem dJ4_resize_139 : decode cJ4_resize 139 = .ok (.aload 6, 2) := dk_25 6 (dk_at dksJ4_resize_5 21 rfl rfl)
theorem dJ4_resize_141 : decode cJ4_resize 141 = .ok (.putfield 105, 3) := dk_181 0 105 (dk_at dksJ4_resize_6 0 rfl rfl)
theorem dJ4_resize_144 : decode cJ4_resize 144 = .ok (.aload_n 1, 1) := dk_43 (dk_at dksJ4_resize_6 3 rfl rfl)
theorem dJ4_resize_145 : decode cJ4_resize 145 = .ok (.ifnull 208, 3) := dk_198 0 208 (dk_at dksJ4_resize_6 4 rfl rfl)
theorem dJ4_resize_148 : decode cJ4_resize 148 = .ok (.iconst 0, 1) := dk_3 (dk_at dksJ4_resize_6 7 rfl rfl)
theorem dJ4_resize_149 : decode cJ4_resize 149 = .ok (.istore 7, 2) := dk_54 7 (dk_at dksJ4_resize_6 8 rfl rfl)
theorem dJ4_resize_151 : decode cJ4_resize 151 = .ok (.iload 7, 2) := dk_21 7 (dk_at dksJ4_resize_6 10 rfl rfl)
theorem dJ4_resize_153 : decode cJ4_resize 153 = .ok (.iload_n 2, 1) := dk_28 (dk_at dksJ4_resize_6 12 rfl rfl)
theorem dJ4_resize_154 : decode cJ4_resize 154 = .ok (.if_icmp .ge 199, 3) := dk_162 0 199 (dk_at dksJ4_resize_6 13 rfl rfl)
theorem dJ4_resize_157 : decode cJ4_resize 157 = .ok (.aload_n 1, 1) := dk_43 (dk_at dksJ4_resize_6 16 rfl rfl)
theorem dJ4_resize_158 : decode cJ4_resize 158 = .ok (.iload 7, 2) := dk_21 7 (dk_at dksJ4_resize_6 17 rfl rfl)
theorem dJ4_resize_160 : decode cJ4_resize 160 = .ok (.aaload, 1) := dk_50 (dk_at dksJ4_resize_6 19 rfl rfl)
theorem dJ4_resize_161 : decode cJ4_resize 161 = .ok (.dup, 1) := dk_89 (dk_at dksJ4_resize_6 20 rfl rfl)
theorem dJ4_resize_162 : decode cJ4_resize 162 = .ok (.astore 8, 2) := dk_58 8 (dk_at dksJ4_resize_6 21 rfl rfl)
theorem dJ4_resize_164 : decode cJ4_resize 164 = .ok (.ifnull 183, 3) := dk_198 0 183 (dk_at dksJ4_resize_7 0 rfl rfl)
theorem dJ4_resize_167 : decode cJ4_resize 167 = .ok (.aload_n 1, 1) := dk_43 (dk_at dksJ4_resize_7 3 rfl rfl)
theorem dJ4_resize_168 : decode cJ4_resize 168 = .ok (.iload 7, 2) := dk_21 7 (dk_at dksJ4_resize_7 4 rfl rfl)
theorem dJ4_resize_170 : decode cJ4_resize 170 = .ok (.aconst_null, 1) := dk_1 (dk_at dksJ4_resize_7 6 rfl rfl)
theorem dJ4_resize_171 : decode cJ4_resize 171 = .ok (.aastore, 1) := dk_83 (dk_at dksJ4_resize_7 7 rfl rfl)
theorem dJ4_resize_172 : decode cJ4_resize 172 = .ok (.aload 8, 2) := dk_25 8 (dk_at dksJ4_resize_7 8 rfl rfl)
theorem dJ4_resize_174 : decode cJ4_resize 174 = .ok (.getfield 177, 3) := dk_180 0 177 (dk_at dksJ4_resize_7 10 rfl rfl)
theorem dJ4_resize_177 : decode cJ4_resize 177 = .ok (.ifnonnull 21, 3) := dk_199 0 21 (dk_at dksJ4_resize_7 13 rfl rfl)
theorem dJ4_resize_180 : decode cJ4_resize 180 = .ok (.aload 6, 2) := dk_25 6 (dk_at dksJ4_resize_7 16 rfl rfl)
theorem dJ4_resize_182 : decode cJ4_resize 182 = .ok (.aload 8, 2) := dk_25 8 (dk_at dksJ4_resize_7 18 rfl rfl)
theorem dJ4_resize_184 : decode cJ4_resize 184 = .ok (.getfield 168, 3) := dk_180 0 168 (dk_at dksJ4_resize_7 20 rfl rfl)
theorem dJ4_resize_187 : decode cJ4_resize 187 = .ok (.iload 4, 2) := dk_21 4 (dk_at dksJ4_resize_8 0 rfl rfl)
theorem dJ4_resize_189 : decode cJ4_resize 189 = .ok (.iconst 1, 1) := dk_4 (dk_at dksJ4_resize_8 2 rfl rfl)
theorem dJ4_resize_190 : decode cJ4_resize 190 = .ok (.isub, 1) := dk_100 (dk_at dksJ4_resize_8 3 rfl rfl)
theorem dJ4_resize_191 : decode cJ4_resize 191 = .ok (.iand, 1) := dk_126 (dk_at dksJ4_resize_8 4 rfl rfl)
theorem dJ4_resize_192 : decode cJ4_resize 192 = .ok (.aload 8, 2) := dk_25 8 (dk_at dksJ4_resize_8 5 rfl rfl)
theorem dJ4_resize_194 : decode cJ4_resize 194 = .ok (.aastore, 1) := dk_83 (dk_at dksJ4_resize_8 7 rfl rfl)
theorem dJ4_resize_195 : decode cJ4_resize 195 = .ok (.goto 152, 3) := dk_167 0 152 (dk_at dksJ4_resize_8 8 rfl rfl)
theorem dJ4_resize_198 : decode cJ4_resize 198 = .ok (.aload 8, 2) := dk_25 8 (dk_at dksJ4_resize_8 11 rfl rfl)
theorem dJ4_resize_200 : decode cJ4_resize 200 = .ok (.instanceof 180, 3) := dk_193 0 180 (dk_at dksJ4_resize_8 13 rfl rfl)
theorem dJ4_resize_203 : decode cJ4_resize 203 = .ok (.ifCond .eq 20, 3) := dk_153 0 20 (dk_at dksJ4_resize_8 16 rfl rfl)
theorem dJ4_resize_206 : decode cJ4_resize 206 = .ok (.aload 8, 2) := dk_25 8 (dk_at dksJ4_resize_8 19 rfl rfl)
theorem dJ4_resize_208 : decode cJ4_resize 208 = .ok (.checkcast 180, 3) := dk_192 0 180 (dk_at dksJ4_resize_8 21 rfl rfl)
theorem dJ4_resize_211 : decode cJ4_resize 211 = .ok (.aload_n 0, 1) := dk_42 (dk_at dksJ4_resize_9 0 rfl rfl)
theorem dJ4_resize_212 : decode cJ4_resize 212 = .ok (.aload 6, 2) := dk_25 6 (dk_at dksJ4_resize_9 1 rfl rfl)
theorem dJ4_resize_214 : decode cJ4_resize 214 = .ok (.iload 7, 2) := dk_21 7 (dk_at dksJ4_resize_9 3 rfl rfl)
theorem dJ4_resize_216 : decode cJ4_resize 216 = .ok (.iload_n 2, 1) := dk_28 (dk_at dksJ4_resize_9 5 rfl rfl)
theorem dJ4_resize_217 : decode cJ4_resize 217 = .ok (.invokevirtual 211, 3) := dk_182 0 211 (dk_at dksJ4_resize_9 6 rfl rfl)
theorem dJ4_resize_220 : decode cJ4_resize 220 = .ok (.goto 127, 3) := dk_167 0 127 (dk_at dksJ4_resize_9 9 rfl rfl)
theorem dJ4_resize_223 : decode cJ4_resize 223 = .ok (.aconst_null, 1) := dk_1 (dk_at dksJ4_resize_9 12 rfl rfl)
theorem dJ4_resize_224 : decode cJ4_resize 224 = .ok (.astore 9, 2) := dk_58 9 (dk_at dksJ4_resize_9 13 rfl rfl)
theorem dJ4_resize_226 : decode cJ4_resize 226 = .ok (.aconst_null, 1) := dk_1 (dk_at dksJ4_resize_9 15 rfl rfl)
theorem dJ4_resize_227 : decode cJ4_resize 227 = .ok (.astore 10, 2) := dk_58 10 (dk_at dksJ4_resize_9 16 rfl rfl)
theorem dJ4_resize_229 : decode cJ4_resize 229 = .ok (.aconst_null, 1) := dk_1 (dk_at dksJ4_resize_9 18 rfl rfl)
theorem dJ4_resize_230 : decode cJ4_resize 230 = .ok (.astore 11, 2) := dk_58 11 (dk_at dksJ4_resize_9 19 rfl rfl)
theorem dJ4_resize_232 : decode cJ4_resize 232 = .ok (.aconst_null, 1) := dk_1 (dk_at dksJ4_resize_9 21 rfl rfl)
theorem dJ4_resize_233 : decode cJ4_resize 233 = .ok (.astore 12, 2) := dk_58 12 (dk_at dksJ4_resize_9 22 rfl rfl)
theorem dJ4_resize_235 : decode cJ4_resize 235 = .ok (.aload 8, 2) := dk_25 8 (dk_at dksJ4_resize_10 0 rfl rfl)
theorem dJ4_resize_237 : decode cJ4_resize 237 = .ok (.getfield 177, 3) := dk_180 0 177 (dk_at dksJ4_resize_10 2 rfl rfl)
theorem dJ4_resize_240 : decode cJ4_resize 240 = .ok (.astore 13, 2) := dk_58 13 (dk_at dksJ4_resize_10 5 rfl rfl)
theorem dJ4_resize_242 : decode cJ4_resize 242 = .ok (.aload 8, 2) := dk_25 8 (dk_at dksJ4_resize_10 7 rfl rfl)
theorem dJ4_resize_244 : decode cJ4_resize 244 = .ok (.getfield 168, 3) := dk_180 0 168 (dk_at dksJ4_resize_10 9 rfl rfl)
theorem dJ4_resize_247 : decode cJ4_resize 247 = .ok (.iload_n 2, 1) := dk_28 (dk_at dksJ4_resize_10 12 rfl rfl)
theorem dJ4_resize_248 : decode cJ4_resize 248 = .ok (.iand, 1) := dk_126 (dk_at dksJ4_resize_10 13 rfl rfl)
theorem dJ4_resize_249 : decode cJ4_resize 249 = .ok (.ifCond .ne 29, 3) := dk_154 0 29 (dk_at dksJ4_resize_10 14 rfl rfl)
theorem dJ4_resize_252 : decode cJ4_resize 252 = .ok (.aload 10, 2) := dk_25 10 (dk_at dksJ4_resize_10 17 rfl rfl)
theorem dJ4_resize_254 : decode cJ4_resize 254 = .ok (.ifnonnull 10, 3) := dk_199 0 10 (dk_at dksJ4_resize_10 19 rfl rfl)
theorem dJ4_resize_257 : decode cJ4_resize 257 = .ok (.aload 8, 2) := dk_25 8 (dk_at dksJ4_resize_10 22 rfl rfl)
theorem dJ4_resize_259 : decode cJ4_resize 259 = .ok (.astore 9, 2) := dk_58 9 (dk_at dksJ4_resize_11 0 rfl rfl)
theorem dJ4_resize_261 : decode cJ4_resize 261 = .ok (.goto 10, 3) := dk_167 0 10 (dk_at dksJ4_resize_11 2 rfl rfl)
theorem dJ4_resize_264 : decode cJ4_resize 264 = .ok (.aload 10, 2) := dk_25 10 (dk_at dksJ4_resize_11 5 rfl rfl)
theorem dJ4_resize_266 : decode cJ4_resize 266 = .ok (.aload 8, 2) := dk_25 8 (dk_at dksJ4_resize_11 7 rfl rfl)
theorem dJ4_resize_268 : decode cJ4_resize 268 = .ok (.putfield 177, 3) := dk_181 0 177 (dk_at dksJ4_resize_11 9 rfl rfl)
theorem dJ4_resize_271 : decode cJ4_resize 271 = .ok (.aload 8, 2) := dk_25 8 (dk_at dksJ4_resize_11 12 rfl rfl)
theorem dJ4_resize_273 : decode cJ4_resize 273 = .ok (.astore 10, 2) := dk_58 10 (dk_at dksJ4_resize_11 14 rfl rfl)
theorem dJ4_resize_275 : decode cJ4_resize 275 = .ok (.goto 26, 3) := dk_167 0 26 (dk_at dksJ4_resize_11 16 rfl rfl)
theorem dJ4_resize_278 : decode cJ4_resize 278 = .ok (.aload 12, 2) := dk_25 12 (dk_at dksJ4_resize_11 19 rfl rfl)
theorem dJ4_resize_280 : decode cJ4_resize 280 = .ok (.ifnonnull 10, 3) := dk_199 0 10 (dk_at dksJ4_resize_11 21 rfl rfl)
theorem dJ4_resize_283 : decode cJ4_resize 283 = .ok (.aload 8, 2) := dk_25 8 (dk_at dksJ4_resize_12 0 rfl rfl)
theorem dJ4_resize_285 : decode cJ4_resize 285 = .ok (.astore 11, 2) := dk_58 11 (dk_at dksJ4_resize_12 2 rfl rfl)
theorem dJ4_resize_287 : decode cJ4_resize 287 = .ok (.goto 10, 3) := dk_167 0 10 (dk_at dksJ4_resize_12 4 rfl rfl)
theorem dJ4_resize_290 : decode cJ4_resize 290 = .ok (.aload 12, 2) := dk_25 12 (dk_at dksJ4_resize_12 7 rfl rfl)
theorem dJ4_resize_292 : decode cJ4_resize 292 = .ok (.aload 8, 2) := dk_25 8 (dk_at dksJ4_resize_12 9 rfl rfl)
theorem dJ4_resize_294 : decode cJ4_resize 294 = .ok (.putfield 177, 3) := dk_181 0 177 (dk_at dksJ4_resize_12 11 rfl rfl)
theorem dJ4_resize_297 : decode cJ4_resize 297 = .ok (.aload 8, 2) := dk_25 8 (dk_at dksJ4_resize_12 14 rfl rfl)
theorem dJ4_resize_299 : decode cJ4_resize 299 = .ok (.astore 12, 2) := dk_58 12 (dk_at dksJ4_resize_12 16 rfl rfl)
theorem dJ4_resize_301 : decode cJ4_resize 301 = .ok (.aload 13, 2) := dk_25 13 (dk_at dksJ4_resize_12 18 rfl rfl)
theorem dJ4_resize_303 : decode cJ4_resize 303 = .ok (.dup, 1) := dk_89 (dk_at dksJ4_resize_12 20 rfl rfl)
theorem dJ4_resize_304 : decode cJ4_resize 304 = .ok (.astore 8, 2) := dk_58 8 (dk_at dksJ4_resize_12 21 rfl rfl)
theorem dJ4_resize_306 : decode cJ4_resize 306 = .ok (.ifnonnull (-71), 3) := dk_199 255 185 (dk_at dksJ4_resize_13 0 rfl rfl)
theorem dJ4_resize_309 : decode cJ4_resize 309 = .ok (.aload 10, 2) := dk_25 10 (dk_at dksJ4_resize_13 3 rfl rfl)
theorem dJ4_resize_311 : decode cJ4_resize 311 = .ok (.ifnull 16, 3) := dk_198 0 16 (dk_at dksJ4_resize_13 5 rfl rfl)
theorem dJ4_resize_314 : decode cJ4_resize 314 = .ok (.aload 10, 2) := dk_25 10 (dk_at dksJ4_resize_13 8 rfl rfl)
theorem dJ4_resize_316 : decode cJ4_resize 316 = .ok (.aconst_null, 1) := dk_1 (dk_at dksJ4_resize_13 10 rfl rfl)
theorem dJ4_resize_317 : decode cJ4_resize 317 = .ok (.putfield 177, 3) := dk_181 0 177 (dk_at dksJ4_resize_13 11 rfl rfl)
theorem dJ4_resize_320 : decode cJ4_resize 320 = .ok (.aload 6, 2) := dk_25 6 (dk_at dksJ4_resize_13 14 rfl rfl)
theorem dJ4_resize_322 : decode cJ4_resize 322 = .ok (.iload 7, 2) := dk_21 7 (dk_at dksJ4_resize_13 16 rfl rfl)
theorem dJ4_resize_324 : decode cJ4_resize 324 = .ok (.aload 9, 2) := dk_25 9 (dk_at dksJ4_resize_13 18 rfl rfl)
theorem dJ4_resize_326 : decode cJ4_resize 326 = .ok (.aastore, 1) := dk_83 (dk_at dksJ4_resize_13 20 rfl rfl)
theorem dJ4_resize_327 : decode cJ4_resize 327 = .ok (.aload 12, 2) := dk_25 12 (dk_at dksJ4_resize_13 21 rfl rfl)
theorem dJ4_resize_329 : decode cJ4_resize 329 = .ok (.ifnull 18, 3) := dk_198 0 18 (dk_at dksJ4_resize_14 0 rfl rfl)
theorem dJ4_resize_332 : decode cJ4_resize 332 = .ok (.aload 12, 2) := dk_25 12 (dk_at dksJ4_resize_14 3 rfl rfl)
theorem dJ4_resize_334 : decode cJ4_resize 334 = .ok (.aconst_null, 1) := dk_1 (dk_at dksJ4_resize_14 5 rfl rfl)
theorem dJ4_resize_335 : decode cJ4_resize 335 = .ok (.putfield 177, 3) := dk_181 0 177 (dk_at dksJ4_resize_14 6 rfl rfl)
theorem dJ4_resize_338 : decode cJ4_resize 338 = .ok (.aload 6, 2) := dk_25 6 (dk_at dksJ4_resize_14 9 rfl rfl)
theorem dJ4_resize_340 : decode cJ4_resize 340 = .ok (.iload 7, 2) := dk_21 7 (dk_at dksJ4_resize_14 11 rfl rfl)
theorem dJ4_resize_342 : decode cJ4_resize 342 = .ok (.iload_n 2, 1) := dk_28 (dk_at dksJ4_resize_14 13 rfl rfl)
theorem dJ4_resize_343 : decode cJ4_resize 343 = .ok (.iadd, 1) := dk_96 (dk_at dksJ4_resize_14 14 rfl rfl)
theorem dJ4_resize_344 : decode cJ4_resize 344 = .ok (.aload 11, 2) := dk_25 11 (dk_at dksJ4_resize_14 15 rfl rfl)
theorem dJ4_resize_346 : decode cJ4_resize 346 = .ok (.aastore, 1) := dk_83 (dk_at dksJ4_resize_14 17 rfl rfl)
theorem dJ4_resize_347 : decode cJ4_resize 347 = .ok (.iinc 7 1, 3) := dk_132 7 1 (dk_at dksJ4_resize_14 18 rfl rfl)
theorem dJ4_resize_350 : decode cJ4_resize 350 = .ok (.goto (-199), 3) := dk_167 255 57 (dk_at dksJ4_resize_14 21 rfl rfl)
theorem dJ4_resize_353 : decode cJ4_resize 353 = .ok (.aload 6, 2) := dk_25 6 (dk_at dksJ4_resize_15 0 rfl rfl)
theorem dJ4_resize_355 : decode cJ4_resize 355 = .ok (.areturn, 1) := dk_176 (dk_at dksJ4_resize_15 2 rfl rfl)
abbrev cJ4_replacementNode : ByteArray := prog_58_method_47_code
def yJ4_replacementNode : MethodName := ⟨RJ4, "replacementNode", "(Ljava/util/HashMap$Node;Ljava/util/HashMap$Node;)Ljava/util/HashMap$Node;"⟩
def dkwJ4_replacementNode_0 : List UInt8 := [187, 0, 163, 89, 43, 180, 0, 168, 43, 180, 0, 170, 43, 180, 0, 162, 44, 183, 1, 119, 176]
abbrev dktJ4_replacementNode_0 : List UInt8 := dkwJ4_replacementNode_0 ++ []
theorem dksJ4_replacementNode_0 : cJ4_replacementNode.data.toList.drop 0 = dktJ4_replacementNode_0 := by decide +kernel
theorem dJ4_replacementNode_0 : decode cJ4_replacementNode 0 = .ok (.new 163, 3) := dk_187 0 163 (dk_at dksJ4_replacementNode_0 0 rfl rfl)
theorem dJ4_replacementNode_3 : decode cJ4_replacementNode 3 = .ok (.dup, 1) := dk_89 (dk_at dksJ4_replacementNode_0 3 rfl rfl)
theorem dJ4_replacementNode_4 : decode cJ4_replacementNode 4 = .ok (.aload_n 1, 1) := dk_43 (dk_at dksJ4_replacementNode_0 4 rfl rfl)
theorem dJ4_replacementNode_5 : decode cJ4_replacementNode 5 = .ok (.getfield 168, 3) := dk_180 0 168 (dk_at dksJ4_replacementNode_0 5 rfl rfl)
theorem dJ4_replacementNode_8 : decode cJ4_replacementNode 8 = .ok (.aload_n 1, 1) := dk_43 (dk_at dksJ4_replacementNode_0 8 rfl rfl)
theorem dJ4_replacementNode_9 : decode cJ4_replacementNode 9 = .ok (.getfield 170, 3) := dk_180 0 170 (dk_at dksJ4_replacementNode_0 9 rfl rfl)
theorem dJ4_replacementNode_12 : decode cJ4_replacementNode 12 = .ok (.aload_n 1, 1) := dk_43 (dk_at dksJ4_replacementNode_0 12 rfl rfl)
theorem dJ4_replacementNode_13 : decode cJ4_replacementNode 13 = .ok (.getfield 162, 3) := dk_180 0 162 (dk_at dksJ4_replacementNode_0 13 rfl rfl)
theorem dJ4_replacementNode_16 : decode cJ4_replacementNode 16 = .ok (.aload_n 2, 1) := dk_44 (dk_at dksJ4_replacementNode_0 16 rfl rfl)
theorem dJ4_replacementNode_17 : decode cJ4_replacementNode 17 = .ok (.invokespecial 375, 3) := dk_183 1 119 (dk_at dksJ4_replacementNode_0 17 rfl rfl)
theorem dJ4_replacementNode_20 : decode cJ4_replacementNode 20 = .ok (.areturn, 1) := dk_176 (dk_at dksJ4_replacementNode_0 20 rfl rfl)
abbrev cJ4_newNode : ByteArray := prog_58_method_46_code
def yJ4_newNode : MethodName := ⟨RJ4, "newNode", "(ILjava/lang/Object;Ljava/lang/Object;Ljava/util/HashMap$Node;)Ljava/util/HashMap$Node;"⟩
def dkwJ4_newNode_0 : List UInt8 := [187, 0, 163, 89, 27, 44, 45, 25, 4, 183, 1, 119, 176]
abbrev dktJ4_newNode_0 : List UInt8 := dkwJ4_newNode_0 ++ []
theorem dksJ4_newNode_0 : cJ4_newNode.data.toList.drop 0 = dktJ4_newNode_0 := by decide +kernel
theorem dJ4_newNode_0 : decode cJ4_newNode 0 = .ok (.new 163, 3) := dk_187 0 163 (dk_at dksJ4_newNode_0 0 rfl rfl)
theorem dJ4_newNode_3 : decode cJ4_newNode 3 = .ok (.dup, 1) := dk_89 (dk_at dksJ4_newNode_0 3 rfl rfl)
theorem dJ4_newNode_4 : decode cJ4_newNode 4 = .ok (.iload_n 1, 1) := dk_27 (dk_at dksJ4_newNode_0 4 rfl rfl)
theorem dJ4_newNode_5 : decode cJ4_newNode 5 = .ok (.aload_n 2, 1) := dk_44 (dk_at dksJ4_newNode_0 5 rfl rfl)
theorem dJ4_newNode_6 : decode cJ4_newNode 6 = .ok (.aload_n 3, 1) := dk_45 (dk_at dksJ4_newNode_0 6 rfl rfl)
theorem dJ4_newNode_7 : decode cJ4_newNode 7 = .ok (.aload 4, 2) := dk_25 4 (dk_at dksJ4_newNode_0 7 rfl rfl)
theorem dJ4_newNode_9 : decode cJ4_newNode 9 = .ok (.invokespecial 375, 3) := dk_183 1 119 (dk_at dksJ4_newNode_0 9 rfl rfl)
theorem dJ4_newNode_12 : decode cJ4_newNode 12 = .ok (.areturn, 1) := dk_176 (dk_at dksJ4_newNode_0 12 rfl rfl)
abbrev cJ4_newTreeNode : ByteArray := prog_58_method_48_code
def yJ4_newTreeNode : MethodName := ⟨RJ4, "newTreeNode", "(ILjava/lang/Object;Ljava/lang/Object;Ljava/util/HashMap$Node;)Ljava/util/HashMap$TreeNode;"⟩
def dkwJ4_newTreeNode_0 : List UInt8 := [187, 0, 180, 89, 27, 44, 45, 25, 4, 183, 1, 122, 176]
abbrev dktJ4_newTreeNode_0 : List UInt8 := dkwJ4_newTreeNode_0 ++ []
theorem dksJ4_newTreeNode_0 : cJ4_newTreeNode.data.toList.drop 0 = dktJ4_newTreeNode_0 := by decide +kernel
theorem dJ4_newTreeNode_0 : decode cJ4_newTreeNode 0 = .ok (.new 180, 3) := dk_187 0 180 (dk_at dksJ4_newTreeNode_0 0 rfl rfl)
theorem dJ4_newTreeNode_3 : decode cJ4_newTreeNode 3 = .ok (.dup, 1) := dk_89 (dk_at dksJ4_newTreeNode_0 3 rfl rfl)
theorem dJ4_newTreeNode_4 : decode cJ4_newTreeNode 4 = .ok (.iload_n 1, 1) := dk_27 (dk_at dksJ4_newTreeNode_0 4 rfl rfl)
theorem dJ4_newTreeNode_5 : decode cJ4_newTreeNode 5 = .ok (.aload_n 2, 1) := dk_44 (dk_at dksJ4_newTreeNode_0 5 rfl rfl)
theorem dJ4_newTreeNode_6 : decode cJ4_newTreeNode 6 = .ok (.aload_n 3, 1) := dk_45 (dk_at dksJ4_newTreeNode_0 6 rfl rfl)
theorem dJ4_newTreeNode_7 : decode cJ4_newTreeNode 7 = .ok (.aload 4, 2) := dk_25 4 (dk_at dksJ4_newTreeNode_0 7 rfl rfl)
theorem dJ4_newTreeNode_9 : decode cJ4_newTreeNode 9 = .ok (.invokespecial 378, 3) := dk_183 1 122 (dk_at dksJ4_newTreeNode_0 9 rfl rfl)
theorem dJ4_newTreeNode_12 : decode cJ4_newTreeNode 12 = .ok (.areturn, 1) := dk_176 (dk_at dksJ4_newTreeNode_0 12 rfl rfl)
abbrev cJ4_treeifyBin : ByteArray := prog_58_method_18_code
def yJ4_treeifyBin : MethodName := ⟨RJ4, "treeifyBin", "([Ljava/util/HashMap$Node;I)V"⟩
def dkwJ4_treeifyBin_4 : List UInt8 := [21, 4, 25, 6, 91, 83, 198, 0, 9, 25, 6, 43, 182, 0, 224, 177]
abbrev dktJ4_treeifyBin_4 : List UInt8 := dkwJ4_treeifyBin_4 ++ []
def dkwJ4_treeifyBin_3 : List UInt8 := [25, 7, 25, 8, 181, 0, 223, 25, 8, 58, 7, 25, 5, 180, 0, 177, 89, 58, 5, 199, 255, 209, 43]
abbrev dktJ4_treeifyBin_3 : List UInt8 := dkwJ4_treeifyBin_3 ++ dktJ4_treeifyBin_4
def dkwJ4_treeifyBin_2 : List UInt8 := [182, 0, 215, 58, 8, 25, 7, 199, 0, 10, 25, 8, 58, 6, 167, 0, 17, 25, 8, 25, 7, 181, 0, 219]
abbrev dktJ4_treeifyBin_2 : List UInt8 := dkwJ4_treeifyBin_2 ++ dktJ4_treeifyBin_3
def dkwJ4_treeifyBin_1 : List UInt8 := [100, 28, 126, 89, 54, 4, 50, 89, 58, 5, 198, 0, 75, 1, 58, 6, 1, 58, 7, 42, 25, 5, 1]
abbrev dktJ4_treeifyBin_1 : List UInt8 := dkwJ4_treeifyBin_1 ++ dktJ4_treeifyBin_2
def dkwJ4_treeifyBin_0 : List UInt8 := [43, 198, 0, 12, 43, 190, 89, 62, 16, 64, 162, 0, 11, 42, 182, 0, 117, 87, 167, 0, 91, 43, 29, 4]
abbrev dktJ4_treeifyBin_0 : List UInt8 := dkwJ4_treeifyBin_0 ++ dktJ4_treeifyBin_1
theorem dksJ4_treeifyBin_0 : cJ4_treeifyBin.data.toList.drop 0 = dktJ4_treeifyBin_0 := by decide +kernel
theorem dksJ4_treeifyBin_1 : cJ4_treeifyBin.data.toList.drop 24 = dktJ4_treeifyBin_1 := dk_seg dksJ4_treeifyBin_0 24 rfl rfl
theorem dksJ4_treeifyBin_2 : cJ4_treeifyBin.data.toList.drop 47 = dktJ4_treeifyBin_2 := dk_seg dksJ4_treeifyBin_1 23 rfl rfl
theorem dksJ4_treeifyBin_3 : cJ4_treeifyBin.data.toList.drop 71 = dktJ4_treeifyBin_3 := dk_seg dksJ4_treeifyBin_2 24 rfl rfl
theorem dksJ4_treeifyBin_4 : cJ4_treeifyBin.data.toList.drop 94 = dktJ4_treeifyBin_4 := dk_seg dksJ4_treeifyBin_3 23 rfl rfl
theorem dJ4_treeifyBin_0 : decode cJ4_treeifyBin 0 = .ok (.aload_n 1, 1) := dk_43 (dk_at dksJ4_treeifyBin_0 0 rfl rfl)
theorem dJ4_treeifyBin_1 : decode cJ4_treeifyBin 1 = .ok (.ifnull 12, 3) := dk_198 0 12 (dk_at dksJ4_treeifyBin_0 1 rfl rfl)
theorem dJ4_treeifyBin_4 : decode cJ4_treeifyBin 4 = .ok (.aload_n 1, 1) := dk_43 (dk_at dksJ4_treeifyBin_0 4 rfl rfl)
theorem dJ4_treeifyBin_5 : decode cJ4_treeifyBin 5 = .ok (.arraylength, 1) := dk_190 (dk_at dksJ4_treeifyBin_0 5 rfl rfl)
theorem dJ4_treeifyBin_6 : decode cJ4_treeifyBin 6 = .ok (.dup, 1) := dk_89 (dk_at dksJ4_treeifyBin_0 6 rfl rfl)
theorem dJ4_treeifyBin_7 : decode cJ4_treeifyBin 7 = .ok (.istore_n 3, 1) := dk_62 (dk_at dksJ4_treeifyBin_0 7 rfl rfl)
theorem dJ4_treeifyBin_8 : decode cJ4_treeifyBin 8 = .ok (.bipush 64, 2) := dk_16 64 (dk_at dksJ4_treeifyBin_0 8 rfl rfl)
theorem dJ4_treeifyBin_10 : decode cJ4_treeifyBin 10 = .ok (.if_icmp .ge 11, 3) := dk_162 0 11 (dk_at dksJ4_treeifyBin_0 10 rfl rfl)
theorem dJ4_treeifyBin_13 : decode cJ4_treeifyBin 13 = .ok (.aload_n 0, 1) := dk_42 (dk_at dksJ4_treeifyBin_0 13 rfl rfl)
theorem dJ4_treeifyBin_14 : decode cJ4_treeifyBin 14 = .ok (.invokevirtual 117, 3) := dk_182 0 117 (dk_at dksJ4_treeifyBin_0 14 rfl rfl)
theorem dJ4_treeifyBin_17 : decode cJ4_treeifyBin 17 = .ok (.pop, 1) := dk_87 (dk_at dksJ4_treeifyBin_0 17 rfl rfl)
theorem dJ4_treeifyBin_18 : decode cJ4_treeifyBin 18 = .ok (.goto 91, 3) := dk_167 0 91 (dk_at dksJ4_treeifyBin_0 18 rfl rfl)
theorem dJ4_treeifyBin_21 : decode cJ4_treeifyBin 21 = .ok (.aload_n 1, 1) := dk_43 (dk_at dksJ4_treeifyBin_0 21 rfl rfl)
theorem dJ4_treeifyBin_22 : decode cJ4_treeifyBin 22 = .ok (.iload_n 3, 1) := dk_29 (dk_at dksJ4_treeifyBin_0 22 rfl rfl)
theorem dJ4_treeifyBin_23 : decode cJ4_treeifyBin 23 = .ok (.iconst 1, 1) := dk_4 (dk_at dksJ4_treeifyBin_0 23 rfl rfl)
theorem dJ4_treeifyBin_24 : decode cJ4_treeifyBin 24 = .ok (.isub, 1) := dk_100 (dk_at dksJ4_treeifyBin_1 0 rfl rfl)
theorem dJ4_treeifyBin_25 : decode cJ4_treeifyBin 25 = .ok (.iload_n 2, 1) := dk_28 (dk_at dksJ4_treeifyBin_1 1 rfl rfl)
theorem dJ4_treeifyBin_26 : decode cJ4_treeifyBin 26 = .ok (.iand, 1) := dk_126 (dk_at dksJ4_treeifyBin_1 2 rfl rfl)
theorem dJ4_treeifyBin_27 : decode cJ4_treeifyBin 27 = .ok (.dup, 1) := dk_89 (dk_at dksJ4_treeifyBin_1 3 rfl rfl)
theorem dJ4_treeifyBin_28 : decode cJ4_treeifyBin 28 = .ok (.istore 4, 2) := dk_54 4 (dk_at dksJ4_treeifyBin_1 4 rfl rfl)
theorem dJ4_treeifyBin_30 : decode cJ4_treeifyBin 30 = .ok (.aaload, 1) := dk_50 (dk_at dksJ4_treeifyBin_1 6 rfl rfl)
theorem dJ4_treeifyBin_31 : decode cJ4_treeifyBin 31 = .ok (.dup, 1) := dk_89 (dk_at dksJ4_treeifyBin_1 7 rfl rfl)
theorem dJ4_treeifyBin_32 : decode cJ4_treeifyBin 32 = .ok (.astore 5, 2) := dk_58 5 (dk_at dksJ4_treeifyBin_1 8 rfl rfl)
theorem dJ4_treeifyBin_34 : decode cJ4_treeifyBin 34 = .ok (.ifnull 75, 3) := dk_198 0 75 (dk_at dksJ4_treeifyBin_1 10 rfl rfl)
theorem dJ4_treeifyBin_37 : decode cJ4_treeifyBin 37 = .ok (.aconst_null, 1) := dk_1 (dk_at dksJ4_treeifyBin_1 13 rfl rfl)
theorem dJ4_treeifyBin_38 : decode cJ4_treeifyBin 38 = .ok (.astore 6, 2) := dk_58 6 (dk_at dksJ4_treeifyBin_1 14 rfl rfl)
theorem dJ4_treeifyBin_40 : decode cJ4_treeifyBin 40 = .ok (.aconst_null, 1) := dk_1 (dk_at dksJ4_treeifyBin_1 16 rfl rfl)
theorem dJ4_treeifyBin_41 : decode cJ4_treeifyBin 41 = .ok (.astore 7, 2) := dk_58 7 (dk_at dksJ4_treeifyBin_1 17 rfl rfl)
theorem dJ4_treeifyBin_43 : decode cJ4_treeifyBin 43 = .ok (.aload_n 0, 1) := dk_42 (dk_at dksJ4_treeifyBin_1 19 rfl rfl)
theorem dJ4_treeifyBin_44 : decode cJ4_treeifyBin 44 = .ok (.aload 5, 2) := dk_25 5 (dk_at dksJ4_treeifyBin_1 20 rfl rfl)
theorem dJ4_treeifyBin_46 : decode cJ4_treeifyBin 46 = .ok (.aconst_null, 1) := dk_1 (dk_at dksJ4_treeifyBin_1 22 rfl rfl)
theorem dJ4_treeifyBin_47 : decode cJ4_treeifyBin 47 = .ok (.invokevirtual 215, 3) := dk_182 0 215 (dk_at dksJ4_treeifyBin_2 0 rfl rfl)
theorem dJ4_treeifyBin_50 : decode cJ4_treeifyBin 50 = .ok (.astore 8, 2) := dk_58 8 (dk_at dksJ4_treeifyBin_2 3 rfl rfl)
theorem dJ4_treeifyBin_52 : decode cJ4_treeifyBin 52 = .ok (.aload 7, 2) := dk_25 7 (dk_at dksJ4_treeifyBin_2 5 rfl rfl)
theorem dJ4_treeifyBin_54 : decode cJ4_treeifyBin 54 = .ok (.ifnonnull 10, 3) := dk_199 0 10 (dk_at dksJ4_treeifyBin_2 7 rfl rfl)
theorem dJ4_treeifyBin_57 : decode cJ4_treeifyBin 57 = .ok (.aload 8, 2) := dk_25 8 (dk_at dksJ4_treeifyBin_2 10 rfl rfl)
theorem dJ4_treeifyBin_59 : decode cJ4_treeifyBin 59 = .ok (.astore 6, 2) := dk_58 6 (dk_at dksJ4_treeifyBin_2 12 rfl rfl)
theorem dJ4_treeifyBin_61 : decode cJ4_treeifyBin 61 = .ok (.goto 17, 3) := dk_167 0 17 (dk_at dksJ4_treeifyBin_2 14 rfl rfl)
theorem dJ4_treeifyBin_64 : decode cJ4_treeifyBin 64 = .ok (.aload 8, 2) := dk_25 8 (dk_at dksJ4_treeifyBin_2 17 rfl rfl)
theorem dJ4_treeifyBin_66 : decode cJ4_treeifyBin 66 = .ok (.aload 7, 2) := dk_25 7 (dk_at dksJ4_treeifyBin_2 19 rfl rfl)
theorem dJ4_treeifyBin_68 : decode cJ4_treeifyBin 68 = .ok (.putfield 219, 3) := dk_181 0 219 (dk_at dksJ4_treeifyBin_2 21 rfl rfl)
theorem dJ4_treeifyBin_71 : decode cJ4_treeifyBin 71 = .ok (.aload 7, 2) := dk_25 7 (dk_at dksJ4_treeifyBin_3 0 rfl rfl)
theorem dJ4_treeifyBin_73 : decode cJ4_treeifyBin 73 = .ok (.aload 8, 2) := dk_25 8 (dk_at dksJ4_treeifyBin_3 2 rfl rfl)
theorem dJ4_treeifyBin_75 : decode cJ4_treeifyBin 75 = .ok (.putfield 223, 3) := dk_181 0 223 (dk_at dksJ4_treeifyBin_3 4 rfl rfl)
theorem dJ4_treeifyBin_78 : decode cJ4_treeifyBin 78 = .ok (.aload 8, 2) := dk_25 8 (dk_at dksJ4_treeifyBin_3 7 rfl rfl)
theorem dJ4_treeifyBin_80 : decode cJ4_treeifyBin 80 = .ok (.astore 7, 2) := dk_58 7 (dk_at dksJ4_treeifyBin_3 9 rfl rfl)
theorem dJ4_treeifyBin_82 : decode cJ4_treeifyBin 82 = .ok (.aload 5, 2) := dk_25 5 (dk_at dksJ4_treeifyBin_3 11 rfl rfl)
theorem dJ4_treeifyBin_84 : decode cJ4_treeifyBin 84 = .ok (.getfield 177, 3) := dk_180 0 177 (dk_at dksJ4_treeifyBin_3 13 rfl rfl)
theorem dJ4_treeifyBin_87 : decode cJ4_treeifyBin 87 = .ok (.dup, 1) := dk_89 (dk_at dksJ4_treeifyBin_3 16 rfl rfl)
theorem dJ4_treeifyBin_88 : decode cJ4_treeifyBin 88 = .ok (.astore 5, 2) := dk_58 5 (dk_at dksJ4_treeifyBin_3 17 rfl rfl)
theorem dJ4_treeifyBin_90 : decode cJ4_treeifyBin 90 = .ok (.ifnonnull (-47), 3) := dk_199 255 209 (dk_at dksJ4_treeifyBin_3 19 rfl rfl)
theorem dJ4_treeifyBin_93 : decode cJ4_treeifyBin 93 = .ok (.aload_n 1, 1) := dk_43 (dk_at dksJ4_treeifyBin_3 22 rfl rfl)
theorem dJ4_treeifyBin_94 : decode cJ4_treeifyBin 94 = .ok (.iload 4, 2) := dk_21 4 (dk_at dksJ4_treeifyBin_4 0 rfl rfl)
theorem dJ4_treeifyBin_96 : decode cJ4_treeifyBin 96 = .ok (.aload 6, 2) := dk_25 6 (dk_at dksJ4_treeifyBin_4 2 rfl rfl)
theorem dJ4_treeifyBin_98 : decode cJ4_treeifyBin 98 = .ok (.dup_x2, 1) := dk_91 (dk_at dksJ4_treeifyBin_4 4 rfl rfl)
theorem dJ4_treeifyBin_99 : decode cJ4_treeifyBin 99 = .ok (.aastore, 1) := dk_83 (dk_at dksJ4_treeifyBin_4 5 rfl rfl)
theorem dJ4_treeifyBin_100 : decode cJ4_treeifyBin 100 = .ok (.ifnull 9, 3) := dk_198 0 9 (dk_at dksJ4_treeifyBin_4 6 rfl rfl)
theorem dJ4_treeifyBin_103 : decode cJ4_treeifyBin 103 = .ok (.aload 6, 2) := dk_25 6 (dk_at dksJ4_treeifyBin_4 9 rfl rfl)
theorem dJ4_treeifyBin_105 : decode cJ4_treeifyBin 105 = .ok (.aload_n 1, 1) := dk_43 (dk_at dksJ4_treeifyBin_4 11 rfl rfl)
theorem dJ4_treeifyBin_106 : decode cJ4_treeifyBin 106 = .ok (.invokevirtual 224, 3) := dk_182 0 224 (dk_at dksJ4_treeifyBin_4 12 rfl rfl)
theorem dJ4_treeifyBin_109 : decode cJ4_treeifyBin 109 = .ok (.return_, 1) := dk_177 (dk_at dksJ4_treeifyBin_4 15 rfl rfl)
abbrev cJ4_replacementTreeNode : ByteArray := prog_58_method_49_code
def yJ4_replacementTreeNode : MethodName := ⟨RJ4, "replacementTreeNode", "(Ljava/util/HashMap$Node;Ljava/util/HashMap$Node;)Ljava/util/HashMap$TreeNode;"⟩
def dkwJ4_replacementTreeNode_0 : List UInt8 := [187, 0, 180, 89, 43, 180, 0, 168, 43, 180, 0, 170, 43, 180, 0, 162, 44, 183, 1, 122, 176]
abbrev dktJ4_replacementTreeNode_0 : List UInt8 := dkwJ4_replacementTreeNode_0 ++ []
theorem dksJ4_replacementTreeNode_0 : cJ4_replacementTreeNode.data.toList.drop 0 = dktJ4_replacementTreeNode_0 := by decide +kernel
theorem dJ4_replacementTreeNode_0 : decode cJ4_replacementTreeNode 0 = .ok (.new 180, 3) := dk_187 0 180 (dk_at dksJ4_replacementTreeNode_0 0 rfl rfl)
theorem dJ4_replacementTreeNode_3 : decode cJ4_replacementTreeNode 3 = .ok (.dup, 1) := dk_89 (dk_at dksJ4_replacementTreeNode_0 3 rfl rfl)
theorem dJ4_replacementTreeNode_4 : decode cJ4_replacementTreeNode 4 = .ok (.aload_n 1, 1) := dk_43 (dk_at dksJ4_replacementTreeNode_0 4 rfl rfl)
theorem dJ4_replacementTreeNode_5 : decode cJ4_replacementTreeNode 5 = .ok (.getfield 168, 3) := dk_180 0 168 (dk_at dksJ4_replacementTreeNode_0 5 rfl rfl)
theorem dJ4_replacementTreeNode_8 : decode cJ4_replacementTreeNode 8 = .ok (.aload_n 1, 1) := dk_43 (dk_at dksJ4_replacementTreeNode_0 8 rfl rfl)
theorem dJ4_replacementTreeNode_9 : decode cJ4_replacementTreeNode 9 = .ok (.getfield 170, 3) := dk_180 0 170 (dk_at dksJ4_replacementTreeNode_0 9 rfl rfl)
theorem dJ4_replacementTreeNode_12 : decode cJ4_replacementTreeNode 12 = .ok (.aload_n 1, 1) := dk_43 (dk_at dksJ4_replacementTreeNode_0 12 rfl rfl)
theorem dJ4_replacementTreeNode_13 : decode cJ4_replacementTreeNode 13 = .ok (.getfield 162, 3) := dk_180 0 162 (dk_at dksJ4_replacementTreeNode_0 13 rfl rfl)
theorem dJ4_replacementTreeNode_16 : decode cJ4_replacementTreeNode 16 = .ok (.aload_n 2, 1) := dk_44 (dk_at dksJ4_replacementTreeNode_0 16 rfl rfl)
theorem dJ4_replacementTreeNode_17 : decode cJ4_replacementTreeNode 17 = .ok (.invokespecial 378, 3) := dk_183 1 122 (dk_at dksJ4_replacementTreeNode_0 17 rfl rfl)
theorem dJ4_replacementTreeNode_20 : decode cJ4_replacementTreeNode 20 = .ok (.areturn, 1) := dk_176 (dk_at dksJ4_replacementTreeNode_0 20 rfl rfl)
abbrev cJ4_afterNodeAccess : ByteArray := prog_58_method_51_code
def yJ4_afterNodeAccess : MethodName := ⟨RJ4, "afterNodeAccess", "(Ljava/util/HashMap$Node;)V"⟩
theorem dJ4_afterNodeAccess_0 : decode cJ4_afterNodeAccess 0 = .ok (.return_, 1) := by decide +kernel
abbrev cJ4_afterNodeInsertion : ByteArray := prog_58_method_52_code
def yJ4_afterNodeInsertion : MethodName := ⟨RJ4, "afterNodeInsertion", "(Z)V"⟩
theorem dJ4_afterNodeInsertion_0 : decode cJ4_afterNodeInsertion 0 = .ok (.return_, 1) := by decide +kernel
abbrev cJ4_size : ByteArray := prog_58_method_10_code
def yJ4_size : MethodName := ⟨RJ4, "size", "()I"⟩
theorem dJ4_size_0 : decode cJ4_size 0 = .ok (.aload_n 0, 1) := by decide +kernel
theorem dJ4_size_1 : decode cJ4_size 1 = .ok (.getfield 156, 3) := by decide +kernel
theorem dJ4_size_4 : decode cJ4_size 4 = .ok (.ireturn, 1) := by decide +kernel
theorem q113 : (Jvm.Cond.initialized "java/util/HashMap") ∈ lw_all := lw_g (lw_at lw_m1 7 rfl) rfl
theorem q216 : (Jvm.Cond.instantiable "java/util/HashMap" (8 : Nat)) ∈ lw_all := lw_g (lw_at lw_m1 110 rfl) rfl
theorem q218 : (Jvm.Cond.instanceMethod ({ cls := "java/util/HashMap", name := "<init>", desc := "()V" } : Jvm.MethodName)) ∈ lw_all := lw_g (lw_at lw_m1 112 rfl) rfl
theorem q219 : (Jvm.Cond.code ({ cls := "java/util/HashMap", name := "<init>", desc := "()V" } : Jvm.MethodName) prog_58_method_7_code (1 : Nat) (Option.none : Option Jvm.ClassFile.FieldType)) ∈ lw_all := lw_g (lw_at lw_m1 113 rfl) rfl
theorem q220 : (Jvm.Cond.methodLink "java/util/HashMap" (43 : Nat) ({ cls := "java/util/AbstractMap", name := "<init>", desc := "()V" } : Jvm.MethodName)) ∈ lw_all := lw_g (lw_at lw_m1 114 rfl) rfl
theorem q224 : (Jvm.Cond.constantFloat "java/util/HashMap" (92 : Nat) (1061158912 : UInt32)) ∈ lw_all := lw_g (lw_at lw_m1 118 rfl) rfl
theorem q226 : (Jvm.Cond.fieldLink "java/util/HashMap" (105 : Nat) "java/util/HashMap" "table" "[Ljava/util/HashMap$Node;") ∈ lw_all := lw_g (lw_at lw_m1 120 rfl) rfl
theorem q228 : (Jvm.Cond.fieldLink "java/util/HashMap" (156 : Nat) "java/util/HashMap" "size" "I") ∈ lw_all := lw_g (lw_at lw_m1 122 rfl) rfl
theorem q233 : (Jvm.Cond.fieldLink "java/util/HashMap" (202 : Nat) "java/util/HashMap" "modCount" "I") ∈ lw_all := lw_g (lw_at lw_m1 127 rfl) rfl
theorem q234 : (Jvm.Cond.fieldLink "java/util/HashMap" (88 : Nat) "java/util/HashMap" "threshold" "I") ∈ lw_all := lw_g (lw_at lw_m1 128 rfl) rfl
theorem q235 : (Jvm.Cond.fieldLink "java/util/HashMap" (81 : Nat) "java/util/HashMap" "loadFactor" "F") ∈ lw_all := lw_g (lw_at lw_m1 129 rfl) rfl
theorem q236 : (Jvm.Cond.fieldLink "java/util/HashMap" (239 : Nat) "java/util/HashMap" "keySet" "Ljava/util/Set;") ∈ lw_all := lw_g (lw_at lw_m1 130 rfl) rfl
theorem q237 : (Jvm.Cond.sameField "java/util/HashMap" "java/util/AbstractMap" "keySet" "Ljava/util/Set;") ∈ lw_all := lw_g (lw_at lw_m1 131 rfl) rfl
theorem q240 : (Jvm.Cond.lays "java/util/HashMap" "java/util/HashMap" "table" "[Ljava/util/HashMap$Node;") ∈ lw_all := lw_g (lw_at lw_m1 134 rfl) rfl
theorem q241 : (Jvm.Cond.soleField "java/util/HashMap" "table") ∈ lw_all := lw_g (lw_at lw_m1 135 rfl) rfl
theorem q242 : (Jvm.Cond.lays "java/util/HashMap" "java/util/HashMap" "entrySet" "Ljava/util/Set;") ∈ lw_all := lw_g (lw_at lw_m1 136 rfl) rfl
theorem q243 : (Jvm.Cond.soleField "java/util/HashMap" "entrySet") ∈ lw_all := lw_g (lw_at lw_m1 137 rfl) rfl
theorem q244 : (Jvm.Cond.lays "java/util/HashMap" "java/util/HashMap" "size" "I") ∈ lw_all := lw_g (lw_at lw_m1 138 rfl) rfl
theorem q245 : (Jvm.Cond.soleField "java/util/HashMap" "size") ∈ lw_all := lw_g (lw_at lw_m1 139 rfl) rfl
theorem q246 : (Jvm.Cond.lays "java/util/HashMap" "java/util/HashMap" "modCount" "I") ∈ lw_all := lw_g (lw_at lw_m1 140 rfl) rfl
theorem q247 : (Jvm.Cond.soleField "java/util/HashMap" "modCount") ∈ lw_all := lw_g (lw_at lw_m1 141 rfl) rfl
theorem q248 : (Jvm.Cond.lays "java/util/HashMap" "java/util/HashMap" "threshold" "I") ∈ lw_all := lw_g (lw_at lw_m1 142 rfl) rfl
theorem q249 : (Jvm.Cond.soleField "java/util/HashMap" "threshold") ∈ lw_all := lw_g (lw_at lw_m1 143 rfl) rfl
theorem q250 : (Jvm.Cond.laysFinal "java/util/HashMap" "java/util/HashMap" "loadFactor" "F") ∈ lw_all := lw_g (lw_at lw_m1 144 rfl) rfl
theorem q251 : (Jvm.Cond.soleField "java/util/HashMap" "loadFactor") ∈ lw_all := lw_g (lw_at lw_m1 145 rfl) rfl
theorem q252 : (Jvm.Cond.lays "java/util/HashMap" "java/util/AbstractMap" "keySet" "Ljava/util/Set;") ∈ lw_all := lw_g (lw_at lw_m1 146 rfl) rfl
theorem q254 : (Jvm.Cond.lays "java/util/HashMap" "java/util/AbstractMap" "values" "Ljava/util/Collection;") ∈ lw_all := lw_g (lw_at lw_m1 148 rfl) rfl
theorem q256 : (Jvm.Cond.superclass "java/util/HashMap" "java/util/AbstractMap") ∈ lw_all := lw_g (lw_at lw_m1 150 rfl) rfl
theorem q307 : (Jvm.Cond.instanceMethod ({ cls := "java/util/HashMap", name := "<init>", desc := "(I)V" } : Jvm.MethodName)) ∈ lw_all := lw_g (lw_at lw_m1 201 rfl) rfl
theorem q308 : (Jvm.Cond.code ({ cls := "java/util/HashMap", name := "<init>", desc := "(I)V" } : Jvm.MethodName) prog_58_method_6_code (2 : Nat) (Option.none : Option Jvm.ClassFile.FieldType)) ∈ lw_all := lw_g (lw_at lw_m1 202 rfl) rfl
theorem q309 : (Jvm.Cond.methodLink "java/util/HashMap" (93 : Nat) ({ cls := "java/util/HashMap", name := "<init>", desc := "(IF)V" } : Jvm.MethodName)) ∈ lw_all := lw_g (lw_at lw_m1 203 rfl) rfl
theorem q310 : (Jvm.Cond.instanceMethod ({ cls := "java/util/HashMap", name := "<init>", desc := "(IF)V" } : Jvm.MethodName)) ∈ lw_all := lw_g (lw_at lw_m1 204 rfl) rfl
theorem q311 : (Jvm.Cond.code ({ cls := "java/util/HashMap", name := "<init>", desc := "(IF)V" } : Jvm.MethodName) prog_58_method_5_code (3 : Nat) (Option.none : Option Jvm.ClassFile.FieldType)) ∈ lw_all := lw_g (lw_at lw_m1 205 rfl) rfl
theorem q312 : (Jvm.Cond.constant "java/util/HashMap" (42 : Nat) (1073741824 : Int32)) ∈ lw_all := lw_g (lw_at lw_m1 206 rfl) rfl
theorem q313 : (Jvm.Cond.methodLink "java/util/HashMap" (70 : Nat) ({ cls := "java/lang/Float", name := "isNaN", desc := "(F)Z" } : Jvm.MethodName)) ∈ lw_all := lw_g (lw_at lw_m1 207 rfl) rfl
theorem q316 : (Jvm.Cond.methodLink "java/util/HashMap" (85 : Nat) ({ cls := "java/util/HashMap", name := "tableSizeFor", desc := "(I)I" } : Jvm.MethodName)) ∈ lw_all := lw_g (lw_at lw_m1 210 rfl) rfl
theorem q317 : (Jvm.Cond.static ({ cls := "java/util/HashMap", name := "tableSizeFor", desc := "(I)I" } : Jvm.MethodName)) ∈ lw_all := lw_g (lw_at lw_m1 211 rfl) rfl
theorem q318 : (Jvm.Cond.code ({ cls := "java/util/HashMap", name := "tableSizeFor", desc := "(I)I" } : Jvm.MethodName) prog_58_method_4_code (2 : Nat) (Option.some Jvm.ClassFile.FieldType.int)) ∈ lw_all := lw_g (lw_at lw_m1 212 rfl) rfl
theorem q319 : (Jvm.Cond.methodLink "java/util/HashMap" (34 : Nat) ({ cls := "java/lang/Integer", name := "numberOfLeadingZeros", desc := "(I)I" } : Jvm.MethodName)) ∈ lw_all := lw_g (lw_at lw_m1 213 rfl) rfl
theorem q404 : (Jvm.Cond.instanceMethod ({ cls := "java/util/HashMap", name := "clear", desc := "()V" } : Jvm.MethodName)) ∈ lw_all := lw_g (lw_at lw_m2 58 rfl) rfl
theorem q405 : (Jvm.Cond.selects "java/util/HashMap" ({ cls := "java/util/HashMap", name := "clear", desc := "()V" } : Jvm.MethodName) ({ cls := "java/util/HashMap", name := "clear", desc := "()V" } : Jvm.MethodName)) ∈ lw_all := lw_g (lw_at lw_m2 59 rfl) rfl
theorem q406 : (Jvm.Cond.sameMethod "java/util/HashMap" "java/util/HashMap" "clear" "()V") ∈ lw_all := lw_g (lw_at lw_m2 60 rfl) rfl
theorem q411 : (Jvm.Cond.code ({ cls := "java/util/HashMap", name := "clear", desc := "()V" } : Jvm.MethodName) prog_58_method_22_code (3 : Nat) (Option.none : Option Jvm.ClassFile.FieldType)) ∈ lw_all := lw_g (lw_at lw_m2 65 rfl) rfl
theorem q628 : (Jvm.Cond.selects "java/util/HashMap" ({ cls := "java/lang/Object", name := "getClass", desc := "()Ljava/lang/Class;" } : Jvm.MethodName) ({ cls := "java/lang/Object", name := "getClass", desc := "()Ljava/lang/Class;" } : Jvm.MethodName)) ∈ lw_all := lw_g (lw_at lw_m3 42 rfl) rfl
theorem q839 : (Jvm.Cond.instanceMethod ({ cls := "java/util/HashMap", name := "keySet", desc := "()Ljava/util/Set;" } : Jvm.MethodName)) ∈ lw_all := lw_g (lw_at lw_m4 13 rfl) rfl
theorem q840 : (Jvm.Cond.selects "java/util/HashMap" ({ cls := "java/util/HashMap", name := "keySet", desc := "()Ljava/util/Set;" } : Jvm.MethodName) ({ cls := "java/util/HashMap", name := "keySet", desc := "()Ljava/util/Set;" } : Jvm.MethodName)) ∈ lw_all := lw_g (lw_at lw_m4 14 rfl) rfl
theorem q841 : (Jvm.Cond.sameMethod "java/util/HashMap" "java/util/HashMap" "keySet" "()Ljava/util/Set;") ∈ lw_all := lw_g (lw_at lw_m4 15 rfl) rfl
theorem q843 : (Jvm.Cond.code ({ cls := "java/util/HashMap", name := "keySet", desc := "()Ljava/util/Set;" } : Jvm.MethodName) prog_58_method_24_code (2 : Nat) (Option.some (Jvm.ClassFile.FieldType.object "java/util/Set"))) ∈ lw_all := lw_g (lw_at lw_m4 17 rfl) rfl
theorem q844 : (Jvm.Cond.classLink "java/util/HashMap" (243 : Nat) "java/util/HashMap$KeySet") ∈ lw_all := lw_g (lw_at lw_m4 18 rfl) rfl
theorem q846 : (Jvm.Cond.methodLink "java/util/HashMap" (245 : Nat) ({ cls := "java/util/HashMap$KeySet", name := "<init>", desc := "(Ljava/util/HashMap;)V" } : Jvm.MethodName)) ∈ lw_all := lw_g (lw_at lw_m4 20 rfl) rfl
theorem q898 : (Jvm.Cond.declares ({ cls := "java/util/HashMap", name := "getNode", desc := "(Ljava/lang/Object;)Ljava/util/HashMap$Node;" } : Jvm.MethodName)) ∈ lw_tbl := lw_at lw_m4 72 rfl
theorem q900 : (Jvm.Cond.instanceMethod ({ cls := "java/util/HashMap", name := "getNode", desc := "(Ljava/lang/Object;)Ljava/util/HashMap$Node;" } : Jvm.MethodName)) ∈ lw_all := lw_g (lw_at lw_m4 74 rfl) rfl
theorem q901 : (Jvm.Cond.code ({ cls := "java/util/HashMap", name := "getNode", desc := "(Ljava/lang/Object;)Ljava/util/HashMap$Node;" } : Jvm.MethodName) prog_58_method_13_code (8 : Nat) (Option.some (Jvm.ClassFile.FieldType.object "java/util/HashMap$Node"))) ∈ lw_all := lw_g (lw_at lw_m4 75 rfl) rfl
theorem q902 : (Jvm.Cond.methodLink "java/util/HashMap" (149 : Nat) ({ cls := "java/util/HashMap", name := "hash", desc := "(Ljava/lang/Object;)I" } : Jvm.MethodName)) ∈ lw_all := lw_g (lw_at lw_m4 76 rfl) rfl
theorem q903 : (Jvm.Cond.static ({ cls := "java/util/HashMap", name := "hash", desc := "(Ljava/lang/Object;)I" } : Jvm.MethodName)) ∈ lw_all := lw_g (lw_at lw_m4 77 rfl) rfl
theorem q904 : (Jvm.Cond.code ({ cls := "java/util/HashMap", name := "hash", desc := "(Ljava/lang/Object;)I" } : Jvm.MethodName) prog_58_method_1_code (2 : Nat) (Option.some Jvm.ClassFile.FieldType.int)) ∈ lw_all := lw_g (lw_at lw_m4 78 rfl) rfl
theorem q906 : (Jvm.Cond.methodLink "java/util/HashMap" (1 : Nat) ({ cls := "java/lang/Object", name := "hashCode", desc := "()I" } : Jvm.MethodName)) ∈ lw_all := lw_g (lw_at lw_m4 80 rfl) rfl
theorem q1012 : (Jvm.Cond.methodLink "java/util/HashMap" (173 : Nat) ({ cls := "java/lang/Object", name := "equals", desc := "(Ljava/lang/Object;)Z" } : Jvm.MethodName)) ∈ lw_all := lw_g (lw_at lw_m4 186 rfl) rfl
theorem q1067 : (Jvm.Cond.classLink "java/util/HashMap" (180 : Nat) "java/util/HashMap$TreeNode") ∈ lw_all := lw_g (lw_at lw_m5 1 rfl) rfl
theorem q1068 : (Jvm.Cond.methodLink "java/util/HashMap" (182 : Nat) ({ cls := "java/util/HashMap$TreeNode", name := "getTreeNode", desc := "(ILjava/lang/Object;)Ljava/util/HashMap$TreeNode;" } : Jvm.MethodName)) ∈ lw_all := lw_g (lw_at lw_m5 2 rfl) rfl
theorem q1082 : (Jvm.Cond.static ({ cls := "java/util/HashMap", name := "comparableClassFor", desc := "(Ljava/lang/Object;)Ljava/lang/Class;" } : Jvm.MethodName)) ∈ lw_all := lw_g (lw_at lw_m5 16 rfl) rfl
theorem q1083 : (Jvm.Cond.code ({ cls := "java/util/HashMap", name := "comparableClassFor", desc := "(Ljava/lang/Object;)Ljava/lang/Class;" } : Jvm.MethodName) prog_58_method_2_code (9 : Nat) (Option.some (Jvm.ClassFile.FieldType.object "java/lang/Class"))) ∈ lw_all := lw_g (lw_at lw_m5 17 rfl) rfl
theorem q1084 : (Jvm.Cond.classLink "java/util/HashMap" (7 : Nat) "java/lang/Comparable") ∈ lw_all := lw_g (lw_at lw_m5 18 rfl) rfl
theorem q1085 : (Jvm.Cond.methodLink "java/util/HashMap" (9 : Nat) ({ cls := "java/lang/Object", name := "getClass", desc := "()Ljava/lang/Class;" } : Jvm.MethodName)) ∈ lw_all := lw_g (lw_at lw_m5 19 rfl) rfl
theorem q1086 : (Jvm.Cond.classLink "java/util/HashMap" (13 : Nat) "java/lang/String") ∈ lw_all := lw_g (lw_at lw_m5 20 rfl) rfl
theorem q1088 : (Jvm.Cond.static ({ cls := "java/util/HashMap", name := "compareComparables", desc := "(Ljava/lang/Class;Ljava/lang/Object;Ljava/lang/Object;)I" } : Jvm.MethodName)) ∈ lw_all := lw_g (lw_at lw_m5 22 rfl) rfl
theorem q1089 : (Jvm.Cond.code ({ cls := "java/util/HashMap", name := "compareComparables", desc := "(Ljava/lang/Class;Ljava/lang/Object;Ljava/lang/Object;)I" } : Jvm.MethodName) prog_58_method_3_code (3 : Nat) (Option.some Jvm.ClassFile.FieldType.int)) ∈ lw_all := lw_g (lw_at lw_m5 23 rfl) rfl
theorem q1090 : (Jvm.Cond.interfaceEntry "java/util/HashMap" (30 : Nat)) ∈ lw_tbl := lw_at lw_m5 24 rfl
theorem q1091 : (Jvm.Cond.methodLink "java/util/HashMap" (30 : Nat) ({ cls := "java/lang/Comparable", name := "compareTo", desc := "(Ljava/lang/Object;)I" } : Jvm.MethodName)) ∈ lw_all := lw_g (lw_at lw_m5 25 rfl) rfl
theorem q1390 : (Jvm.Cond.instanceMethod ({ cls := "java/util/HashMap", name := "containsKey", desc := "(Ljava/lang/Object;)Z" } : Jvm.MethodName)) ∈ lw_all := lw_g (lw_at lw_m6 84 rfl) rfl
theorem q1391 : (Jvm.Cond.selects "java/util/HashMap" ({ cls := "java/util/HashMap", name := "containsKey", desc := "(Ljava/lang/Object;)Z" } : Jvm.MethodName) ({ cls := "java/util/HashMap", name := "containsKey", desc := "(Ljava/lang/Object;)Z" } : Jvm.MethodName)) ∈ lw_all := lw_g (lw_at lw_m6 85 rfl) rfl
theorem q1392 : (Jvm.Cond.sameMethod "java/util/HashMap" "java/util/HashMap" "containsKey" "(Ljava/lang/Object;)Z") ∈ lw_all := lw_g (lw_at lw_m6 86 rfl) rfl
theorem q1394 : (Jvm.Cond.code ({ cls := "java/util/HashMap", name := "containsKey", desc := "(Ljava/lang/Object;)Z" } : Jvm.MethodName) prog_58_method_14_code (2 : Nat) (Option.some Jvm.ClassFile.FieldType.boolean)) ∈ lw_all := lw_g (lw_at lw_m6 88 rfl) rfl
theorem q1395 : (Jvm.Cond.methodLink "java/util/HashMap" (158 : Nat) ({ cls := "java/util/HashMap", name := "getNode", desc := "(Ljava/lang/Object;)Ljava/util/HashMap$Node;" } : Jvm.MethodName)) ∈ lw_all := lw_g (lw_at lw_m6 89 rfl) rfl
theorem q1397 : (Jvm.Cond.instanceMethod ({ cls := "java/util/HashMap", name := "get", desc := "(Ljava/lang/Object;)Ljava/lang/Object;" } : Jvm.MethodName)) ∈ lw_all := lw_g (lw_at lw_m6 91 rfl) rfl
theorem q1398 : (Jvm.Cond.selects "java/util/HashMap" ({ cls := "java/util/HashMap", name := "get", desc := "(Ljava/lang/Object;)Ljava/lang/Object;" } : Jvm.MethodName) ({ cls := "java/util/HashMap", name := "get", desc := "(Ljava/lang/Object;)Ljava/lang/Object;" } : Jvm.MethodName)) ∈ lw_all := lw_g (lw_at lw_m6 92 rfl) rfl
theorem q1399 : (Jvm.Cond.sameMethod "java/util/HashMap" "java/util/HashMap" "get" "(Ljava/lang/Object;)Ljava/lang/Object;") ∈ lw_all := lw_g (lw_at lw_m6 93 rfl) rfl
theorem q1401 : (Jvm.Cond.code ({ cls := "java/util/HashMap", name := "get", desc := "(Ljava/lang/Object;)Ljava/lang/Object;" } : Jvm.MethodName) prog_58_method_12_code (3 : Nat) (Option.some (Jvm.ClassFile.FieldType.object "java/lang/Object"))) ∈ lw_all := lw_g (lw_at lw_m6 95 rfl) rfl
theorem q1856 : (Jvm.Cond.instanceMethod ({ cls := "java/util/HashMap", name := "put", desc := "(Ljava/lang/Object;Ljava/lang/Object;)Ljava/lang/Object;" } : Jvm.MethodName)) ∈ lw_all := lw_g (lw_at lw_m8 70 rfl) rfl
theorem q1857 : (Jvm.Cond.selects "java/util/HashMap" ({ cls := "java/util/HashMap", name := "put", desc := "(Ljava/lang/Object;Ljava/lang/Object;)Ljava/lang/Object;" } : Jvm.MethodName) ({ cls := "java/util/HashMap", name := "put", desc := "(Ljava/lang/Object;Ljava/lang/Object;)Ljava/lang/Object;" } : Jvm.MethodName)) ∈ lw_all := lw_g (lw_at lw_m8 71 rfl) rfl
theorem q1858 : (Jvm.Cond.sameMethod "java/util/HashMap" "java/util/HashMap" "put" "(Ljava/lang/Object;Ljava/lang/Object;)Ljava/lang/Object;") ∈ lw_all := lw_g (lw_at lw_m8 72 rfl) rfl
theorem q1860 : (Jvm.Cond.code ({ cls := "java/util/HashMap", name := "put", desc := "(Ljava/lang/Object;Ljava/lang/Object;)Ljava/lang/Object;" } : Jvm.MethodName) prog_58_method_15_code (3 : Nat) (Option.some (Jvm.ClassFile.FieldType.object "java/lang/Object"))) ∈ lw_all := lw_g (lw_at lw_m8 74 rfl) rfl
theorem q1861 : (Jvm.Cond.methodLink "java/util/HashMap" (152 : Nat) ({ cls := "java/util/HashMap", name := "putVal", desc := "(ILjava/lang/Object;Ljava/lang/Object;ZZ)Ljava/lang/Object;" } : Jvm.MethodName)) ∈ lw_all := lw_g (lw_at lw_m8 75 rfl) rfl
theorem q1862 : (Jvm.Cond.instanceMethod ({ cls := "java/util/HashMap", name := "putVal", desc := "(ILjava/lang/Object;Ljava/lang/Object;ZZ)Ljava/lang/Object;" } : Jvm.MethodName)) ∈ lw_all := lw_g (lw_at lw_m8 76 rfl) rfl
theorem q1863 : (Jvm.Cond.selects "java/util/HashMap" ({ cls := "java/util/HashMap", name := "putVal", desc := "(ILjava/lang/Object;Ljava/lang/Object;ZZ)Ljava/lang/Object;" } : Jvm.MethodName) ({ cls := "java/util/HashMap", name := "putVal", desc := "(ILjava/lang/Object;Ljava/lang/Object;ZZ)Ljava/lang/Object;" } : Jvm.MethodName)) ∈ lw_all := lw_g (lw_at lw_m8 77 rfl) rfl
theorem q1864 : (Jvm.Cond.sameMethod "java/util/HashMap" "java/util/HashMap" "putVal" "(ILjava/lang/Object;Ljava/lang/Object;ZZ)Ljava/lang/Object;") ∈ lw_all := lw_g (lw_at lw_m8 78 rfl) rfl
theorem q1866 : (Jvm.Cond.code ({ cls := "java/util/HashMap", name := "putVal", desc := "(ILjava/lang/Object;Ljava/lang/Object;ZZ)Ljava/lang/Object;" } : Jvm.MethodName) prog_58_method_16_code (13 : Nat) (Option.some (Jvm.ClassFile.FieldType.object "java/lang/Object"))) ∈ lw_all := lw_g (lw_at lw_m8 80 rfl) rfl
theorem q1867 : (Jvm.Cond.methodLink "java/util/HashMap" (117 : Nat) ({ cls := "java/util/HashMap", name := "resize", desc := "()[Ljava/util/HashMap$Node;" } : Jvm.MethodName)) ∈ lw_all := lw_g (lw_at lw_m8 81 rfl) rfl
theorem q1868 : (Jvm.Cond.instanceMethod ({ cls := "java/util/HashMap", name := "resize", desc := "()[Ljava/util/HashMap$Node;" } : Jvm.MethodName)) ∈ lw_all := lw_g (lw_at lw_m8 82 rfl) rfl
theorem q1869 : (Jvm.Cond.selects "java/util/HashMap" ({ cls := "java/util/HashMap", name := "resize", desc := "()[Ljava/util/HashMap$Node;" } : Jvm.MethodName) ({ cls := "java/util/HashMap", name := "resize", desc := "()[Ljava/util/HashMap$Node;" } : Jvm.MethodName)) ∈ lw_all := lw_g (lw_at lw_m8 83 rfl) rfl
theorem q1870 : (Jvm.Cond.sameMethod "java/util/HashMap" "java/util/HashMap" "resize" "()[Ljava/util/HashMap$Node;") ∈ lw_all := lw_g (lw_at lw_m8 84 rfl) rfl
theorem q1872 : (Jvm.Cond.code ({ cls := "java/util/HashMap", name := "resize", desc := "()[Ljava/util/HashMap$Node;" } : Jvm.MethodName) prog_58_method_17_code (14 : Nat) (Option.some (Jvm.ClassFile.FieldType.array (Jvm.ClassFile.FieldType.object "java/util/HashMap$Node")))) ∈ lw_all := lw_g (lw_at lw_m8 86 rfl) rfl
theorem q1873 : (Jvm.Cond.constant "java/util/HashMap" (209 : Nat) (2147483647 : Int32)) ∈ lw_all := lw_g (lw_at lw_m8 87 rfl) rfl
theorem q1874 : (Jvm.Cond.constantFloat "java/util/HashMap" (210 : Nat) (1317011456 : UInt32)) ∈ lw_all := lw_g (lw_at lw_m8 88 rfl) rfl
theorem q1875 : (Jvm.Cond.classLink "java/util/HashMap" (163 : Nat) "java/util/HashMap$Node") ∈ lw_all := lw_g (lw_at lw_m8 89 rfl) rfl
theorem q1877 : (Jvm.Cond.methodLink "java/util/HashMap" (211 : Nat) ({ cls := "java/util/HashMap$TreeNode", name := "split", desc := "(Ljava/util/HashMap;[Ljava/util/HashMap$Node;II)V" } : Jvm.MethodName)) ∈ lw_all := lw_g (lw_at lw_m8 91 rfl) rfl
theorem q1887 : (Jvm.Cond.instanceMethod ({ cls := "java/util/HashMap", name := "replacementNode", desc := "(Ljava/util/HashMap$Node;Ljava/util/HashMap$Node;)Ljava/util/HashMap$Node;" } : Jvm.MethodName)) ∈ lw_all := lw_g (lw_at lw_m8 101 rfl) rfl
theorem q1888 : (Jvm.Cond.selects "java/util/HashMap" ({ cls := "java/util/HashMap", name := "replacementNode", desc := "(Ljava/util/HashMap$Node;Ljava/util/HashMap$Node;)Ljava/util/HashMap$Node;" } : Jvm.MethodName) ({ cls := "java/util/HashMap", name := "replacementNode", desc := "(Ljava/util/HashMap$Node;Ljava/util/HashMap$Node;)Ljava/util/HashMap$Node;" } : Jvm.MethodName)) ∈ lw_all := lw_g (lw_at lw_m8 102 rfl) rfl
theorem q1889 : (Jvm.Cond.sameMethod "java/util/HashMap" "java/util/HashMap" "replacementNode" "(Ljava/util/HashMap$Node;Ljava/util/HashMap$Node;)Ljava/util/HashMap$Node;") ∈ lw_all := lw_g (lw_at lw_m8 103 rfl) rfl
theorem q1910 : (Jvm.Cond.fieldLink "java/util/HashMap" (168 : Nat) "java/util/HashMap$Node" "hash" "I") ∈ lw_all := lw_g (lw_at lw_m8 124 rfl) rfl
theorem q1917 : (Jvm.Cond.fieldLink "java/util/HashMap" (170 : Nat) "java/util/HashMap$Node" "key" "Ljava/lang/Object;") ∈ lw_all := lw_g (lw_at lw_m8 131 rfl) rfl
theorem q1921 : (Jvm.Cond.fieldLink "java/util/HashMap" (162 : Nat) "java/util/HashMap$Node" "value" "Ljava/lang/Object;") ∈ lw_all := lw_g (lw_at lw_m8 135 rfl) rfl
theorem q1928 : (Jvm.Cond.fieldLink "java/util/HashMap" (177 : Nat) "java/util/HashMap$Node" "next" "Ljava/util/HashMap$Node;") ∈ lw_all := lw_g (lw_at lw_m8 142 rfl) rfl
theorem q1929 : (Jvm.Cond.fieldLink "java/util/HashMap" (223 : Nat) "java/util/HashMap$TreeNode" "next" "Ljava/util/HashMap$Node;") ∈ lw_all := lw_g (lw_at lw_m8 143 rfl) rfl
theorem q1947 : (Jvm.Cond.code ({ cls := "java/util/HashMap", name := "replacementNode", desc := "(Ljava/util/HashMap$Node;Ljava/util/HashMap$Node;)Ljava/util/HashMap$Node;" } : Jvm.MethodName) prog_58_method_47_code (3 : Nat) (Option.some (Jvm.ClassFile.FieldType.object "java/util/HashMap$Node"))) ∈ lw_all := lw_g (lw_at lw_m8 161 rfl) rfl
theorem q1949 : (Jvm.Cond.methodLink "java/util/HashMap" (375 : Nat) ({ cls := "java/util/HashMap$Node", name := "<init>", desc := "(ILjava/lang/Object;Ljava/lang/Object;Ljava/util/HashMap$Node;)V" } : Jvm.MethodName)) ∈ lw_all := lw_g (lw_at lw_m8 163 rfl) rfl
theorem q1973 : (Jvm.Cond.methodLink "java/util/HashMap" (186 : Nat) ({ cls := "java/util/HashMap", name := "newNode", desc := "(ILjava/lang/Object;Ljava/lang/Object;Ljava/util/HashMap$Node;)Ljava/util/HashMap$Node;" } : Jvm.MethodName)) ∈ lw_all := lw_g (lw_at lw_m8 187 rfl) rfl
theorem q1974 : (Jvm.Cond.instanceMethod ({ cls := "java/util/HashMap", name := "newNode", desc := "(ILjava/lang/Object;Ljava/lang/Object;Ljava/util/HashMap$Node;)Ljava/util/HashMap$Node;" } : Jvm.MethodName)) ∈ lw_all := lw_g (lw_at lw_m8 188 rfl) rfl
theorem q1975 : (Jvm.Cond.selects "java/util/HashMap" ({ cls := "java/util/HashMap", name := "newNode", desc := "(ILjava/lang/Object;Ljava/lang/Object;Ljava/util/HashMap$Node;)Ljava/util/HashMap$Node;" } : Jvm.MethodName) ({ cls := "java/util/HashMap", name := "newNode", desc := "(ILjava/lang/Object;Ljava/lang/Object;Ljava/util/HashMap$Node;)Ljava/util/HashMap$Node;" } : Jvm.MethodName)) ∈ lw_all := lw_g (lw_at lw_m8 189 rfl) rfl
theorem q1976 : (Jvm.Cond.sameMethod "java/util/HashMap" "java/util/HashMap" "newNode" "(ILjava/lang/Object;Ljava/lang/Object;Ljava/util/HashMap$Node;)Ljava/util/HashMap$Node;") ∈ lw_all := lw_g (lw_at lw_m8 190 rfl) rfl
theorem q1984 : (Jvm.Cond.code ({ cls := "java/util/HashMap", name := "newNode", desc := "(ILjava/lang/Object;Ljava/lang/Object;Ljava/util/HashMap$Node;)Ljava/util/HashMap$Node;" } : Jvm.MethodName) prog_58_method_46_code (5 : Nat) (Option.some (Jvm.ClassFile.FieldType.object "java/util/HashMap$Node"))) ∈ lw_all := lw_g (lw_at lw_m8 198 rfl) rfl
theorem q1985 : (Jvm.Cond.methodLink "java/util/HashMap" (190 : Nat) ({ cls := "java/util/HashMap$TreeNode", name := "putTreeVal", desc := "(Ljava/util/HashMap;[Ljava/util/HashMap$Node;ILjava/lang/Object;Ljava/lang/Object;)Ljava/util/HashMap$TreeNode;" } : Jvm.MethodName)) ∈ lw_all := lw_g (lw_at lw_m8 199 rfl) rfl
theorem q1990 : (Jvm.Cond.instanceMethod ({ cls := "java/util/HashMap", name := "newTreeNode", desc := "(ILjava/lang/Object;Ljava/lang/Object;Ljava/util/HashMap$Node;)Ljava/util/HashMap$TreeNode;" } : Jvm.MethodName)) ∈ lw_all := lw_g (lw_at lw_m8 204 rfl) rfl
theorem q1991 : (Jvm.Cond.selects "java/util/HashMap" ({ cls := "java/util/HashMap", name := "newTreeNode", desc := "(ILjava/lang/Object;Ljava/lang/Object;Ljava/util/HashMap$Node;)Ljava/util/HashMap$TreeNode;" } : Jvm.MethodName) ({ cls := "java/util/HashMap", name := "newTreeNode", desc := "(ILjava/lang/Object;Ljava/lang/Object;Ljava/util/HashMap$Node;)Ljava/util/HashMap$TreeNode;" } : Jvm.MethodName)) ∈ lw_all := lw_g (lw_at lw_m8 205 rfl) rfl
theorem q1992 : (Jvm.Cond.sameMethod "java/util/HashMap" "java/util/HashMap" "newTreeNode" "(ILjava/lang/Object;Ljava/lang/Object;Ljava/util/HashMap$Node;)Ljava/util/HashMap$TreeNode;") ∈ lw_all := lw_g (lw_at lw_m8 206 rfl) rfl
theorem q2006 : (Jvm.Cond.fieldLink "java/util/HashMap" (219 : Nat) "java/util/HashMap$TreeNode" "prev" "Ljava/util/HashMap$TreeNode;") ∈ lw_all := lw_g (lw_at lw_m8 220 rfl) rfl
theorem q2025 : (Jvm.Cond.code ({ cls := "java/util/HashMap", name := "newTreeNode", desc := "(ILjava/lang/Object;Ljava/lang/Object;Ljava/util/HashMap$Node;)Ljava/util/HashMap$TreeNode;" } : Jvm.MethodName) prog_58_method_48_code (5 : Nat) (Option.some (Jvm.ClassFile.FieldType.object "java/util/HashMap$TreeNode"))) ∈ lw_all := lw_g (lw_at lw_m8 239 rfl) rfl
theorem q2026 : (Jvm.Cond.methodLink "java/util/HashMap" (378 : Nat) ({ cls := "java/util/HashMap$TreeNode", name := "<init>", desc := "(ILjava/lang/Object;Ljava/lang/Object;Ljava/util/HashMap$Node;)V" } : Jvm.MethodName)) ∈ lw_all := lw_g (lw_at lw_m9 0 rfl) rfl
theorem q2027 : (Jvm.Cond.methodLink "java/util/HashMap" (194 : Nat) ({ cls := "java/util/HashMap", name := "treeifyBin", desc := "([Ljava/util/HashMap$Node;I)V" } : Jvm.MethodName)) ∈ lw_all := lw_g (lw_at lw_m9 1 rfl) rfl
theorem q2028 : (Jvm.Cond.instanceMethod ({ cls := "java/util/HashMap", name := "treeifyBin", desc := "([Ljava/util/HashMap$Node;I)V" } : Jvm.MethodName)) ∈ lw_all := lw_g (lw_at lw_m9 2 rfl) rfl
theorem q2029 : (Jvm.Cond.selects "java/util/HashMap" ({ cls := "java/util/HashMap", name := "treeifyBin", desc := "([Ljava/util/HashMap$Node;I)V" } : Jvm.MethodName) ({ cls := "java/util/HashMap", name := "treeifyBin", desc := "([Ljava/util/HashMap$Node;I)V" } : Jvm.MethodName)) ∈ lw_all := lw_g (lw_at lw_m9 3 rfl) rfl
theorem q2030 : (Jvm.Cond.sameMethod "java/util/HashMap" "java/util/HashMap" "treeifyBin" "([Ljava/util/HashMap$Node;I)V") ∈ lw_all := lw_g (lw_at lw_m9 4 rfl) rfl
theorem q2032 : (Jvm.Cond.code ({ cls := "java/util/HashMap", name := "treeifyBin", desc := "([Ljava/util/HashMap$Node;I)V" } : Jvm.MethodName) prog_58_method_18_code (9 : Nat) (Option.none : Option Jvm.ClassFile.FieldType)) ∈ lw_all := lw_g (lw_at lw_m9 6 rfl) rfl
theorem q2033 : (Jvm.Cond.methodLink "java/util/HashMap" (215 : Nat) ({ cls := "java/util/HashMap", name := "replacementTreeNode", desc := "(Ljava/util/HashMap$Node;Ljava/util/HashMap$Node;)Ljava/util/HashMap$TreeNode;" } : Jvm.MethodName)) ∈ lw_all := lw_g (lw_at lw_m9 7 rfl) rfl
theorem q2034 : (Jvm.Cond.instanceMethod ({ cls := "java/util/HashMap", name := "replacementTreeNode", desc := "(Ljava/util/HashMap$Node;Ljava/util/HashMap$Node;)Ljava/util/HashMap$TreeNode;" } : Jvm.MethodName)) ∈ lw_all := lw_g (lw_at lw_m9 8 rfl) rfl
theorem q2035 : (Jvm.Cond.selects "java/util/HashMap" ({ cls := "java/util/HashMap", name := "replacementTreeNode", desc := "(Ljava/util/HashMap$Node;Ljava/util/HashMap$Node;)Ljava/util/HashMap$TreeNode;" } : Jvm.MethodName) ({ cls := "java/util/HashMap", name := "replacementTreeNode", desc := "(Ljava/util/HashMap$Node;Ljava/util/HashMap$Node;)Ljava/util/HashMap$TreeNode;" } : Jvm.MethodName)) ∈ lw_all := lw_g (lw_at lw_m9 9 rfl) rfl
theorem q2036 : (Jvm.Cond.sameMethod "java/util/HashMap" "java/util/HashMap" "replacementTreeNode" "(Ljava/util/HashMap$Node;Ljava/util/HashMap$Node;)Ljava/util/HashMap$TreeNode;") ∈ lw_all := lw_g (lw_at lw_m9 10 rfl) rfl
theorem q2040 : (Jvm.Cond.code ({ cls := "java/util/HashMap", name := "replacementTreeNode", desc := "(Ljava/util/HashMap$Node;Ljava/util/HashMap$Node;)Ljava/util/HashMap$TreeNode;" } : Jvm.MethodName) prog_58_method_49_code (3 : Nat) (Option.some (Jvm.ClassFile.FieldType.object "java/util/HashMap$TreeNode"))) ∈ lw_all := lw_g (lw_at lw_m9 14 rfl) rfl
theorem q2041 : (Jvm.Cond.methodLink "java/util/HashMap" (224 : Nat) ({ cls := "java/util/HashMap$TreeNode", name := "treeify", desc := "([Ljava/util/HashMap$Node;)V" } : Jvm.MethodName)) ∈ lw_all := lw_g (lw_at lw_m9 15 rfl) rfl
theorem q2042 : (Jvm.Cond.methodLink "java/util/HashMap" (198 : Nat) ({ cls := "java/util/HashMap", name := "afterNodeAccess", desc := "(Ljava/util/HashMap$Node;)V" } : Jvm.MethodName)) ∈ lw_all := lw_g (lw_at lw_m9 16 rfl) rfl
theorem q2043 : (Jvm.Cond.instanceMethod ({ cls := "java/util/HashMap", name := "afterNodeAccess", desc := "(Ljava/util/HashMap$Node;)V" } : Jvm.MethodName)) ∈ lw_all := lw_g (lw_at lw_m9 17 rfl) rfl
theorem q2044 : (Jvm.Cond.selects "java/util/HashMap" ({ cls := "java/util/HashMap", name := "afterNodeAccess", desc := "(Ljava/util/HashMap$Node;)V" } : Jvm.MethodName) ({ cls := "java/util/HashMap", name := "afterNodeAccess", desc := "(Ljava/util/HashMap$Node;)V" } : Jvm.MethodName)) ∈ lw_all := lw_g (lw_at lw_m9 18 rfl) rfl
theorem q2045 : (Jvm.Cond.sameMethod "java/util/HashMap" "java/util/HashMap" "afterNodeAccess" "(Ljava/util/HashMap$Node;)V") ∈ lw_all := lw_g (lw_at lw_m9 19 rfl) rfl
theorem q2047 : (Jvm.Cond.code ({ cls := "java/util/HashMap", name := "afterNodeAccess", desc := "(Ljava/util/HashMap$Node;)V" } : Jvm.MethodName) prog_58_method_51_code (2 : Nat) (Option.none : Option Jvm.ClassFile.FieldType)) ∈ lw_all := lw_g (lw_at lw_m9 21 rfl) rfl
theorem q2048 : (Jvm.Cond.methodLink "java/util/HashMap" (205 : Nat) ({ cls := "java/util/HashMap", name := "afterNodeInsertion", desc := "(Z)V" } : Jvm.MethodName)) ∈ lw_all := lw_g (lw_at lw_m9 22 rfl) rfl
theorem q2049 : (Jvm.Cond.instanceMethod ({ cls := "java/util/HashMap", name := "afterNodeInsertion", desc := "(Z)V" } : Jvm.MethodName)) ∈ lw_all := lw_g (lw_at lw_m9 23 rfl) rfl
theorem q2050 : (Jvm.Cond.selects "java/util/HashMap" ({ cls := "java/util/HashMap", name := "afterNodeInsertion", desc := "(Z)V" } : Jvm.MethodName) ({ cls := "java/util/HashMap", name := "afterNodeInsertion", desc := "(Z)V" } : Jvm.MethodName)) ∈ lw_all := lw_g (lw_at lw_m9 24 rfl) rfl
theorem q2051 : (Jvm.Cond.sameMethod "java/util/HashMap" "java/util/HashMap" "afterNodeInsertion" "(Z)V") ∈ lw_all := lw_g (lw_at lw_m9 25 rfl) rfl
theorem q2059 : (Jvm.Cond.code ({ cls := "java/util/HashMap", name := "afterNodeInsertion", desc := "(Z)V" } : Jvm.MethodName) prog_58_method_52_code (2 : Nat) (Option.none : Option Jvm.ClassFile.FieldType)) ∈ lw_all := lw_g (lw_at lw_m9 33 rfl) rfl
theorem q2246 : (Jvm.Cond.declares ({ cls := "java/util/HashMap", name := "containsKey", desc := "(Ljava/lang/Object;)Z" } : Jvm.MethodName)) ∈ lw_tbl := lw_at lw_m9 220 rfl
theorem q2251 : (Jvm.Cond.declares ({ cls := "java/util/HashMap", name := "put", desc := "(Ljava/lang/Object;Ljava/lang/Object;)Ljava/lang/Object;" } : Jvm.MethodName)) ∈ lw_tbl := lw_at lw_m9 225 rfl
theorem q2392 : (Jvm.Cond.declares ({ cls := "java/util/HashMap", name := "size", desc := "()I" } : Jvm.MethodName)) ∈ lw_tbl := lw_at lw_m10 126 rfl
theorem q2394 : (Jvm.Cond.instanceMethod ({ cls := "java/util/HashMap", name := "size", desc := "()I" } : Jvm.MethodName)) ∈ lw_all := lw_g (lw_at lw_m10 128 rfl) rfl
theorem q2395 : (Jvm.Cond.code ({ cls := "java/util/HashMap", name := "size", desc := "()I" } : Jvm.MethodName) prog_58_method_10_code (1 : Nat) (Option.some Jvm.ClassFile.FieldType.int)) ∈ lw_all := lw_g (lw_at lw_m10 129 rfl) rfl
theorem q3545 : (Jvm.Cond.sameMethod "java/util/HashMap" "java/util/HashMap" "getNode" "(Ljava/lang/Object;)Ljava/util/HashMap$Node;") ∈ lw_all := lw_g (lw_at lw_m15 79 rfl) rfl
theorem q3546 : (Jvm.Cond.selects "java/util/HashMap" ({ cls := "java/util/HashMap", name := "getNode", desc := "(Ljava/lang/Object;)Ljava/util/HashMap$Node;" } : Jvm.MethodName) ({ cls := "java/util/HashMap", name := "getNode", desc := "(Ljava/lang/Object;)Ljava/util/HashMap$Node;" } : Jvm.MethodName)) ∈ lw_all := lw_g (lw_at lw_m15 80 rfl) rfl
theorem q3587 : (Jvm.Cond.castable "java/util/HashMap" "java/lang/Object") ∈ lw_tbl := lw_at lw_m15 121 rfl
theorem in_J4 : ∀ w ∈ wsJ40, w ∈ lw_all := lw_in wsJ40 [252, 254, 240, 242, 244, 246, 248, 250] (by decide +kernel) (by decide +kernel)
/-! java/util/AbstractSet -/
set_option maxRecDepth 100000
def RJ5 : String := "java/util/AbstractSet"
abbrev cJ5_init : ByteArray := prog_53_method_1_code
def yJ5_init : MethodName := ⟨RJ5, "<init>", "()V"⟩
theorem dJ5_init_0 : decode cJ5_init 0 = .ok (.aload_n 0, 1) := by decide +kernel
theorem dJ5_init_1 : decode cJ5_init 1 = .ok (.invokespecial 1, 3) := by decide +kernel
theorem dJ5_init_4 : decode cJ5_init 4 = .ok (.return_, 1) := by decide +kernel
theorem q115 : (Jvm.Cond.initialized "java/util/AbstractSet") ∈ lw_all := lw_g (lw_at lw_m1 9 rfl) rfl
theorem q302 : (Jvm.Cond.instanceMethod ({ cls := "java/util/AbstractSet", name := "<init>", desc := "()V" } : Jvm.MethodName)) ∈ lw_all := lw_g (lw_at lw_m1 196 rfl) rfl
theorem q303 : (Jvm.Cond.code ({ cls := "java/util/AbstractSet", name := "<init>", desc := "()V" } : Jvm.MethodName) prog_53_method_1_code (1 : Nat) (Option.none : Option Jvm.ClassFile.FieldType)) ∈ lw_all := lw_g (lw_at lw_m1 197 rfl) rfl
theorem q304 : (Jvm.Cond.methodLink "java/util/AbstractSet" (1 : Nat) ({ cls := "java/util/AbstractCollection", name := "<init>", desc := "()V" } : Jvm.MethodName)) ∈ lw_all := lw_g (lw_at lw_m1 198 rfl) rfl
/-! java/util/HashSet -/
set_option maxRecDepth 100000
def RJ6 : String := "java/util/HashSet"
def TJ6 : u_T := fun k => match k with
  | _ => ("java/util/HashSet", "map", "Ljava/util/HashMap;", false)
def tyJ6 : Nat → FieldType := fun k => match k with
  | _ => .object "java/util/HashMap"
abbrev wsJ60 : List Cond := u_ws RJ6 TJ6 1
theorem nmJ6 : ∀ a, a < 1 → ∀ b, b < 1 → a ≠ b → (TJ6 a).2.1 ≠ (TJ6 b).2.1 := by decide +kernel
theorem tyJ6_ok : ∀ k, k < 1 → parseFieldDescriptor (TJ6 k).2.2.1 = some (tyJ6 k) := by decide +kernel
abbrev cJ6_init : ByteArray := prog_64_method_4_code
def yJ6_init : MethodName := ⟨RJ6, "<init>", "(I)V"⟩
def dkwJ6_init_0 : List UInt8 := [42, 183, 0, 1, 42, 187, 0, 7, 89, 27, 183, 0, 39, 181, 0, 10, 177]
abbrev dktJ6_init_0 : List UInt8 := dkwJ6_init_0 ++ []
theorem dksJ6_init_0 : cJ6_init.data.toList.drop 0 = dktJ6_init_0 := by decide +kernel
theorem dJ6_init_0 : decode cJ6_init 0 = .ok (.aload_n 0, 1) := dk_42 (dk_at dksJ6_init_0 0 rfl rfl)
theorem dJ6_init_1 : decode cJ6_init 1 = .ok (.invokespecial 1, 3) := dk_183 0 1 (dk_at dksJ6_init_0 1 rfl rfl)
theorem dJ6_init_4 : decode cJ6_init 4 = .ok (.aload_n 0, 1) := dk_42 (dk_at dksJ6_init_0 4 rfl rfl)
theorem dJ6_init_5 : decode cJ6_init 5 = .ok (.new 7, 3) := dk_187 0 7 (dk_at dksJ6_init_0 5 rfl rfl)
theorem dJ6_init_8 : decode cJ6_init 8 = .ok (.dup, 1) := dk_89 (dk_at dksJ6_init_0 8 rfl rfl)
theorem dJ6_init_9 : decode cJ6_init 9 = .ok (.iload_n 1, 1) := dk_27 (dk_at dksJ6_init_0 9 rfl rfl)
theorem dJ6_init_10 : decode cJ6_init 10 = .ok (.invokespecial 39, 3) := dk_183 0 39 (dk_at dksJ6_init_0 10 rfl rfl)
theorem dJ6_init_13 : decode cJ6_init 13 = .ok (.putfield 10, 3) := dk_181 0 10 (dk_at dksJ6_init_0 13 rfl rfl)
theorem dJ6_init_16 : decode cJ6_init 16 = .ok (.return_, 1) := dk_177 (dk_at dksJ6_init_0 16 rfl rfl)
abbrev cJ6_clear : ByteArray := prog_64_method_12_code
def yJ6_clear : MethodName := ⟨RJ6, "clear", "()V"⟩
def dkwJ6_clear_0 : List UInt8 := [42, 180, 0, 10, 182, 0, 76, 177]
abbrev dktJ6_clear_0 : List UInt8 := dkwJ6_clear_0 ++ []
theorem dksJ6_clear_0 : cJ6_clear.data.toList.drop 0 = dktJ6_clear_0 := by decide +kernel
theorem dJ6_clear_0 : decode cJ6_clear 0 = .ok (.aload_n 0, 1) := dk_42 (dk_at dksJ6_clear_0 0 rfl rfl)
theorem dJ6_clear_1 : decode cJ6_clear 1 = .ok (.getfield 10, 3) := dk_180 0 10 (dk_at dksJ6_clear_0 1 rfl rfl)
theorem dJ6_clear_4 : decode cJ6_clear 4 = .ok (.invokevirtual 76, 3) := dk_182 0 76 (dk_at dksJ6_clear_0 4 rfl rfl)
theorem dJ6_clear_7 : decode cJ6_clear 7 = .ok (.return_, 1) := dk_177 (dk_at dksJ6_clear_0 7 rfl rfl)
abbrev cJ6_iterator : ByteArray := prog_64_method_6_code
def yJ6_iterator : MethodName := ⟨RJ6, "iterator", "()Ljava/util/Iterator;"⟩
def dkwJ6_iterator_0 : List UInt8 := [42, 180, 0, 10, 182, 0, 45, 185, 0, 49, 1, 0, 176]
abbrev dktJ6_iterator_0 : List UInt8 := dkwJ6_iterator_0 ++ []
theorem dksJ6_iterator_0 : cJ6_iterator.data.toList.drop 0 = dktJ6_iterator_0 := by decide +kernel
theorem dJ6_iterator_0 : decode cJ6_iterator 0 = .ok (.aload_n 0, 1) := dk_42 (dk_at dksJ6_iterator_0 0 rfl rfl)
theorem dJ6_iterator_1 : decode cJ6_iterator 1 = .ok (.getfield 10, 3) := dk_180 0 10 (dk_at dksJ6_iterator_0 1 rfl rfl)
theorem dJ6_iterator_4 : decode cJ6_iterator 4 = .ok (.invokevirtual 45, 3) := dk_182 0 45 (dk_at dksJ6_iterator_0 4 rfl rfl)
theorem dJ6_iterator_7 : decode cJ6_iterator 7 = .ok (.invokeinterface 49 1, 5) := by decide +kernel
theorem dJ6_iterator_12 : decode cJ6_iterator 12 = .ok (.areturn, 1) := dk_176 (dk_at dksJ6_iterator_0 12 rfl rfl)
abbrev cJ6_add : ByteArray := prog_64_method_10_code
def yJ6_add : MethodName := ⟨RJ6, "add", "(Ljava/lang/Object;)Z"⟩
def dkwJ6_add_0 : List UInt8 := [42, 180, 0, 10, 43, 178, 0, 64, 182, 0, 68, 199, 0, 7, 4, 167, 0, 4, 3, 172]
abbrev dktJ6_add_0 : List UInt8 := dkwJ6_add_0 ++ []
theorem dksJ6_add_0 : cJ6_add.data.toList.drop 0 = dktJ6_add_0 := by decide +kernel
theorem dJ6_add_0 : decode cJ6_add 0 = .ok (.aload_n 0, 1) := dk_42 (dk_at dksJ6_add_0 0 rfl rfl)
theorem dJ6_add_1 : decode cJ6_add 1 = .ok (.getfield 10, 3) := dk_180 0 10 (dk_at dksJ6_add_0 1 rfl rfl)
theorem dJ6_add_4 : decode cJ6_add 4 = .ok (.aload_n 1, 1) := dk_43 (dk_at dksJ6_add_0 4 rfl rfl)
theorem dJ6_add_5 : decode cJ6_add 5 = .ok (.getstatic 64, 3) := dk_178 0 64 (dk_at dksJ6_add_0 5 rfl rfl)
theorem dJ6_add_8 : decode cJ6_add 8 = .ok (.invokevirtual 68, 3) := dk_182 0 68 (dk_at dksJ6_add_0 8 rfl rfl)
theorem dJ6_add_11 : decode cJ6_add 11 = .ok (.ifnonnull 7, 3) := dk_199 0 7 (dk_at dksJ6_add_0 11 rfl rfl)
theorem dJ6_add_14 : decode cJ6_add 14 = .ok (.iconst 1, 1) := dk_4 (dk_at dksJ6_add_0 14 rfl rfl)
theorem dJ6_add_15 : decode cJ6_add 15 = .ok (.goto 4, 3) := dk_167 0 4 (dk_at dksJ6_add_0 15 rfl rfl)
theorem dJ6_add_18 : decode cJ6_add 18 = .ok (.iconst 0, 1) := dk_3 (dk_at dksJ6_add_0 18 rfl rfl)
theorem dJ6_add_19 : decode cJ6_add 19 = .ok (.ireturn, 1) := dk_172 (dk_at dksJ6_add_0 19 rfl rfl)
abbrev cJ6_contains : ByteArray := prog_64_method_9_code
def yJ6_contains : MethodName := ⟨RJ6, "contains", "(Ljava/lang/Object;)Z"⟩
def dkwJ6_contains_0 : List UInt8 := [42, 180, 0, 10, 43, 182, 0, 60, 172]
abbrev dktJ6_contains_0 : List UInt8 := dkwJ6_contains_0 ++ []
theorem dksJ6_contains_0 : cJ6_contains.data.toList.drop 0 = dktJ6_contains_0 := by decide +kernel
theorem dJ6_contains_0 : decode cJ6_contains 0 = .ok (.aload_n 0, 1) := dk_42 (dk_at dksJ6_contains_0 0 rfl rfl)
theorem dJ6_contains_1 : decode cJ6_contains 1 = .ok (.getfield 10, 3) := dk_180 0 10 (dk_at dksJ6_contains_0 1 rfl rfl)
theorem dJ6_contains_4 : decode cJ6_contains 4 = .ok (.aload_n 1, 1) := dk_43 (dk_at dksJ6_contains_0 4 rfl rfl)
theorem dJ6_contains_5 : decode cJ6_contains 5 = .ok (.invokevirtual 60, 3) := dk_182 0 60 (dk_at dksJ6_contains_0 5 rfl rfl)
theorem dJ6_contains_8 : decode cJ6_contains 8 = .ok (.ireturn, 1) := dk_172 (dk_at dksJ6_contains_0 8 rfl rfl)
theorem q116 : (Jvm.Cond.initialized "java/util/HashSet") ∈ lw_all := lw_g (lw_at lw_m1 10 rfl) rfl
theorem q297 : (Jvm.Cond.instantiable "java/util/HashSet" (1 : Nat)) ∈ lw_all := lw_g (lw_at lw_m1 191 rfl) rfl
theorem q299 : (Jvm.Cond.instanceMethod ({ cls := "java/util/HashSet", name := "<init>", desc := "(I)V" } : Jvm.MethodName)) ∈ lw_all := lw_g (lw_at lw_m1 193 rfl) rfl
theorem q300 : (Jvm.Cond.code ({ cls := "java/util/HashSet", name := "<init>", desc := "(I)V" } : Jvm.MethodName) prog_64_method_4_code (2 : Nat) (Option.none : Option Jvm.ClassFile.FieldType)) ∈ lw_all := lw_g (lw_at lw_m1 194 rfl) rfl
theorem q301 : (Jvm.Cond.methodLink "java/util/HashSet" (1 : Nat) ({ cls := "java/util/AbstractSet", name := "<init>", desc := "()V" } : Jvm.MethodName)) ∈ lw_all := lw_g (lw_at lw_m1 195 rfl) rfl
theorem q305 : (Jvm.Cond.classLink "java/util/HashSet" (7 : Nat) "java/util/HashMap") ∈ lw_all := lw_g (lw_at lw_m1 199 rfl) rfl
theorem q306 : (Jvm.Cond.methodLink "java/util/HashSet" (39 : Nat) ({ cls := "java/util/HashMap", name := "<init>", desc := "(I)V" } : Jvm.MethodName)) ∈ lw_all := lw_g (lw_at lw_m1 200 rfl) rfl
theorem q323 : (Jvm.Cond.fieldLink "java/util/HashSet" (10 : Nat) "java/util/HashSet" "map" "Ljava/util/HashMap;") ∈ lw_all := lw_g (lw_at lw_m1 217 rfl) rfl
theorem q324 : (Jvm.Cond.lays "java/util/HashSet" "java/util/HashSet" "map" "Ljava/util/HashMap;") ∈ lw_all := lw_g (lw_at lw_m1 218 rfl) rfl
theorem q325 : (Jvm.Cond.soleField "java/util/HashSet" "map") ∈ lw_all := lw_g (lw_at lw_m1 219 rfl) rfl
theorem q326 : (Jvm.Cond.superclass "java/util/HashSet" "java/util/AbstractSet") ∈ lw_all := lw_g (lw_at lw_m1 220 rfl) rfl
theorem q400 : (Jvm.Cond.instanceMethod ({ cls := "java/util/HashSet", name := "clear", desc := "()V" } : Jvm.MethodName)) ∈ lw_all := lw_g (lw_at lw_m2 54 rfl) rfl
theorem q401 : (Jvm.Cond.selects "java/util/HashSet" ({ cls := "java/util/HashSet", name := "clear", desc := "()V" } : Jvm.MethodName) ({ cls := "java/util/HashSet", name := "clear", desc := "()V" } : Jvm.MethodName)) ∈ lw_all := lw_g (lw_at lw_m2 55 rfl) rfl
theorem q402 : (Jvm.Cond.code ({ cls := "java/util/HashSet", name := "clear", desc := "()V" } : Jvm.MethodName) prog_64_method_12_code (1 : Nat) (Option.none : Option Jvm.ClassFile.FieldType)) ∈ lw_all := lw_g (lw_at lw_m2 56 rfl) rfl
theorem q403 : (Jvm.Cond.methodLink "java/util/HashSet" (76 : Nat) ({ cls := "java/util/HashMap", name := "clear", desc := "()V" } : Jvm.MethodName)) ∈ lw_all := lw_g (lw_at lw_m2 57 rfl) rfl
theorem q633 : (Jvm.Cond.selects "java/util/HashSet" ({ cls := "java/lang/Object", name := "getClass", desc := "()Ljava/lang/Class;" } : Jvm.MethodName) ({ cls := "java/lang/Object", name := "getClass", desc := "()Ljava/lang/Class;" } : Jvm.MethodName)) ∈ lw_all := lw_g (lw_at lw_m3 47 rfl) rfl
theorem q832 : (Jvm.Cond.castable "java/util/HashSet" "java/util/Set") ∈ lw_tbl := lw_at lw_m4 6 rfl
theorem q833 : (Jvm.Cond.selects "java/util/HashSet" ({ cls := "java/util/Set", name := "iterator", desc := "()Ljava/util/Iterator;" } : Jvm.MethodName) ({ cls := "java/util/HashSet", name := "iterator", desc := "()Ljava/util/Iterator;" } : Jvm.MethodName)) ∈ lw_all := lw_g (lw_at lw_m4 7 rfl) rfl
theorem q834 : (Jvm.Cond.unhidden "java/util/HashSet" "iterator" "()Ljava/util/Iterator;") ∈ lw_tbl := lw_at lw_m4 8 rfl
theorem q835 : (Jvm.Cond.instanceMethod ({ cls := "java/util/HashSet", name := "iterator", desc := "()Ljava/util/Iterator;" } : Jvm.MethodName)) ∈ lw_all := lw_g (lw_at lw_m4 9 rfl) rfl
theorem q836 : (Jvm.Cond.publicMethod ({ cls := "java/util/HashSet", name := "iterator", desc := "()Ljava/util/Iterator;" } : Jvm.MethodName)) ∈ lw_tbl := lw_at lw_m4 10 rfl
theorem q837 : (Jvm.Cond.code ({ cls := "java/util/HashSet", name := "iterator", desc := "()Ljava/util/Iterator;" } : Jvm.MethodName) prog_64_method_6_code (1 : Nat) (Option.some (Jvm.ClassFile.FieldType.object "java/util/Iterator"))) ∈ lw_all := lw_g (lw_at lw_m4 11 rfl) rfl
theorem q838 : (Jvm.Cond.methodLink "java/util/HashSet" (45 : Nat) ({ cls := "java/util/HashMap", name := "keySet", desc := "()Ljava/util/Set;" } : Jvm.MethodName)) ∈ lw_all := lw_g (lw_at lw_m4 12 rfl) rfl
theorem q854 : (Jvm.Cond.interfaceEntry "java/util/HashSet" (49 : Nat)) ∈ lw_tbl := lw_at lw_m4 28 rfl
theorem q855 : (Jvm.Cond.methodLink "java/util/HashSet" (49 : Nat) ({ cls := "java/util/Set", name := "iterator", desc := "()Ljava/util/Iterator;" } : Jvm.MethodName)) ∈ lw_all := lw_g (lw_at lw_m4 29 rfl) rfl
theorem q2234 : (Jvm.Cond.instanceMethod ({ cls := "java/util/HashSet", name := "add", desc := "(Ljava/lang/Object;)Z" } : Jvm.MethodName)) ∈ lw_all := lw_g (lw_at lw_m9 208 rfl) rfl
theorem q2235 : (Jvm.Cond.selects "java/util/HashSet" ({ cls := "java/util/HashSet", name := "add", desc := "(Ljava/lang/Object;)Z" } : Jvm.MethodName) ({ cls := "java/util/HashSet", name := "add", desc := "(Ljava/lang/Object;)Z" } : Jvm.MethodName)) ∈ lw_all := lw_g (lw_at lw_m9 209 rfl) rfl
theorem q2236 : (Jvm.Cond.code ({ cls := "java/util/HashSet", name := "add", desc := "(Ljava/lang/Object;)Z" } : Jvm.MethodName) prog_64_method_10_code (2 : Nat) (Option.some Jvm.ClassFile.FieldType.boolean)) ∈ lw_all := lw_g (lw_at lw_m9 210 rfl) rfl
theorem q2237 : (Jvm.Cond.fieldLink "java/util/HashSet" (64 : Nat) "java/util/HashSet" "PRESENT" "Ljava/lang/Object;") ∈ lw_all := lw_g (lw_at lw_m9 211 rfl) rfl
theorem q2238 : (Jvm.Cond.laysStatic "java/util/HashSet" "PRESENT" "Ljava/lang/Object;") ∈ lw_tbl := lw_at lw_m9 212 rfl
theorem q2239 : (Jvm.Cond.methodLink "java/util/HashSet" (68 : Nat) ({ cls := "java/util/HashMap", name := "put", desc := "(Ljava/lang/Object;Ljava/lang/Object;)Ljava/lang/Object;" } : Jvm.MethodName)) ∈ lw_all := lw_g (lw_at lw_m9 213 rfl) rfl
theorem q2303 : (Jvm.Cond.instanceMethod ({ cls := "java/util/HashSet", name := "contains", desc := "(Ljava/lang/Object;)Z" } : Jvm.MethodName)) ∈ lw_all := lw_g (lw_at lw_m10 37 rfl) rfl
theorem q2304 : (Jvm.Cond.selects "java/util/HashSet" ({ cls := "java/util/HashSet", name := "contains", desc := "(Ljava/lang/Object;)Z" } : Jvm.MethodName) ({ cls := "java/util/HashSet", name := "contains", desc := "(Ljava/lang/Object;)Z" } : Jvm.MethodName)) ∈ lw_all := lw_g (lw_at lw_m10 38 rfl) rfl
theorem q2305 : (Jvm.Cond.code ({ cls := "java/util/HashSet", name := "contains", desc := "(Ljava/lang/Object;)Z" } : Jvm.MethodName) prog_64_method_9_code (2 : Nat) (Option.some Jvm.ClassFile.FieldType.boolean)) ∈ lw_all := lw_g (lw_at lw_m10 39 rfl) rfl
theorem q2306 : (Jvm.Cond.methodLink "java/util/HashSet" (60 : Nat) ({ cls := "java/util/HashMap", name := "containsKey", desc := "(Ljava/lang/Object;)Z" } : Jvm.MethodName)) ∈ lw_all := lw_g (lw_at lw_m10 40 rfl) rfl
theorem q3588 : (Jvm.Cond.castable "java/util/HashSet" "java/lang/Object") ∈ lw_tbl := lw_at lw_m15 122 rfl
theorem in_J6 : ∀ w ∈ wsJ60, w ∈ lw_all := lw_in wsJ60 [324] (by decide +kernel) (by decide +kernel)
/-! java/lang/Number -/
set_option maxRecDepth 100000
def RJ7 : String := "java/lang/Number"
abbrev cJ7_init : ByteArray := prog_39_method_1_code
def yJ7_init : MethodName := ⟨RJ7, "<init>", "()V"⟩
theorem dJ7_init_0 : decode cJ7_init 0 = .ok (.aload_n 0, 1) := by decide +kernel
theorem dJ7_init_1 : decode cJ7_init 1 = .ok (.invokespecial 1, 3) := by decide +kernel
theorem dJ7_init_4 : decode cJ7_init 4 = .ok (.return_, 1) := by decide +kernel
theorem q117 : (Jvm.Cond.initialized "java/lang/Number") ∈ lw_all := lw_g (lw_at lw_m1 11 rfl) rfl
theorem q1382 : (Jvm.Cond.instanceMethod ({ cls := "java/lang/Number", name := "<init>", desc := "()V" } : Jvm.MethodName)) ∈ lw_all := lw_g (lw_at lw_m6 76 rfl) rfl
theorem q1383 : (Jvm.Cond.code ({ cls := "java/lang/Number", name := "<init>", desc := "()V" } : Jvm.MethodName) prog_39_method_1_code (1 : Nat) (Option.none : Option Jvm.ClassFile.FieldType)) ∈ lw_all := lw_g (lw_at lw_m6 77 rfl) rfl
theorem q1384 : (Jvm.Cond.methodLink "java/lang/Number" (1 : Nat) ({ cls := "java/lang/Object", name := "<init>", desc := "()V" } : Jvm.MethodName)) ∈ lw_all := lw_g (lw_at lw_m6 78 rfl) rfl
/-! java/lang/Float -/
set_option maxRecDepth 100000
def RJ8 : String := "java/lang/Float"
abbrev cJ8_isNaN : ByteArray := prog_33_method_6_code
def yJ8_isNaN : MethodName := ⟨RJ8, "isNaN", "(F)Z"⟩
def dkwJ8_isNaN_0 : List UInt8 := [34, 34, 149, 153, 0, 7, 4, 167, 0, 4, 3, 172]
abbrev dktJ8_isNaN_0 : List UInt8 := dkwJ8_isNaN_0 ++ []
theorem dksJ8_isNaN_0 : cJ8_isNaN.data.toList.drop 0 = dktJ8_isNaN_0 := by decide +kernel
theorem dJ8_isNaN_0 : decode cJ8_isNaN 0 = .ok (.fload_n 0, 1) := dk_34 (dk_at dksJ8_isNaN_0 0 rfl rfl)
theorem dJ8_isNaN_1 : decode cJ8_isNaN 1 = .ok (.fload_n 0, 1) := dk_34 (dk_at dksJ8_isNaN_0 1 rfl rfl)
theorem dJ8_isNaN_2 : decode cJ8_isNaN 2 = .ok (.fcmp .l, 1) := dk_149 (dk_at dksJ8_isNaN_0 2 rfl rfl)
theorem dJ8_isNaN_3 : decode cJ8_isNaN 3 = .ok (.ifCond .eq 7, 3) := dk_153 0 7 (dk_at dksJ8_isNaN_0 3 rfl rfl)
theorem dJ8_isNaN_6 : decode cJ8_isNaN 6 = .ok (.iconst 1, 1) := dk_4 (dk_at dksJ8_isNaN_0 6 rfl rfl)
theorem dJ8_isNaN_7 : decode cJ8_isNaN 7 = .ok (.goto 4, 3) := dk_167 0 4 (dk_at dksJ8_isNaN_0 7 rfl rfl)
theorem dJ8_isNaN_10 : decode cJ8_isNaN 10 = .ok (.iconst 0, 1) := dk_3 (dk_at dksJ8_isNaN_0 10 rfl rfl)
theorem dJ8_isNaN_11 : decode cJ8_isNaN 11 = .ok (.ireturn, 1) := dk_172 (dk_at dksJ8_isNaN_0 11 rfl rfl)
theorem q118 : (Jvm.Cond.initialized "java/lang/Float") ∈ lw_all := lw_g (lw_at lw_m1 12 rfl) rfl
theorem q314 : (Jvm.Cond.static ({ cls := "java/lang/Float", name := "isNaN", desc := "(F)Z" } : Jvm.MethodName)) ∈ lw_all := lw_g (lw_at lw_m1 208 rfl) rfl
theorem q315 : (Jvm.Cond.code ({ cls := "java/lang/Float", name := "isNaN", desc := "(F)Z" } : Jvm.MethodName) prog_33_method_6_code (1 : Nat) (Option.some Jvm.ClassFile.FieldType.boolean)) ∈ lw_all := lw_g (lw_at lw_m1 209 rfl) rfl
/-! java/lang/Integer -/
set_option maxRecDepth 100000
def RJ9 : String := "java/lang/Integer"
def TJ9 : u_T := fun k => match k with
  | _ => ("java/lang/Integer", "value", "I", true)
def tyJ9 : Nat → FieldType := fun k => match k with
  | _ => .int
abbrev wsJ90 : List Cond := u_ws RJ9 TJ9 1
theorem nmJ9 : ∀ a, a < 1 → ∀ b, b < 1 → a ≠ b → (TJ9 a).2.1 ≠ (TJ9 b).2.1 := by decide +kernel
theorem tyJ9_ok : ∀ k, k < 1 → parseFieldDescriptor (TJ9 k).2.2.1 = some (tyJ9 k) := by decide +kernel
abbrev cJ9_numberOfLeadingZeros : ByteArray := prog_34_method_47_code
def yJ9_numberOfLeadingZeros : MethodName := ⟨RJ9, "numberOfLeadingZeros", "(I)I"⟩
def dkwJ9_numberOfLeadingZeros_3 : List UInt8 := [5, 124, 59, 27, 26, 4, 124, 100, 172]
abbrev dktJ9_numberOfLeadingZeros_3 : List UInt8 := dkwJ9_numberOfLeadingZeros_3 ++ []
def dkwJ9_numberOfLeadingZeros_2 : List UInt8 := [124, 59, 26, 16, 16, 161, 0, 10, 132, 1, 252, 26, 7, 124, 59, 26, 7, 161, 0, 10, 132, 1, 254, 26]
abbrev dktJ9_numberOfLeadingZeros_2 : List UInt8 := dkwJ9_numberOfLeadingZeros_2 ++ dktJ9_numberOfLeadingZeros_3
def dkwJ9_numberOfLeadingZeros_1 : List UInt8 := [161, 0, 11, 132, 1, 240, 26, 16, 16, 124, 59, 26, 17, 1, 0, 161, 0, 11, 132, 1, 248, 26, 16, 8]
abbrev dktJ9_numberOfLeadingZeros_1 : List UInt8 := dkwJ9_numberOfLeadingZeros_1 ++ dktJ9_numberOfLeadingZeros_2
def dkwJ9_numberOfLeadingZeros_0 : List UInt8 := [26, 157, 0, 14, 26, 154, 0, 8, 16, 32, 167, 0, 4, 3, 172, 16, 31, 60, 26, 19, 1, 8]
abbrev dktJ9_numberOfLeadingZeros_0 : List UInt8 := dkwJ9_numberOfLeadingZeros_0 ++ dktJ9_numberOfLeadingZeros_1
theorem dksJ9_numberOfLeadingZeros_0 : cJ9_numberOfLeadingZeros.data.toList.drop 0 = dktJ9_numberOfLeadingZeros_0 := by decide +kernel
theorem dksJ9_numberOfLeadingZeros_1 : cJ9_numberOfLeadingZeros.data.toList.drop 22 = dktJ9_numberOfLeadingZeros_1 := dk_seg dksJ9_numberOfLeadingZeros_0 22 rfl rfl
theorem dksJ9_numberOfLeadingZeros_2 : cJ9_numberOfLeadingZeros.data.toList.drop 46 = dktJ9_numberOfLeadingZeros_2 := dk_seg dksJ9_numberOfLeadingZeros_1 24 rfl rfl
theorem dksJ9_numberOfLeadingZeros_3 : cJ9_numberOfLeadingZeros.data.toList.drop 70 = dktJ9_numberOfLeadingZeros_3 := dk_seg dksJ9_numberOfLeadingZeros_2 24 rfl rfl
theorem dJ9_numberOfLeadingZeros_0 : decode cJ9_numberOfLeadingZeros 0 = .ok (.iload_n 0, 1) := dk_26 (dk_at dksJ9_numberOfLeadingZeros_0 0 rfl rfl)
theorem dJ9_numberOfLeadingZeros_1 : decode cJ9_numberOfLeadingZeros 1 = .ok (.ifCond .gt 14, 3) := dk_157 0 14 (dk_at dksJ9_numberOfLeadingZeros_0 1 rfl rfl)
theorem dJ9_numberOfLeadingZeros_4 : decode cJ9_numberOfLeadingZeros 4 = .ok (.iload_n 0, 1) := dk_26 (dk_at dksJ9_numberOfLeadingZeros_0 4 rfl rfl)
theorem dJ9_numberOfLeadingZeros_5 : decode cJ9_numberOfLeadingZeros 5 = .ok (.ifCond .ne 8, 3) := dk_154 0 8 (dk_at dksJ9_numberOfLeadingZeros_0 5 rfl rfl)
theorem dJ9_numberOfLeadingZeros_8 : decode cJ9_numberOfLeadingZeros 8 = .ok (.bipush 32, 2) := dk_16 32 (dk_at dksJ9_numberOfLeadingZeros_0 8 rfl rfl)
theorem dJ9_numberOfLeadingZeros_10 : decode cJ9_numberOfLeadingZeros 10 = .ok (.goto 4, 3) := dk_167 0 4 (dk_at dksJ9_numberOfLeadingZeros_0 10 rfl rfl)
theorem dJ9_numberOfLeadingZeros_13 : decode cJ9_numberOfLeadingZeros 13 = .ok (.iconst 0, 1) := dk_3 (dk_at dksJ9_numberOfLeadingZeros_0 13 rfl rfl)
theorem dJ9_numberOfLeadingZeros_14 : decode cJ9_numberOfLeadingZeros 14 = .ok (.ireturn, 1) := dk_172 (dk_at dksJ9_numberOfLeadingZeros_0 14 rfl rfl)
theorem dJ9_numberOfLeadingZeros_15 : decode cJ9_numberOfLeadingZeros 15 = .ok (.bipush 31, 2) := dk_16 31 (dk_at dksJ9_numberOfLeadingZeros_0 15 rfl rfl)
theorem dJ9_numberOfLeadingZeros_17 : decode cJ9_numberOfLeadingZeros 17 = .ok (.istore_n 1, 1) := dk_60 (dk_at dksJ9_numberOfLeadingZeros_0 17 rfl rfl)
theorem dJ9_numberOfLeadingZeros_18 : decode cJ9_numberOfLeadingZeros 18 = .ok (.iload_n 0, 1) := dk_26 (dk_at dksJ9_numberOfLeadingZeros_0 18 rfl rfl)
theorem dJ9_numberOfLeadingZeros_19 : decode cJ9_numberOfLeadingZeros 19 = .ok (.ldc_w 264, 3) := dk_19 1 8 (dk_at dksJ9_numberOfLeadingZeros_0 19 rfl rfl)
theorem dJ9_numberOfLeadingZeros_22 : decode cJ9_numberOfLeadingZeros 22 = .ok (.if_icmp .lt 11, 3) := dk_161 0 11 (dk_at dksJ9_numberOfLeadingZeros_1 0 rfl rfl)
theorem dJ9_numberOfLeadingZeros_25 : decode cJ9_numberOfLeadingZeros 25 = .ok (.iinc 1 (-16), 3) := dk_132 1 240 (dk_at dksJ9_numberOfLeadingZeros_1 3 rfl rfl)
theorem dJ9_numberOfLeadingZeros_28 : decode cJ9_numberOfLeadingZeros 28 = .ok (.iload_n 0, 1) := dk_26 (dk_at dksJ9_numberOfLeadingZeros_1 6 rfl rfl)
theorem dJ9_numberOfLeadingZeros_29 : decode cJ9_numberOfLeadingZeros 29 = .ok (.bipush 16, 2) := dk_16 16 (dk_at dksJ9_numberOfLeadingZeros_1 7 rfl rfl)
theorem dJ9_numberOfLeadingZeros_31 : decode cJ9_numberOfLeadingZeros 31 = .ok (.iushr, 1) := dk_124 (dk_at dksJ9_numberOfLeadingZeros_1 9 rfl rfl)
theorem dJ9_numberOfLeadingZeros_32 : decode cJ9_numberOfLeadingZeros 32 = .ok (.istore_n 0, 1) := dk_59 (dk_at dksJ9_numberOfLeadingZeros_1 10 rfl rfl)
theorem dJ9_numberOfLeadingZeros_33 : decode cJ9_numberOfLeadingZeros 33 = .ok (.iload_n 0, 1) := dk_26 (dk_at dksJ9_numberOfLeadingZeros_1 11 rfl rfl)
theorem dJ9_numberOfLeadingZeros_34 : decode cJ9_numberOfLeadingZeros 34 = .ok (.sipush 256, 3) := dk_17 1 0 (dk_at dksJ9_numberOfLeadingZeros_1 12 rfl rfl)
theorem dJ9_numberOfLeadingZeros_37 : decode cJ9_numberOfLeadingZeros 37 = .ok (.if_icmp .lt 11, 3) := dk_161 0 11 (dk_at dksJ9_numberOfLeadingZeros_1 15 rfl rfl)
theorem dJ9_numberOfLeadingZeros_40 : decode cJ9_numberOfLeadingZeros 40 = .ok (.iinc 1 (-8), 3) := dk_132 1 248 (dk_at dksJ9_numberOfLeadingZeros_1 18 rfl rfl)
theorem dJ9_numberOfLeadingZeros_43 : decode cJ9_numberOfLeadingZeros 43 = .ok (.iload_n 0, 1) := dk_26 (dk_at dksJ9_numberOfLeadingZeros_1 21 rfl rfl)
theorem dJ9_numberOfLeadingZeros_44 : decode cJ9_numberOfLeadingZeros 44 = .ok (.bipush 8, 2) := dk_16 8 (dk_at dksJ9_numberOfLeadingZeros_1 22 rfl rfl)
theorem dJ9_numberOfLeadingZeros_46 : decode cJ9_numberOfLeadingZeros 46 = .ok (.iushr, 1) := dk_124 (dk_at dksJ9_numberOfLeadingZeros_2 0 rfl rfl)
theorem dJ9_numberOfLeadingZeros_47 : decode cJ9_numberOfLeadingZeros 47 = .ok (.istore_n 0, 1) := dk_59 (dk_at dksJ9_numberOfLeadingZeros_2 1 rfl rfl)
theorem dJ9_numberOfLeadingZeros_48 : decode cJ9_numberOfLeadingZeros 48 = .ok (.iload_n 0, 1) := dk_26 (dk_at dksJ9_numberOfLeadingZeros_2 2 rfl rfl)
theorem dJ9_numberOfLeadingZeros_49 : decode cJ9_numberOfLeadingZeros 49 = .ok (.bipush 16, 2) := dk_16 16 (dk_at dksJ9_numberOfLeadingZeros_2 3 rfl rfl)
theorem dJ9_numberOfLeadingZeros_51 : decode cJ9_numberOfLeadingZeros 51 = .ok (.if_icmp .lt 10, 3) := dk_161 0 10 (dk_at dksJ9_numberOfLeadingZeros_2 5 rfl rfl)
theorem dJ9_numberOfLeadingZeros_54 : decode cJ9_numberOfLeadingZeros 54 = .ok (.iinc 1 (-4), 3) := dk_132 1 252 (dk_at dksJ9_numberOfLeadingZeros_2 8 rfl rfl)
theorem dJ9_numberOfLeadingZeros_57 : decode cJ9_numberOfLeadingZeros 57 = .ok (.iload_n 0, 1) := dk_26 (dk_at dksJ9_numberOfLeadingZeros_2 11 rfl rfl)
theorem dJ9_numberOfLeadingZeros_58 : decode cJ9_numberOfLeadingZeros 58 = .ok (.iconst 4, 1) := dk_7 (dk_at dksJ9_numberOfLeadingZeros_2 12 rfl rfl)
theorem dJ9_numberOfLeadingZeros_59 : decode cJ9_numberOfLeadingZeros 59 = .ok (.iushr, 1) := dk_124 (dk_at dksJ9_numberOfLeadingZeros_2 13 rfl rfl)
theorem dJ9_numberOfLeadingZeros_60 : decode cJ9_numberOfLeadingZeros 60 = .ok (.istore_n 0, 1) := dk_59 (dk_at dksJ9_numberOfLeadingZeros_2 14 rfl rfl)
theorem dJ9_numberOfLeadingZeros_61 : decode cJ9_numberOfLeadingZeros 61 = .ok (.iload_n 0, 1) := dk_26 (dk_at dksJ9_numberOfLeadingZeros_2 15 rfl rfl)
theorem dJ9_numberOfLeadingZeros_62 : decode cJ9_numberOfLeadingZeros 62 = .ok (.iconst 4, 1) := dk_7 (dk_at dksJ9_numberOfLeadingZeros_2 16 rfl rfl)
theorem dJ9_numberOfLeadingZeros_63 : decode cJ9_numberOfLeadingZeros 63 = .ok (.if_icmp .lt 10, 3) := dk_161 0 10 (dk_at dksJ9_numberOfLeadingZeros_2 17 rfl rfl)
theorem dJ9_numberOfLeadingZeros_66 : decode cJ9_numberOfLeadingZeros 66 = .ok (.iinc 1 (-2), 3) := dk_132 1 254 (dk_at dksJ9_numberOfLeadingZeros_2 20 rfl rfl)
theorem dJ9_numberOfLeadingZeros_69 : decode cJ9_numberOfLeadingZeros 69 = .ok (.iload_n 0, 1) := dk_26 (dk_at dksJ9_numberOfLeadingZeros_2 23 rfl rfl)
theorem dJ9_numberOfLeadingZeros_70 : decode cJ9_numberOfLeadingZeros 70 = .ok (.iconst 2, 1) := dk_5 (dk_at dksJ9_numberOfLeadingZeros_3 0 rfl rfl)
theorem dJ9_numberOfLeadingZeros_71 : decode cJ9_numberOfLeadingZeros 71 = .ok (.iushr, 1) := dk_124 (dk_at dksJ9_numberOfLeadingZeros_3 1 rfl rfl)
theorem dJ9_numberOfLeadingZeros_72 : decode cJ9_numberOfLeadingZeros 72 = .ok (.istore_n 0, 1) := dk_59 (dk_at dksJ9_numberOfLeadingZeros_3 2 rfl rfl)
theorem dJ9_numberOfLeadingZeros_73 : decode cJ9_numberOfLeadingZeros 73 = .ok (.iload_n 1, 1) := dk_27 (dk_at dksJ9_numberOfLeadingZeros_3 3 rfl rfl)
theorem dJ9_numberOfLeadingZeros_74 : decode cJ9_numberOfLeadingZeros 74 = .ok (.iload_n 0, 1) := dk_26 (dk_at dksJ9_numberOfLeadingZeros_3 4 rfl rfl)
theorem dJ9_numberOfLeadingZeros_75 : decode cJ9_numberOfLeadingZeros 75 = .ok (.iconst 1, 1) := dk_4 (dk_at dksJ9_numberOfLeadingZeros_3 5 rfl rfl)
theorem dJ9_numberOfLeadingZeros_76 : decode cJ9_numberOfLeadingZeros 76 = .ok (.iushr, 1) := dk_124 (dk_at dksJ9_numberOfLeadingZeros_3 6 rfl rfl)
theorem dJ9_numberOfLeadingZeros_77 : decode cJ9_numberOfLeadingZeros 77 = .ok (.isub, 1) := dk_100 (dk_at dksJ9_numberOfLeadingZeros_3 7 rfl rfl)
theorem dJ9_numberOfLeadingZeros_78 : decode cJ9_numberOfLeadingZeros 78 = .ok (.ireturn, 1) := dk_172 (dk_at dksJ9_numberOfLeadingZeros_3 8 rfl rfl)
abbrev cJ9_hashCode : ByteArray := prog_34_method_32_code
def yJ9_hashCode : MethodName := ⟨RJ9, "hashCode", "()I"⟩
def dkwJ9_hashCode_0 : List UInt8 := [42, 180, 0, 205, 184, 0, 208, 172]
abbrev dktJ9_hashCode_0 : List UInt8 := dkwJ9_hashCode_0 ++ []
theorem dksJ9_hashCode_0 : cJ9_hashCode.data.toList.drop 0 = dktJ9_hashCode_0 := by decide +kernel
theorem dJ9_hashCode_0 : decode cJ9_hashCode 0 = .ok (.aload_n 0, 1) := dk_42 (dk_at dksJ9_hashCode_0 0 rfl rfl)
theorem dJ9_hashCode_1 : decode cJ9_hashCode 1 = .ok (.getfield 205, 3) := dk_180 0 205 (dk_at dksJ9_hashCode_0 1 rfl rfl)
theorem dJ9_hashCode_4 : decode cJ9_hashCode 4 = .ok (.invokestatic 208, 3) := dk_184 0 208 (dk_at dksJ9_hashCode_0 4 rfl rfl)
theorem dJ9_hashCode_7 : decode cJ9_hashCode 7 = .ok (.ireturn, 1) := dk_172 (dk_at dksJ9_hashCode_0 7 rfl rfl)
abbrev cJ9_hashCode_2 : ByteArray := prog_34_method_33_code
def yJ9_hashCode_2 : MethodName := ⟨RJ9, "hashCode", "(I)I"⟩
theorem dJ9_hashCode_2_0 : decode cJ9_hashCode_2 0 = .ok (.iload_n 0, 1) := by decide +kernel
theorem dJ9_hashCode_2_1 : decode cJ9_hashCode_2 1 = .ok (.ireturn, 1) := by decide +kernel
abbrev cJ9_equals : ByteArray := prog_34_method_34_code
def yJ9_equals : MethodName := ⟨RJ9, "equals", "(Ljava/lang/Object;)Z"⟩
def dkwJ9_equals_1 : List UInt8 := [167, 0, 4, 3, 172, 3, 172]
abbrev dktJ9_equals_1 : List UInt8 := dkwJ9_equals_1 ++ []
def dkwJ9_equals_0 : List UInt8 := [43, 193, 0, 1, 153, 0, 23, 42, 180, 0, 205, 43, 192, 0, 1, 182, 0, 211, 160, 0, 7, 4]
abbrev dktJ9_equals_0 : List UInt8 := dkwJ9_equals_0 ++ dktJ9_equals_1
theorem dksJ9_equals_0 : cJ9_equals.data.toList.drop 0 = dktJ9_equals_0 := by decide +kernel
theorem dksJ9_equals_1 : cJ9_equals.data.toList.drop 22 = dktJ9_equals_1 := dk_seg dksJ9_equals_0 22 rfl rfl
theorem dJ9_equals_0 : decode cJ9_equals 0 = .ok (.aload_n 1, 1) := dk_43 (dk_at dksJ9_equals_0 0 rfl rfl)
theorem dJ9_equals_1 : decode cJ9_equals 1 = .ok (.instanceof 1, 3) := dk_193 0 1 (dk_at dksJ9_equals_0 1 rfl rfl)
theorem dJ9_equals_4 : decode cJ9_equals 4 = .ok (.ifCond .eq 23, 3) := dk_153 0 23 (dk_at dksJ9_equals_0 4 rfl rfl)
theorem dJ9_equals_7 : decode cJ9_equals 7 = .ok (.aload_n 0, 1) := dk_42 (dk_at dksJ9_equals_0 7 rfl rfl)
theorem dJ9_equals_8 : decode cJ9_equals 8 = .ok (.getfield 205, 3) := dk_180 0 205 (dk_at dksJ9_equals_0 8 rfl rfl)
theorem dJ9_equals_11 : decode cJ9_equals 11 = .ok (.aload_n 1, 1) := dk_43 (dk_at dksJ9_equals_0 11 rfl rfl)
theorem dJ9_equals_12 : decode cJ9_equals 12 = .ok (.checkcast 1, 3) := dk_192 0 1 (dk_at dksJ9_equals_0 12 rfl rfl)
theorem dJ9_equals_15 : decode cJ9_equals 15 = .ok (.invokevirtual 211, 3) := dk_182 0 211 (dk_at dksJ9_equals_0 15 rfl rfl)
theorem dJ9_equals_18 : decode cJ9_equals 18 = .ok (.if_icmp .ne 7, 3) := dk_160 0 7 (dk_at dksJ9_equals_0 18 rfl rfl)
theorem dJ9_equals_21 : decode cJ9_equals 21 = .ok (.iconst 1, 1) := dk_4 (dk_at dksJ9_equals_0 21 rfl rfl)
theorem dJ9_equals_22 : decode cJ9_equals 22 = .ok (.goto 4, 3) := dk_167 0 4 (dk_at dksJ9_equals_1 0 rfl rfl)
theorem dJ9_equals_25 : decode cJ9_equals 25 = .ok (.iconst 0, 1) := dk_3 (dk_at dksJ9_equals_1 3 rfl rfl)
theorem dJ9_equals_26 : decode cJ9_equals 26 = .ok (.ireturn, 1) := dk_172 (dk_at dksJ9_equals_1 4 rfl rfl)
theorem dJ9_equals_27 : decode cJ9_equals 27 = .ok (.iconst 0, 1) := dk_3 (dk_at dksJ9_equals_1 5 rfl rfl)
theorem dJ9_equals_28 : decode cJ9_equals 28 = .ok (.ireturn, 1) := dk_172 (dk_at dksJ9_equals_1 6 rfl rfl)
abbrev cJ9_intValue : ByteArray := prog_34_method_27_code
def yJ9_intValue : MethodName := ⟨RJ9, "intValue", "()I"⟩
theorem dJ9_intValue_0 : decode cJ9_intValue 0 = .ok (.aload_n 0, 1) := by decide +kernel
theorem dJ9_intValue_1 : decode cJ9_intValue 1 = .ok (.getfield 205, 3) := by decide +kernel
theorem dJ9_intValue_4 : decode cJ9_intValue 4 = .ok (.ireturn, 1) := by decide +kernel
abbrev cJ9_compareTo : ByteArray := prog_34_method_63_code
def yJ9_compareTo : MethodName := ⟨RJ9, "compareTo", "(Ljava/lang/Object;)I"⟩
def dkwJ9_compareTo_0 : List UInt8 := [42, 43, 192, 0, 1, 182, 1, 28, 172]
abbrev dktJ9_compareTo_0 : List UInt8 := dkwJ9_compareTo_0 ++ []
theorem dksJ9_compareTo_0 : cJ9_compareTo.data.toList.drop 0 = dktJ9_compareTo_0 := by decide +kernel
theorem dJ9_compareTo_0 : decode cJ9_compareTo 0 = .ok (.aload_n 0, 1) := dk_42 (dk_at dksJ9_compareTo_0 0 rfl rfl)
theorem dJ9_compareTo_1 : decode cJ9_compareTo 1 = .ok (.aload_n 1, 1) := dk_43 (dk_at dksJ9_compareTo_0 1 rfl rfl)
theorem dJ9_compareTo_2 : decode cJ9_compareTo 2 = .ok (.checkcast 1, 3) := dk_192 0 1 (dk_at dksJ9_compareTo_0 2 rfl rfl)
theorem dJ9_compareTo_5 : decode cJ9_compareTo 5 = .ok (.invokevirtual 284, 3) := dk_182 1 28 (dk_at dksJ9_compareTo_0 5 rfl rfl)
theorem dJ9_compareTo_8 : decode cJ9_compareTo 8 = .ok (.ireturn, 1) := dk_172 (dk_at dksJ9_compareTo_0 8 rfl rfl)
abbrev cJ9_compareTo_2 : ByteArray := prog_34_method_39_code
def yJ9_compareTo_2 : MethodName := ⟨RJ9, "compareTo", "(Ljava/lang/Integer;)I"⟩
def dkwJ9_compareTo_2_0 : List UInt8 := [42, 180, 0, 205, 43, 180, 0, 205, 184, 1, 3, 172]
abbrev dktJ9_compareTo_2_0 : List UInt8 := dkwJ9_compareTo_2_0 ++ []
theorem dksJ9_compareTo_2_0 : cJ9_compareTo_2.data.toList.drop 0 = dktJ9_compareTo_2_0 := by decide +kernel
theorem dJ9_compareTo_2_0 : decode cJ9_compareTo_2 0 = .ok (.aload_n 0, 1) := dk_42 (dk_at dksJ9_compareTo_2_0 0 rfl rfl)
theorem dJ9_compareTo_2_1 : decode cJ9_compareTo_2 1 = .ok (.getfield 205, 3) := dk_180 0 205 (dk_at dksJ9_compareTo_2_0 1 rfl rfl)
theorem dJ9_compareTo_2_4 : decode cJ9_compareTo_2 4 = .ok (.aload_n 1, 1) := dk_43 (dk_at dksJ9_compareTo_2_0 4 rfl rfl)
theorem dJ9_compareTo_2_5 : decode cJ9_compareTo_2 5 = .ok (.getfield 205, 3) := dk_180 0 205 (dk_at dksJ9_compareTo_2_0 5 rfl rfl)
theorem dJ9_compareTo_2_8 : decode cJ9_compareTo_2 8 = .ok (.invokestatic 259, 3) := dk_184 1 3 (dk_at dksJ9_compareTo_2_0 8 rfl rfl)
theorem dJ9_compareTo_2_11 : decode cJ9_compareTo_2 11 = .ok (.ireturn, 1) := dk_172 (dk_at dksJ9_compareTo_2_0 11 rfl rfl)
abbrev cJ9_compare : ByteArray := prog_34_method_40_code
def yJ9_compare : MethodName := ⟨RJ9, "compare", "(II)I"⟩
def dkwJ9_compare_0 : List UInt8 := [26, 27, 162, 0, 7, 2, 167, 0, 13, 26, 27, 160, 0, 7, 3, 167, 0, 4, 4, 172]
abbrev dktJ9_compare_0 : List UInt8 := dkwJ9_compare_0 ++ []
theorem dksJ9_compare_0 : cJ9_compare.data.toList.drop 0 = dktJ9_compare_0 := by decide +kernel
theorem dJ9_compare_0 : decode cJ9_compare 0 = .ok (.iload_n 0, 1) := dk_26 (dk_at dksJ9_compare_0 0 rfl rfl)
theorem dJ9_compare_1 : decode cJ9_compare 1 = .ok (.iload_n 1, 1) := dk_27 (dk_at dksJ9_compare_0 1 rfl rfl)
theorem dJ9_compare_2 : decode cJ9_compare 2 = .ok (.if_icmp .ge 7, 3) := dk_162 0 7 (dk_at dksJ9_compare_0 2 rfl rfl)
theorem dJ9_compare_5 : decode cJ9_compare 5 = .ok (.iconst (-1), 1) := dk_2 (dk_at dksJ9_compare_0 5 rfl rfl)
theorem dJ9_compare_6 : decode cJ9_compare 6 = .ok (.goto 13, 3) := dk_167 0 13 (dk_at dksJ9_compare_0 6 rfl rfl)
theorem dJ9_compare_9 : decode cJ9_compare 9 = .ok (.iload_n 0, 1) := dk_26 (dk_at dksJ9_compare_0 9 rfl rfl)
theorem dJ9_compare_10 : decode cJ9_compare 10 = .ok (.iload_n 1, 1) := dk_27 (dk_at dksJ9_compare_0 10 rfl rfl)
theorem dJ9_compare_11 : decode cJ9_compare 11 = .ok (.if_icmp .ne 7, 3) := dk_160 0 7 (dk_at dksJ9_compare_0 11 rfl rfl)
theorem dJ9_compare_14 : decode cJ9_compare 14 = .ok (.iconst 0, 1) := dk_3 (dk_at dksJ9_compare_0 14 rfl rfl)
theorem dJ9_compare_15 : decode cJ9_compare 15 = .ok (.goto 4, 3) := dk_167 0 4 (dk_at dksJ9_compare_0 15 rfl rfl)
theorem dJ9_compare_18 : decode cJ9_compare 18 = .ok (.iconst 1, 1) := dk_4 (dk_at dksJ9_compare_0 18 rfl rfl)
theorem dJ9_compare_19 : decode cJ9_compare 19 = .ok (.ireturn, 1) := dk_172 (dk_at dksJ9_compare_0 19 rfl rfl)
abbrev cJ9_numberOfTrailingZeros : ByteArray := prog_34_method_48_code
def yJ9_numberOfTrailingZeros : MethodName := ⟨RJ9, "numberOfTrailingZeros", "(I)I"⟩
def dkwJ9_numberOfTrailingZeros_3 : List UInt8 := [5, 124, 59, 27, 26, 4, 124, 96, 172]
abbrev dktJ9_numberOfTrailingZeros_3 : List UInt8 := dkwJ9_numberOfTrailingZeros_3 ++ []
def dkwJ9_numberOfTrailingZeros_2 : List UInt8 := [124, 59, 26, 16, 16, 164, 0, 10, 132, 1, 4, 26, 7, 124, 59, 26, 7, 164, 0, 10, 132, 1, 2, 26]
abbrev dktJ9_numberOfTrailingZeros_2 : List UInt8 := dkwJ9_numberOfTrailingZeros_2 ++ dktJ9_numberOfTrailingZeros_3
def dkwJ9_numberOfTrailingZeros_1 : List UInt8 := [164, 0, 11, 132, 1, 16, 26, 16, 16, 124, 59, 26, 17, 1, 0, 164, 0, 11, 132, 1, 8, 26, 16, 8]
abbrev dktJ9_numberOfTrailingZeros_1 : List UInt8 := dkwJ9_numberOfTrailingZeros_1 ++ dktJ9_numberOfTrailingZeros_2
def dkwJ9_numberOfTrailingZeros_0 : List UInt8 := [26, 2, 130, 26, 4, 100, 126, 59, 26, 157, 0, 8, 26, 16, 32, 126, 172, 4, 60, 26, 19, 1, 8]
abbrev dktJ9_numberOfTrailingZeros_0 : List UInt8 := dkwJ9_numberOfTrailingZeros_0 ++ dktJ9_numberOfTrailingZeros_1
theorem dksJ9_numberOfTrailingZeros_0 : cJ9_numberOfTrailingZeros.data.toList.drop 0 = dktJ9_numberOfTrailingZeros_0 := by decide +kernel
theorem dksJ9_numberOfTrailingZeros_1 : cJ9_numberOfTrailingZeros.data.toList.drop 23 = dktJ9_numberOfTrailingZeros_1 := dk_seg dksJ9_numberOfTrailingZeros_0 23 rfl rfl
theorem dksJ9_numberOfTrailingZeros_2 : cJ9_numberOfTrailingZeros.data.toList.drop 47 = dktJ9_numberOfTrailingZeros_2 := dk_seg dksJ9_numberOfTrailingZeros_1 24 rfl rfl
theorem dksJ9_numberOfTrailingZeros_3 : cJ9_numberOfTrailingZeros.data.toList.drop 71 = dktJ9_numberOfTrailingZeros_3 := dk_seg dksJ9_numberOfTrailingZeros_2 24 rfl rfl
theorem dJ9_numberOfTrailingZeros_0 : decode cJ9_numberOfTrailingZeros 0 = .ok (.iload_n 0, 1) := dk_26 (dk_at dksJ9_numberOfTrailingZeros_0 0 rfl rfl)
theorem dJ9_numberOfTrailingZeros_1 : decode cJ9_numberOfTrailingZeros 1 = .ok (.iconst (-1), 1) := dk_2 (dk_at dksJ9_numberOfTrailingZeros_0 1 rfl rfl)
theorem dJ9_numberOfTrailingZeros_2 : decode cJ9_numberOfTrailingZeros 2 = .ok (.ixor, 1) := dk_130 (dk_at dksJ9_numberOfTrailingZeros_0 2 rfl rfl)
theorem dJ9_numberOfTrailingZeros_3 : decode cJ9_numberOfTrailingZeros 3 = .ok (.iload_n 0, 1) := dk_26 (dk_at dksJ9_numberOfTrailingZeros_0 3 rfl rfl)
theorem dJ9_numberOfTrailingZeros_4 : decode cJ9_numberOfTrailingZeros 4 = .ok (.iconst 1, 1) := dk_4 (dk_at dksJ9_numberOfTrailingZeros_0 4 rfl rfl)
theorem dJ9_numberOfTrailingZeros_5 : decode cJ9_numberOfTrailingZeros 5 = .ok (.isub, 1) := dk_100 (dk_at dksJ9_numberOfTrailingZeros_0 5 rfl rfl)
theorem dJ9_numberOfTrailingZeros_6 : decode cJ9_numberOfTrailingZeros 6 = .ok (.iand, 1) := dk_126 (dk_at dksJ9_numberOfTrailingZeros_0 6 rfl rfl)
theorem dJ9_numberOfTrailingZeros_7 : decode cJ9_numberOfTrailingZeros 7 = .ok (.istore_n 0, 1) := dk_59 (dk_at dksJ9_numberOfTrailingZeros_0 7 rfl rfl)
theorem dJ9_numberOfTrailingZeros_8 : decode cJ9_numberOfTrailingZeros 8 = .ok (.iload_n 0, 1) := dk_26 (dk_at dksJ9_numberOfTrailingZeros_0 8 rfl rfl)
theorem dJ9_numberOfTrailingZeros_9 : decode cJ9_numberOfTrailingZeros 9 = .ok (.ifCond .gt 8, 3) := dk_157 0 8 (dk_at dksJ9_numberOfTrailingZeros_0 9 rfl rfl)
theorem dJ9_numberOfTrailingZeros_12 : decode cJ9_numberOfTrailingZeros 12 = .ok (.iload_n 0, 1) := dk_26 (dk_at dksJ9_numberOfTrailingZeros_0 12 rfl rfl)
theorem dJ9_numberOfTrailingZeros_13 : decode cJ9_numberOfTrailingZeros 13 = .ok (.bipush 32, 2) := dk_16 32 (dk_at dksJ9_numberOfTrailingZeros_0 13 rfl rfl)
theorem dJ9_numberOfTrailingZeros_15 : decode cJ9_numberOfTrailingZeros 15 = .ok (.iand, 1) := dk_126 (dk_at dksJ9_numberOfTrailingZeros_0 15 rfl rfl)
theorem dJ9_numberOfTrailingZeros_16 : decode cJ9_numberOfTrailingZeros 16 = .ok (.ireturn, 1) := dk_172 (dk_at dksJ9_numberOfTrailingZeros_0 16 rfl rfl)
theorem dJ9_numberOfTrailingZeros_17 : decode cJ9_numberOfTrailingZeros 17 = .ok (.iconst 1, 1) := dk_4 (dk_at dksJ9_numberOfTrailingZeros_0 17 rfl rfl)
theorem dJ9_numberOfTrailingZeros_18 : decode cJ9_numberOfTrailingZeros 18 = .ok (.istore_n 1, 1) := dk_60 (dk_at dksJ9_numberOfTrailingZeros_0 18 rfl rfl)
theorem dJ9_numberOfTrailingZeros_19 : decode cJ9_numberOfTrailingZeros 19 = .ok (.iload_n 0, 1) := dk_26 (dk_at dksJ9_numberOfTrailingZeros_0 19 rfl rfl)
theorem dJ9_numberOfTrailingZeros_20 : decode cJ9_numberOfTrailingZeros 20 = .ok (.ldc_w 264, 3) := dk_19 1 8 (dk_at dksJ9_numberOfTrailingZeros_0 20 rfl rfl)
theorem dJ9_numberOfTrailingZeros_23 : decode cJ9_numberOfTrailingZeros 23 = .ok (.if_icmp .le 11, 3) := dk_164 0 11 (dk_at dksJ9_numberOfTrailingZeros_1 0 rfl rfl)
theorem dJ9_numberOfTrailingZeros_26 : decode cJ9_numberOfTrailingZeros 26 = .ok (.iinc 1 16, 3) := dk_132 1 16 (dk_at dksJ9_numberOfTrailingZeros_1 3 rfl rfl)
theorem dJ9_numberOfTrailingZeros_29 : decode cJ9_numberOfTrailingZeros 29 = .ok (.iload_n 0, 1) := dk_26 (dk_at dksJ9_numberOfTrailingZeros_1 6 rfl rfl)
theorem dJ9_numberOfTrailingZeros_30 : decode cJ9_numberOfTrailingZeros 30 = .ok (.bipush 16, 2) := dk_16 16 (dk_at dksJ9_numberOfTrailingZeros_1 7 rfl rfl)
theorem dJ9_numberOfTrailingZeros_32 : decode cJ9_numberOfTrailingZeros 32 = .ok (.iushr, 1) := dk_124 (dk_at dksJ9_numberOfTrailingZeros_1 9 rfl rfl)
theorem dJ9_numberOfTrailingZeros_33 : decode cJ9_numberOfTrailingZeros 33 = .ok (.istore_n 0, 1) := dk_59 (dk_at dksJ9_numberOfTrailingZeros_1 10 rfl rfl)
theorem dJ9_numberOfTrailingZeros_34 : decode cJ9_numberOfTrailingZeros 34 = .ok (.iload_n 0, 1) := dk_26 (dk_at dksJ9_numberOfTrailingZeros_1 11 rfl rfl)
theorem dJ9_numberOfTrailingZeros_35 : decode cJ9_numberOfTrailingZeros 35 = .ok (.sipush 256, 3) := dk_17 1 0 (dk_at dksJ9_numberOfTrailingZeros_1 12 rfl rfl)
theorem dJ9_numberOfTrailingZeros_38 : decode cJ9_numberOfTrailingZeros 38 = .ok (.if_icmp .le 11, 3) := dk_164 0 11 (dk_at dksJ9_numberOfTrailingZeros_1 15 rfl rfl)
theorem dJ9_numberOfTrailingZeros_41 : decode cJ9_numberOfTrailingZeros 41 = .ok (.iinc 1 8, 3) := dk_132 1 8 (dk_at dksJ9_numberOfTrailingZeros_1 18 rfl rfl)
theorem dJ9_numberOfTrailingZeros_44 : decode cJ9_numberOfTrailingZeros 44 = .ok (.iload_n 0, 1) := dk_26 (dk_at dksJ9_numberOfTrailingZeros_1 21 rfl rfl)
theorem dJ9_numberOfTrailingZeros_45 : decode cJ9_numberOfTrailingZeros 45 = .ok (.bipush 8, 2) := dk_16 8 (dk_at dksJ9_numberOfTrailingZeros_1 22 rfl rfl)
theorem dJ9_numberOfTrailingZeros_47 : decode cJ9_numberOfTrailingZeros 47 = .ok (.iushr, 1) := dk_124 (dk_at dksJ9_numberOfTrailingZeros_2 0 rfl rfl)
theorem dJ9_numberOfTrailingZeros_48 : decode cJ9_numberOfTrailingZeros 48 = .ok (.istore_n 0, 1) := dk_59 (dk_at dksJ9_numberOfTrailingZeros_2 1 rfl rfl)
theorem dJ9_numberOfTrailingZeros_49 : decode cJ9_numberOfTrailingZeros 49 = .ok (.iload_n 0, 1) := dk_26 (dk_at dksJ9_numberOfTrailingZeros_2 2 rfl rfl)
theorem dJ9_numberOfTrailingZeros_50 : decode cJ9_numberOfTrailingZeros 50 = .ok (.bipush 16, 2) := dk_16 16 (dk_at dksJ9_numberOfTrailingZeros_2 3 rfl rfl)
theorem dJ9_numberOfTrailingZeros_52 : decode cJ9_numberOfTrailingZeros 52 = .ok (.if_icmp .le 10, 3) := dk_164 0 10 (dk_at dksJ9_numberOfTrailingZeros_2 5 rfl rfl)
theorem dJ9_numberOfTrailingZeros_55 : decode cJ9_numberOfTrailingZeros 55 = .ok (.iinc 1 4, 3) := dk_132 1 4 (dk_at dksJ9_numberOfTrailingZeros_2 8 rfl rfl)
theorem dJ9_numberOfTrailingZeros_58 : decode cJ9_numberOfTrailingZeros 58 = .ok (.iload_n 0, 1) := dk_26 (dk_at dksJ9_numberOfTrailingZeros_2 11 rfl rfl)
theorem dJ9_numberOfTrailingZeros_59 : decode cJ9_numberOfTrailingZeros 59 = .ok (.iconst 4, 1) := dk_7 (dk_at dksJ9_numberOfTrailingZeros_2 12 rfl rfl)
theorem dJ9_numberOfTrailingZeros_60 : decode cJ9_numberOfTrailingZeros 60 = .ok (.iushr, 1) := dk_124 (dk_at dksJ9_numberOfTrailingZeros_2 13 rfl rfl)
theorem dJ9_numberOfTrailingZeros_61 : decode cJ9_numberOfTrailingZeros 61 = .ok (.istore_n 0, 1) := dk_59 (dk_at dksJ9_numberOfTrailingZeros_2 14 rfl rfl)
theorem dJ9_numberOfTrailingZeros_62 : decode cJ9_numberOfTrailingZeros 62 = .ok (.iload_n 0, 1) := dk_26 (dk_at dksJ9_numberOfTrailingZeros_2 15 rfl rfl)
theorem dJ9_numberOfTrailingZeros_63 : decode cJ9_numberOfTrailingZeros 63 = .ok (.iconst 4, 1) := dk_7 (dk_at dksJ9_numberOfTrailingZeros_2 16 rfl rfl)
theorem dJ9_numberOfTrailingZeros_64 : decode cJ9_numberOfTrailingZeros 64 = .ok (.if_icmp .le 10, 3) := dk_164 0 10 (dk_at dksJ9_numberOfTrailingZeros_2 17 rfl rfl)
theorem dJ9_numberOfTrailingZeros_67 : decode cJ9_numberOfTrailingZeros 67 = .ok (.iinc 1 2, 3) := dk_132 1 2 (dk_at dksJ9_numberOfTrailingZeros_2 20 rfl rfl)
theorem dJ9_numberOfTrailingZeros_70 : decode cJ9_numberOfTrailingZeros 70 = .ok (.iload_n 0, 1) := dk_26 (dk_at dksJ9_numberOfTrailingZeros_2 23 rfl rfl)
theorem dJ9_numberOfTrailingZeros_71 : decode cJ9_numberOfTrailingZeros 71 = .ok (.iconst 2, 1) := dk_5 (dk_at dksJ9_numberOfTrailingZeros_3 0 rfl rfl)
theorem dJ9_numberOfTrailingZeros_72 : decode cJ9_numberOfTrailingZeros 72 = .ok (.iushr, 1) := dk_124 (dk_at dksJ9_numberOfTrailingZeros_3 1 rfl rfl)
theorem dJ9_numberOfTrailingZeros_73 : decode cJ9_numberOfTrailingZeros 73 = .ok (.istore_n 0, 1) := dk_59 (dk_at dksJ9_numberOfTrailingZeros_3 2 rfl rfl)
theorem dJ9_numberOfTrailingZeros_74 : decode cJ9_numberOfTrailingZeros 74 = .ok (.iload_n 1, 1) := dk_27 (dk_at dksJ9_numberOfTrailingZeros_3 3 rfl rfl)
theorem dJ9_numberOfTrailingZeros_75 : decode cJ9_numberOfTrailingZeros 75 = .ok (.iload_n 0, 1) := dk_26 (dk_at dksJ9_numberOfTrailingZeros_3 4 rfl rfl)
theorem dJ9_numberOfTrailingZeros_76 : decode cJ9_numberOfTrailingZeros 76 = .ok (.iconst 1, 1) := dk_4 (dk_at dksJ9_numberOfTrailingZeros_3 5 rfl rfl)
theorem dJ9_numberOfTrailingZeros_77 : decode cJ9_numberOfTrailingZeros 77 = .ok (.iushr, 1) := dk_124 (dk_at dksJ9_numberOfTrailingZeros_3 6 rfl rfl)
theorem dJ9_numberOfTrailingZeros_78 : decode cJ9_numberOfTrailingZeros 78 = .ok (.iadd, 1) := dk_96 (dk_at dksJ9_numberOfTrailingZeros_3 7 rfl rfl)
theorem dJ9_numberOfTrailingZeros_79 : decode cJ9_numberOfTrailingZeros 79 = .ok (.ireturn, 1) := dk_172 (dk_at dksJ9_numberOfTrailingZeros_3 8 rfl rfl)
abbrev cJ9_valueOf : ByteArray := prog_34_method_22_code
def yJ9_valueOf : MethodName := ⟨RJ9, "valueOf", "(I)Ljava/lang/Integer;"⟩
def dkwJ9_valueOf_1 : List UInt8 := [187, 0, 1, 89, 26, 183, 0, 199, 176]
abbrev dktJ9_valueOf_1 : List UInt8 := dkwJ9_valueOf_1 ++ []
def dkwJ9_valueOf_0 : List UInt8 := [26, 16, 128, 161, 0, 20, 26, 178, 0, 191, 163, 0, 13, 178, 0, 195, 26, 17, 0, 128, 96, 50, 176]
abbrev dktJ9_valueOf_0 : List UInt8 := dkwJ9_valueOf_0 ++ dktJ9_valueOf_1
theorem dksJ9_valueOf_0 : cJ9_valueOf.data.toList.drop 0 = dktJ9_valueOf_0 := by decide +kernel
theorem dksJ9_valueOf_1 : cJ9_valueOf.data.toList.drop 23 = dktJ9_valueOf_1 := dk_seg dksJ9_valueOf_0 23 rfl rfl
theorem dJ9_valueOf_0 : decode cJ9_valueOf 0 = .ok (.iload_n 0, 1) := dk_26 (dk_at dksJ9_valueOf_0 0 rfl rfl)
theorem dJ9_valueOf_1 : decode cJ9_valueOf 1 = .ok (.bipush (-128), 2) := dk_16 128 (dk_at dksJ9_valueOf_0 1 rfl rfl)
theorem dJ9_valueOf_3 : decode cJ9_valueOf 3 = .ok (.if_icmp .lt 20, 3) := dk_161 0 20 (dk_at dksJ9_valueOf_0 3 rfl rfl)
theorem dJ9_valueOf_6 : decode cJ9_valueOf 6 = .ok (.iload_n 0, 1) := dk_26 (dk_at dksJ9_valueOf_0 6 rfl rfl)
theorem dJ9_valueOf_7 : decode cJ9_valueOf 7 = .ok (.getstatic 191, 3) := dk_178 0 191 (dk_at dksJ9_valueOf_0 7 rfl rfl)
theorem dJ9_valueOf_10 : decode cJ9_valueOf 10 = .ok (.if_icmp .gt 13, 3) := dk_163 0 13 (dk_at dksJ9_valueOf_0 10 rfl rfl)
theorem dJ9_valueOf_13 : decode cJ9_valueOf 13 = .ok (.getstatic 195, 3) := dk_178 0 195 (dk_at dksJ9_valueOf_0 13 rfl rfl)
theorem dJ9_valueOf_16 : decode cJ9_valueOf 16 = .ok (.iload_n 0, 1) := dk_26 (dk_at dksJ9_valueOf_0 16 rfl rfl)
theorem dJ9_valueOf_17 : decode cJ9_valueOf 17 = .ok (.sipush 128, 3) := dk_17 0 128 (dk_at dksJ9_valueOf_0 17 rfl rfl)
theorem dJ9_valueOf_20 : decode cJ9_valueOf 20 = .ok (.iadd, 1) := dk_96 (dk_at dksJ9_valueOf_0 20 rfl rfl)
theorem dJ9_valueOf_21 : decode cJ9_valueOf 21 = .ok (.aaload, 1) := dk_50 (dk_at dksJ9_valueOf_0 21 rfl rfl)
theorem dJ9_valueOf_22 : decode cJ9_valueOf 22 = .ok (.areturn, 1) := dk_176 (dk_at dksJ9_valueOf_0 22 rfl rfl)
theorem dJ9_valueOf_23 : decode cJ9_valueOf 23 = .ok (.new 1, 3) := dk_187 0 1 (dk_at dksJ9_valueOf_1 0 rfl rfl)
theorem dJ9_valueOf_26 : decode cJ9_valueOf 26 = .ok (.dup, 1) := dk_89 (dk_at dksJ9_valueOf_1 3 rfl rfl)
theorem dJ9_valueOf_27 : decode cJ9_valueOf 27 = .ok (.iload_n 0, 1) := dk_26 (dk_at dksJ9_valueOf_1 4 rfl rfl)
theorem dJ9_valueOf_28 : decode cJ9_valueOf 28 = .ok (.invokespecial 199, 3) := dk_183 0 199 (dk_at dksJ9_valueOf_1 5 rfl rfl)
theorem dJ9_valueOf_31 : decode cJ9_valueOf 31 = .ok (.areturn, 1) := dk_176 (dk_at dksJ9_valueOf_1 8 rfl rfl)
abbrev cJ9_init : ByteArray := prog_34_method_23_code
def yJ9_init : MethodName := ⟨RJ9, "<init>", "(I)V"⟩
def dkwJ9_init_0 : List UInt8 := [42, 183, 0, 202, 42, 27, 181, 0, 205, 177]
abbrev dktJ9_init_0 : List UInt8 := dkwJ9_init_0 ++ []
theorem dksJ9_init_0 : cJ9_init.data.toList.drop 0 = dktJ9_init_0 := by decide +kernel
theorem dJ9_init_0 : decode cJ9_init 0 = .ok (.aload_n 0, 1) := dk_42 (dk_at dksJ9_init_0 0 rfl rfl)
theorem dJ9_init_1 : decode cJ9_init 1 = .ok (.invokespecial 202, 3) := dk_183 0 202 (dk_at dksJ9_init_0 1 rfl rfl)
theorem dJ9_init_4 : decode cJ9_init 4 = .ok (.aload_n 0, 1) := dk_42 (dk_at dksJ9_init_0 4 rfl rfl)
theorem dJ9_init_5 : decode cJ9_init 5 = .ok (.iload_n 1, 1) := dk_27 (dk_at dksJ9_init_0 5 rfl rfl)
theorem dJ9_init_6 : decode cJ9_init 6 = .ok (.putfield 205, 3) := dk_181 0 205 (dk_at dksJ9_init_0 6 rfl rfl)
theorem dJ9_init_9 : decode cJ9_init 9 = .ok (.return_, 1) := dk_177 (dk_at dksJ9_init_0 9 rfl rfl)
abbrev cJ9_bitCount : ByteArray := prog_34_method_49_code
def yJ9_bitCount : MethodName := ⟨RJ9, "bitCount", "(I)I"⟩
def dkwJ9_bitCount_2 : List UInt8 := [26, 16, 63, 126, 172]
abbrev dktJ9_bitCount_2 : List UInt8 := dkwJ9_bitCount_2 ++ []
def dkwJ9_bitCount_1 : List UInt8 := [26, 26, 7, 124, 96, 19, 1, 11, 126, 59, 26, 26, 16, 8, 124, 96, 59, 26, 26, 16, 16, 124, 96, 59]
abbrev dktJ9_bitCount_1 : List UInt8 := dkwJ9_bitCount_1 ++ dktJ9_bitCount_2
def dkwJ9_bitCount_0 : List UInt8 := [26, 26, 4, 124, 19, 1, 9, 126, 100, 59, 26, 19, 1, 10, 126, 26, 5, 124, 19, 1, 10, 126, 96, 59]
abbrev dktJ9_bitCount_0 : List UInt8 := dkwJ9_bitCount_0 ++ dktJ9_bitCount_1
theorem dksJ9_bitCount_0 : cJ9_bitCount.data.toList.drop 0 = dktJ9_bitCount_0 := by decide +kernel
theorem dksJ9_bitCount_1 : cJ9_bitCount.data.toList.drop 24 = dktJ9_bitCount_1 := dk_seg dksJ9_bitCount_0 24 rfl rfl
theorem dksJ9_bitCount_2 : cJ9_bitCount.data.toList.drop 48 = dktJ9_bitCount_2 := dk_seg dksJ9_bitCount_1 24 rfl rfl
theorem dJ9_bitCount_0 : decode cJ9_bitCount 0 = .ok (.iload_n 0, 1) := dk_26 (dk_at dksJ9_bitCount_0 0 rfl rfl)
theorem dJ9_bitCount_1 : decode cJ9_bitCount 1 = .ok (.iload_n 0, 1) := dk_26 (dk_at dksJ9_bitCount_0 1 rfl rfl)
theorem dJ9_bitCount_2 : decode cJ9_bitCount 2 = .ok (.iconst 1, 1) := dk_4 (dk_at dksJ9_bitCount_0 2 rfl rfl)
theorem dJ9_bitCount_3 : decode cJ9_bitCount 3 = .ok (.iushr, 1) := dk_124 (dk_at dksJ9_bitCount_0 3 rfl rfl)
theorem dJ9_bitCount_4 : decode cJ9_bitCount 4 = .ok (.ldc_w 265, 3) := dk_19 1 9 (dk_at dksJ9_bitCount_0 4 rfl rfl)
theorem dJ9_bitCount_7 : decode cJ9_bitCount 7 = .ok (.iand, 1) := dk_126 (dk_at dksJ9_bitCount_0 7 rfl rfl)
theorem dJ9_bitCount_8 : decode cJ9_bitCount 8 = .ok (.isub, 1) := dk_100 (dk_at dksJ9_bitCount_0 8 rfl rfl)
theorem dJ9_bitCount_9 : decode cJ9_bitCount 9 = .ok (.istore_n 0, 1) := dk_59 (dk_at dksJ9_bitCount_0 9 rfl rfl)
theorem dJ9_bitCount_10 : decode cJ9_bitCount 10 = .ok (.iload_n 0, 1) := dk_26 (dk_at dksJ9_bitCount_0 10 rfl rfl)
theorem dJ9_bitCount_11 : decode cJ9_bitCount 11 = .ok (.ldc_w 266, 3) := dk_19 1 10 (dk_at dksJ9_bitCount_0 11 rfl rfl)
theorem dJ9_bitCount_14 : decode cJ9_bitCount 14 = .ok (.iand, 1) := dk_126 (dk_at dksJ9_bitCount_0 14 rfl rfl)
theorem dJ9_bitCount_15 : decode cJ9_bitCount 15 = .ok (.iload_n 0, 1) := dk_26 (dk_at dksJ9_bitCount_0 15 rfl rfl)
theorem dJ9_bitCount_16 : decode cJ9_bitCount 16 = .ok (.iconst 2, 1) := dk_5 (dk_at dksJ9_bitCount_0 16 rfl rfl)
theorem dJ9_bitCount_17 : decode cJ9_bitCount 17 = .ok (.iushr, 1) := dk_124 (dk_at dksJ9_bitCount_0 17 rfl rfl)
theorem dJ9_bitCount_18 : decode cJ9_bitCount 18 = .ok (.ldc_w 266, 3) := dk_19 1 10 (dk_at dksJ9_bitCount_0 18 rfl rfl)
theorem dJ9_bitCount_21 : decode cJ9_bitCount 21 = .ok (.iand, 1) := dk_126 (dk_at dksJ9_bitCount_0 21 rfl rfl)
theorem dJ9_bitCount_22 : decode cJ9_bitCount 22 = .ok (.iadd, 1) := dk_96 (dk_at dksJ9_bitCount_0 22 rfl rfl)
theorem dJ9_bitCount_23 : decode cJ9_bitCount 23 = .ok (.istore_n 0, 1) := dk_59 (dk_at dksJ9_bitCount_0 23 rfl rfl)
theorem dJ9_bitCount_24 : decode cJ9_bitCount 24 = .ok (.iload_n 0, 1) := dk_26 (dk_at dksJ9_bitCount_1 0 rfl rfl)
theorem dJ9_bitCount_25 : decode cJ9_bitCount 25 = .ok (.iload_n 0, 1) := dk_26 (dk_at dksJ9_bitCount_1 1 rfl rfl)
theorem dJ9_bitCount_26 : decode cJ9_bitCount 26 = .ok (.iconst 4, 1) := dk_7 (dk_at dksJ9_bitCount_1 2 rfl rfl)
theorem dJ9_bitCount_27 : decode cJ9_bitCount 27 = .ok (.iushr, 1) := dk_124 (dk_at dksJ9_bitCount_1 3 rfl rfl)
theorem dJ9_bitCount_28 : decode cJ9_bitCount 28 = .ok (.iadd, 1) := dk_96 (dk_at dksJ9_bitCount_1 4 rfl rfl)
theorem dJ9_bitCount_29 : decode cJ9_bitCount 29 = .ok (.ldc_w 267, 3) := dk_19 1 11 (dk_at dksJ9_bitCount_1 5 rfl rfl)
theorem dJ9_bitCount_32 : decode cJ9_bitCount 32 = .ok (.iand, 1) := dk_126 (dk_at dksJ9_bitCount_1 8 rfl rfl)
theorem dJ9_bitCount_33 : decode cJ9_bitCount 33 = .ok (.istore_n 0, 1) := dk_59 (dk_at dksJ9_bitCount_1 9 rfl rfl)
theorem dJ9_bitCount_34 : decode cJ9_bitCount 34 = .ok (.iload_n 0, 1) := dk_26 (dk_at dksJ9_bitCount_1 10 rfl rfl)
theorem dJ9_bitCount_35 : decode cJ9_bitCount 35 = .ok (.iload_n 0, 1) := dk_26 (dk_at dksJ9_bitCount_1 11 rfl rfl)
theorem dJ9_bitCount_36 : decode cJ9_bitCount 36 = .ok (.bipush 8, 2) := dk_16 8 (dk_at dksJ9_bitCount_1 12 rfl rfl)
theorem dJ9_bitCount_38 : decode cJ9_bitCount 38 = .ok (.iushr, 1) := dk_124 (dk_at dksJ9_bitCount_1 14 rfl rfl)
theorem dJ9_bitCount_39 : decode cJ9_bitCount 39 = .ok (.iadd, 1) := dk_96 (dk_at dksJ9_bitCount_1 15 rfl rfl)
theorem dJ9_bitCount_40 : decode cJ9_bitCount 40 = .ok (.istore_n 0, 1) := dk_59 (dk_at dksJ9_bitCount_1 16 rfl rfl)
theorem dJ9_bitCount_41 : decode cJ9_bitCount 41 = .ok (.iload_n 0, 1) := dk_26 (dk_at dksJ9_bitCount_1 17 rfl rfl)
theorem dJ9_bitCount_42 : decode cJ9_bitCount 42 = .ok (.iload_n 0, 1) := dk_26 (dk_at dksJ9_bitCount_1 18 rfl rfl)
theorem dJ9_bitCount_43 : decode cJ9_bitCount 43 = .ok (.bipush 16, 2) := dk_16 16 (dk_at dksJ9_bitCount_1 19 rfl rfl)
theorem dJ9_bitCount_45 : decode cJ9_bitCount 45 = .ok (.iushr, 1) := dk_124 (dk_at dksJ9_bitCount_1 21 rfl rfl)
theorem dJ9_bitCount_46 : decode cJ9_bitCount 46 = .ok (.iadd, 1) := dk_96 (dk_at dksJ9_bitCount_1 22 rfl rfl)
theorem dJ9_bitCount_47 : decode cJ9_bitCount 47 = .ok (.istore_n 0, 1) := dk_59 (dk_at dksJ9_bitCount_1 23 rfl rfl)
theorem dJ9_bitCount_48 : decode cJ9_bitCount 48 = .ok (.iload_n 0, 1) := dk_26 (dk_at dksJ9_bitCount_2 0 rfl rfl)
theorem dJ9_bitCount_49 : decode cJ9_bitCount 49 = .ok (.bipush 63, 2) := dk_16 63 (dk_at dksJ9_bitCount_2 1 rfl rfl)
theorem dJ9_bitCount_51 : decode cJ9_bitCount 51 = .ok (.iand, 1) := dk_126 (dk_at dksJ9_bitCount_2 3 rfl rfl)
theorem dJ9_bitCount_52 : decode cJ9_bitCount 52 = .ok (.ireturn, 1) := dk_172 (dk_at dksJ9_bitCount_2 4 rfl rfl)
abbrev cJ9_stringSize : ByteArray := prog_34_method_13_code
def yJ9_stringSize : MethodName := ⟨RJ9, "stringSize", "(I)I"⟩
def dkwJ9_stringSize_1 : List UInt8 := [164, 0, 7, 29, 27, 96, 172, 16, 10, 28, 104, 61, 132, 3, 1, 167, 255, 233, 16, 10, 27, 96, 172]
abbrev dktJ9_stringSize_1 : List UInt8 := dkwJ9_stringSize_1 ++ []
def dkwJ9_stringSize_0 : List UInt8 := [4, 60, 26, 155, 0, 8, 3, 60, 26, 116, 59, 16, 246, 61, 4, 62, 29, 16, 10, 162, 0, 23, 26, 28]
abbrev dktJ9_stringSize_0 : List UInt8 := dkwJ9_stringSize_0 ++ dktJ9_stringSize_1
theorem dksJ9_stringSize_0 : cJ9_stringSize.data.toList.drop 0 = dktJ9_stringSize_0 := by decide +kernel
theorem dksJ9_stringSize_1 : cJ9_stringSize.data.toList.drop 24 = dktJ9_stringSize_1 := dk_seg dksJ9_stringSize_0 24 rfl rfl
theorem dJ9_stringSize_0 : decode cJ9_stringSize 0 = .ok (.iconst 1, 1) := dk_4 (dk_at dksJ9_stringSize_0 0 rfl rfl)
theorem dJ9_stringSize_1 : decode cJ9_stringSize 1 = .ok (.istore_n 1, 1) := dk_60 (dk_at dksJ9_stringSize_0 1 rfl rfl)
theorem dJ9_stringSize_2 : decode cJ9_stringSize 2 = .ok (.iload_n 0, 1) := dk_26 (dk_at dksJ9_stringSize_0 2 rfl rfl)
theorem dJ9_stringSize_3 : decode cJ9_stringSize 3 = .ok (.ifCond .lt 8, 3) := dk_155 0 8 (dk_at dksJ9_stringSize_0 3 rfl rfl)
theorem dJ9_stringSize_6 : decode cJ9_stringSize 6 = .ok (.iconst 0, 1) := dk_3 (dk_at dksJ9_stringSize_0 6 rfl rfl)
theorem dJ9_stringSize_7 : decode cJ9_stringSize 7 = .ok (.istore_n 1, 1) := dk_60 (dk_at dksJ9_stringSize_0 7 rfl rfl)
theorem dJ9_stringSize_8 : decode cJ9_stringSize 8 = .ok (.iload_n 0, 1) := dk_26 (dk_at dksJ9_stringSize_0 8 rfl rfl)
theorem dJ9_stringSize_9 : decode cJ9_stringSize 9 = .ok (.ineg, 1) := dk_116 (dk_at dksJ9_stringSize_0 9 rfl rfl)
theorem dJ9_stringSize_10 : decode cJ9_stringSize 10 = .ok (.istore_n 0, 1) := dk_59 (dk_at dksJ9_stringSize_0 10 rfl rfl)
theorem dJ9_stringSize_11 : decode cJ9_stringSize 11 = .ok (.bipush (-10), 2) := dk_16 246 (dk_at dksJ9_stringSize_0 11 rfl rfl)
theorem dJ9_stringSize_13 : decode cJ9_stringSize 13 = .ok (.istore_n 2, 1) := dk_61 (dk_at dksJ9_stringSize_0 13 rfl rfl)
theorem dJ9_stringSize_14 : decode cJ9_stringSize 14 = .ok (.iconst 1, 1) := dk_4 (dk_at dksJ9_stringSize_0 14 rfl rfl)
theorem dJ9_stringSize_15 : decode cJ9_stringSize 15 = .ok (.istore_n 3, 1) := dk_62 (dk_at dksJ9_stringSize_0 15 rfl rfl)
theorem dJ9_stringSize_16 : decode cJ9_stringSize 16 = .ok (.iload_n 3, 1) := dk_29 (dk_at dksJ9_stringSize_0 16 rfl rfl)
theorem dJ9_stringSize_17 : decode cJ9_stringSize 17 = .ok (.bipush 10, 2) := dk_16 10 (dk_at dksJ9_stringSize_0 17 rfl rfl)
theorem dJ9_stringSize_19 : decode cJ9_stringSize 19 = .ok (.if_icmp .ge 23, 3) := dk_162 0 23 (dk_at dksJ9_stringSize_0 19 rfl rfl)
theorem dJ9_stringSize_22 : decode cJ9_stringSize 22 = .ok (.iload_n 0, 1) := dk_26 (dk_at dksJ9_stringSize_0 22 rfl rfl)
theorem dJ9_stringSize_23 : decode cJ9_stringSize 23 = .ok (.iload_n 2, 1) := dk_28 (dk_at dksJ9_stringSize_0 23 rfl rfl)
theorem dJ9_stringSize_24 : decode cJ9_stringSize 24 = .ok (.if_icmp .le 7, 3) := dk_164 0 7 (dk_at dksJ9_stringSize_1 0 rfl rfl)
theorem dJ9_stringSize_27 : decode cJ9_stringSize 27 = .ok (.iload_n 3, 1) := dk_29 (dk_at dksJ9_stringSize_1 3 rfl rfl)
theorem dJ9_stringSize_28 : decode cJ9_stringSize 28 = .ok (.iload_n 1, 1) := dk_27 (dk_at dksJ9_stringSize_1 4 rfl rfl)
theorem dJ9_stringSize_29 : decode cJ9_stringSize 29 = .ok (.iadd, 1) := dk_96 (dk_at dksJ9_stringSize_1 5 rfl rfl)
theorem dJ9_stringSize_30 : decode cJ9_stringSize 30 = .ok (.ireturn, 1) := dk_172 (dk_at dksJ9_stringSize_1 6 rfl rfl)
theorem dJ9_stringSize_31 : decode cJ9_stringSize 31 = .ok (.bipush 10, 2) := dk_16 10 (dk_at dksJ9_stringSize_1 7 rfl rfl)
theorem dJ9_stringSize_33 : decode cJ9_stringSize 33 = .ok (.iload_n 2, 1) := dk_28 (dk_at dksJ9_stringSize_1 9 rfl rfl)
theorem dJ9_stringSize_34 : decode cJ9_stringSize 34 = .ok (.imul, 1) := dk_104 (dk_at dksJ9_stringSize_1 10 rfl rfl)
theorem dJ9_stringSize_35 : decode cJ9_stringSize 35 = .ok (.istore_n 2, 1) := dk_61 (dk_at dksJ9_stringSize_1 11 rfl rfl)
theorem dJ9_stringSize_36 : decode cJ9_stringSize 36 = .ok (.iinc 3 1, 3) := dk_132 3 1 (dk_at dksJ9_stringSize_1 12 rfl rfl)
theorem dJ9_stringSize_39 : decode cJ9_stringSize 39 = .ok (.goto (-23), 3) := dk_167 255 233 (dk_at dksJ9_stringSize_1 15 rfl rfl)
theorem dJ9_stringSize_42 : decode cJ9_stringSize 42 = .ok (.bipush 10, 2) := dk_16 10 (dk_at dksJ9_stringSize_1 18 rfl rfl)
theorem dJ9_stringSize_44 : decode cJ9_stringSize 44 = .ok (.iload_n 1, 1) := dk_27 (dk_at dksJ9_stringSize_1 20 rfl rfl)
theorem dJ9_stringSize_45 : decode cJ9_stringSize 45 = .ok (.iadd, 1) := dk_96 (dk_at dksJ9_stringSize_1 21 rfl rfl)
theorem dJ9_stringSize_46 : decode cJ9_stringSize 46 = .ok (.ireturn, 1) := dk_172 (dk_at dksJ9_stringSize_1 22 rfl rfl)
abbrev cJ9_getChars : ByteArray := prog_34_method_12_code
def yJ9_getChars : MethodName := ⟨RJ9, "getChars", "(II[B)I"⟩
def dkwJ9_getChars_5 : List UInt8 := [16, 45, 84, 21, 5, 172]
abbrev dktJ9_getChars_5 : List UInt8 := dkwJ9_getChars_5 ++ []
def dkwJ9_getChars_4 : List UInt8 := [132, 5, 255, 21, 5, 178, 0, 87, 26, 116, 51, 84, 21, 6, 153, 0, 12, 44, 132, 5, 255, 21, 5]
abbrev dktJ9_getChars_4 : List UInt8 := dkwJ9_getChars_4 ++ dktJ9_getChars_5
def dkwJ9_getChars_3 : List UInt8 := [167, 255, 209, 44, 132, 5, 255, 21, 5, 178, 0, 83, 26, 116, 51, 84, 26, 16, 247, 162, 0, 16, 44]
abbrev dktJ9_getChars_3 : List UInt8 := dkwJ9_getChars_3 ++ dktJ9_getChars_4
def dkwJ9_getChars_2 : List UInt8 := [21, 5, 178, 0, 83, 21, 4, 51, 84, 44, 132, 5, 255, 21, 5, 178, 0, 87, 21, 4, 51, 84]
abbrev dktJ9_getChars_2 : List UInt8 := dkwJ9_getChars_2 ++ dktJ9_getChars_3
def dkwJ9_getChars_1 : List UInt8 := [16, 156, 163, 0, 47, 26, 16, 100, 108, 62, 29, 16, 100, 104, 26, 100, 54, 4, 29, 59, 44, 132, 5, 255]
abbrev dktJ9_getChars_1 : List UInt8 := dkwJ9_getChars_1 ++ dktJ9_getChars_2
def dkwJ9_getChars_0 : List UInt8 := [27, 54, 5, 26, 156, 0, 7, 4, 167, 0, 4, 3, 54, 6, 21, 6, 154, 0, 6, 26, 116, 59, 26]
abbrev dktJ9_getChars_0 : List UInt8 := dkwJ9_getChars_0 ++ dktJ9_getChars_1
theorem dksJ9_getChars_0 : cJ9_getChars.data.toList.drop 0 = dktJ9_getChars_0 := by decide +kernel
theorem dksJ9_getChars_1 : cJ9_getChars.data.toList.drop 23 = dktJ9_getChars_1 := dk_seg dksJ9_getChars_0 23 rfl rfl
theorem dksJ9_getChars_2 : cJ9_getChars.data.toList.drop 47 = dktJ9_getChars_2 := dk_seg dksJ9_getChars_1 24 rfl rfl
theorem dksJ9_getChars_3 : cJ9_getChars.data.toList.drop 69 = dktJ9_getChars_3 := dk_seg dksJ9_getChars_2 22 rfl rfl
theorem dksJ9_getChars_4 : cJ9_getChars.data.toList.drop 92 = dktJ9_getChars_4 := dk_seg dksJ9_getChars_3 23 rfl rfl
theorem dksJ9_getChars_5 : cJ9_getChars.data.toList.drop 115 = dktJ9_getChars_5 := dk_seg dksJ9_getChars_4 23 rfl rfl
theorem dJ9_getChars_0 : decode cJ9_getChars 0 = .ok (.iload_n 1, 1) := dk_27 (dk_at dksJ9_getChars_0 0 rfl rfl)
theorem dJ9_getChars_1 : decode cJ9_getChars 1 = .ok (.istore 5, 2) := dk_54 5 (dk_at dksJ9_getChars_0 1 rfl rfl)
theorem dJ9_getChars_3 : decode cJ9_getChars 3 = .ok (.iload_n 0, 1) := dk_26 (dk_at dksJ9_getChars_0 3 rfl rfl)
theorem dJ9_getChars_4 : decode cJ9_getChars 4 = .ok (.ifCond .ge 7, 3) := dk_156 0 7 (dk_at dksJ9_getChars_0 4 rfl rfl)
theorem dJ9_getChars_7 : decode cJ9_getChars 7 = .ok (.iconst 1, 1) := dk_4 (dk_at dksJ9_getChars_0 7 rfl rfl)
theorem dJ9_getChars_8 : decode cJ9_getChars 8 = .ok (.goto 4, 3) := dk_167 0 4 (dk_at dksJ9_getChars_0 8 rfl rfl)
theorem dJ9_getChars_11 : decode cJ9_getChars 11 = .ok (.iconst 0, 1) := dk_3 (dk_at dksJ9_getChars_0 11 rfl rfl)
theorem dJ9_getChars_12 : decode cJ9_getChars 12 = .ok (.istore 6, 2) := dk_54 6 (dk_at dksJ9_getChars_0 12 rfl rfl)
theorem dJ9_getChars_14 : decode cJ9_getChars 14 = .ok (.iload 6, 2) := dk_21 6 (dk_at dksJ9_getChars_0 14 rfl rfl)
theorem dJ9_getChars_16 : decode cJ9_getChars 16 = .ok (.ifCond .ne 6, 3) := dk_154 0 6 (dk_at dksJ9_getChars_0 16 rfl rfl)
theorem dJ9_getChars_19 : decode cJ9_getChars 19 = .ok (.iload_n 0, 1) := dk_26 (dk_at dksJ9_getChars_0 19 rfl rfl)
theorem dJ9_getChars_20 : decode cJ9_getChars 20 = .ok (.ineg, 1) := dk_116 (dk_at dksJ9_getChars_0 20 rfl rfl)
theorem dJ9_getChars_21 : decode cJ9_getChars 21 = .ok (.istore_n 0, 1) := dk_59 (dk_at dksJ9_getChars_0 21 rfl rfl)
theorem dJ9_getChars_22 : decode cJ9_getChars 22 = .ok (.iload_n 0, 1) := dk_26 (dk_at dksJ9_getChars_0 22 rfl rfl)
theorem dJ9_getChars_23 : decode cJ9_getChars 23 = .ok (.bipush (-100), 2) := dk_16 156 (dk_at dksJ9_getChars_1 0 rfl rfl)
theorem dJ9_getChars_25 : decode cJ9_getChars 25 = .ok (.if_icmp .gt 47, 3) := dk_163 0 47 (dk_at dksJ9_getChars_1 2 rfl rfl)
theorem dJ9_getChars_28 : decode cJ9_getChars 28 = .ok (.iload_n 0, 1) := dk_26 (dk_at dksJ9_getChars_1 5 rfl rfl)
theorem dJ9_getChars_29 : decode cJ9_getChars 29 = .ok (.bipush 100, 2) := dk_16 100 (dk_at dksJ9_getChars_1 6 rfl rfl)
theorem dJ9_getChars_31 : decode cJ9_getChars 31 = .ok (.idiv, 1) := dk_108 (dk_at dksJ9_getChars_1 8 rfl rfl)
theorem dJ9_getChars_32 : decode cJ9_getChars 32 = .ok (.istore_n 3, 1) := dk_62 (dk_at dksJ9_getChars_1 9 rfl rfl)
theorem dJ9_getChars_33 : decode cJ9_getChars 33 = .ok (.iload_n 3, 1) := dk_29 (dk_at dksJ9_getChars_1 10 rfl rfl)
theorem dJ9_getChars_34 : decode cJ9_getChars 34 = .ok (.bipush 100, 2) := dk_16 100 (dk_at dksJ9_getChars_1 11 rfl rfl)
theorem dJ9_getChars_36 : decode cJ9_getChars 36 = .ok (.imul, 1) := dk_104 (dk_at dksJ9_getChars_1 13 rfl rfl)
theorem dJ9_getChars_37 : decode cJ9_getChars 37 = .ok (.iload_n 0, 1) := dk_26 (dk_at dksJ9_getChars_1 14 rfl rfl)
theorem dJ9_getChars_38 : decode cJ9_getChars 38 = .ok (.isub, 1) := dk_100 (dk_at dksJ9_getChars_1 15 rfl rfl)
theorem dJ9_getChars_39 : decode cJ9_getChars 39 = .ok (.istore 4, 2) := dk_54 4 (dk_at dksJ9_getChars_1 16 rfl rfl)
theorem dJ9_getChars_41 : decode cJ9_getChars 41 = .ok (.iload_n 3, 1) := dk_29 (dk_at dksJ9_getChars_1 18 rfl rfl)
theorem dJ9_getChars_42 : decode cJ9_getChars 42 = .ok (.istore_n 0, 1) := dk_59 (dk_at dksJ9_getChars_1 19 rfl rfl)
theorem dJ9_getChars_43 : decode cJ9_getChars 43 = .ok (.aload_n 2, 1) := dk_44 (dk_at dksJ9_getChars_1 20 rfl rfl)
theorem dJ9_getChars_44 : decode cJ9_getChars 44 = .ok (.iinc 5 (-1), 3) := dk_132 5 255 (dk_at dksJ9_getChars_1 21 rfl rfl)
theorem dJ9_getChars_47 : decode cJ9_getChars 47 = .ok (.iload 5, 2) := dk_21 5 (dk_at dksJ9_getChars_2 0 rfl rfl)
theorem dJ9_getChars_49 : decode cJ9_getChars 49 = .ok (.getstatic 83, 3) := dk_178 0 83 (dk_at dksJ9_getChars_2 2 rfl rfl)
theorem dJ9_getChars_52 : decode cJ9_getChars 52 = .ok (.iload 4, 2) := dk_21 4 (dk_at dksJ9_getChars_2 5 rfl rfl)
theorem dJ9_getChars_54 : decode cJ9_getChars 54 = .ok (.baload, 1) := dk_51 (dk_at dksJ9_getChars_2 7 rfl rfl)
theorem dJ9_getChars_55 : decode cJ9_getChars 55 = .ok (.bastore, 1) := dk_84 (dk_at dksJ9_getChars_2 8 rfl rfl)
theorem dJ9_getChars_56 : decode cJ9_getChars 56 = .ok (.aload_n 2, 1) := dk_44 (dk_at dksJ9_getChars_2 9 rfl rfl)
theorem dJ9_getChars_57 : decode cJ9_getChars 57 = .ok (.iinc 5 (-1), 3) := dk_132 5 255 (dk_at dksJ9_getChars_2 10 rfl rfl)
theorem dJ9_getChars_60 : decode cJ9_getChars 60 = .ok (.iload 5, 2) := dk_21 5 (dk_at dksJ9_getChars_2 13 rfl rfl)
theorem dJ9_getChars_62 : decode cJ9_getChars 62 = .ok (.getstatic 87, 3) := dk_178 0 87 (dk_at dksJ9_getChars_2 15 rfl rfl)
theorem dJ9_getChars_65 : decode cJ9_getChars 65 = .ok (.iload 4, 2) := dk_21 4 (dk_at dksJ9_getChars_2 18 rfl rfl)
theorem dJ9_getChars_67 : decode cJ9_getChars 67 = .ok (.baload, 1) := dk_51 (dk_at dksJ9_getChars_2 20 rfl rfl)
theorem dJ9_getChars_68 : decode cJ9_getChars 68 = .ok (.bastore, 1) := dk_84 (dk_at dksJ9_getChars_2 21 rfl rfl)
theorem dJ9_getChars_69 : decode cJ9_getChars 69 = .ok (.goto (-47), 3) := dk_167 255 209 (dk_at dksJ9_getChars_3 0 rfl rfl)
theorem dJ9_getChars_72 : decode cJ9_getChars 72 = .ok (.aload_n 2, 1) := dk_44 (dk_at dksJ9_getChars_3 3 rfl rfl)
theorem dJ9_getChars_73 : decode cJ9_getChars 73 = .ok (.iinc 5 (-1), 3) := dk_132 5 255 (dk_at dksJ9_getChars_3 4 rfl rfl)
theorem dJ9_getChars_76 : decode cJ9_getChars 76 = .ok (.iload 5, 2) := dk_21 5 (dk_at dksJ9_getChars_3 7 rfl rfl)
theorem dJ9_getChars_78 : decode cJ9_getChars 78 = .ok (.getstatic 83, 3) := dk_178 0 83 (dk_at dksJ9_getChars_3 9 rfl rfl)
theorem dJ9_getChars_81 : decode cJ9_getChars 81 = .ok (.iload_n 0, 1) := dk_26 (dk_at dksJ9_getChars_3 12 rfl rfl)
theorem dJ9_getChars_82 : decode cJ9_getChars 82 = .ok (.ineg, 1) := dk_116 (dk_at dksJ9_getChars_3 13 rfl rfl)
theorem dJ9_getChars_83 : decode cJ9_getChars 83 = .ok (.baload, 1) := dk_51 (dk_at dksJ9_getChars_3 14 rfl rfl)
theorem dJ9_getChars_84 : decode cJ9_getChars 84 = .ok (.bastore, 1) := dk_84 (dk_at dksJ9_getChars_3 15 rfl rfl)
theorem dJ9_getChars_85 : decode cJ9_getChars 85 = .ok (.iload_n 0, 1) := dk_26 (dk_at dksJ9_getChars_3 16 rfl rfl)
theorem dJ9_getChars_86 : decode cJ9_getChars 86 = .ok (.bipush (-9), 2) := dk_16 247 (dk_at dksJ9_getChars_3 17 rfl rfl)
theorem dJ9_getChars_88 : decode cJ9_getChars 88 = .ok (.if_icmp .ge 16, 3) := dk_162 0 16 (dk_at dksJ9_getChars_3 19 rfl rfl)
theorem dJ9_getChars_91 : decode cJ9_getChars 91 = .ok (.aload_n 2, 1) := dk_44 (dk_at dksJ9_getChars_3 22 rfl rfl)
theorem dJ9_getChars_92 : decode cJ9_getChars 92 = .ok (.iinc 5 (-1), 3) := dk_132 5 255 (dk_at dksJ9_getChars_4 0 rfl rfl)
theorem dJ9_getChars_95 : decode cJ9_getChars 95 = .ok (.iload 5, 2) := dk_21 5 (dk_at dksJ9_getChars_4 3 rfl rfl)
theorem dJ9_getChars_97 : decode cJ9_getChars 97 = .ok (.getstatic 87, 3) := dk_178 0 87 (dk_at dksJ9_getChars_4 5 rfl rfl)
theorem dJ9_getChars_100 : decode cJ9_getChars 100 = .ok (.iload_n 0, 1) := dk_26 (dk_at dksJ9_getChars_4 8 rfl rfl)
theorem dJ9_getChars_101 : decode cJ9_getChars 101 = .ok (.ineg, 1) := dk_116 (dk_at dksJ9_getChars_4 9 rfl rfl)
theorem dJ9_getChars_102 : decode cJ9_getChars 102 = .ok (.baload, 1) := dk_51 (dk_at dksJ9_getChars_4 10 rfl rfl)
theorem dJ9_getChars_103 : decode cJ9_getChars 103 = .ok (.bastore, 1) := dk_84 (dk_at dksJ9_getChars_4 11 rfl rfl)
theorem dJ9_getChars_104 : decode cJ9_getChars 104 = .ok (.iload 6, 2) := dk_21 6 (dk_at dksJ9_getChars_4 12 rfl rfl)
theorem dJ9_getChars_106 : decode cJ9_getChars 106 = .ok (.ifCond .eq 12, 3) := dk_153 0 12 (dk_at dksJ9_getChars_4 14 rfl rfl)
theorem dJ9_getChars_109 : decode cJ9_getChars 109 = .ok (.aload_n 2, 1) := dk_44 (dk_at dksJ9_getChars_4 17 rfl rfl)
theorem dJ9_getChars_110 : decode cJ9_getChars 110 = .ok (.iinc 5 (-1), 3) := dk_132 5 255 (dk_at dksJ9_getChars_4 18 rfl rfl)
theorem dJ9_getChars_113 : decode cJ9_getChars 113 = .ok (.iload 5, 2) := dk_21 5 (dk_at dksJ9_getChars_4 21 rfl rfl)
theorem dJ9_getChars_115 : decode cJ9_getChars 115 = .ok (.bipush 45, 2) := dk_16 45 (dk_at dksJ9_getChars_5 0 rfl rfl)
theorem dJ9_getChars_117 : decode cJ9_getChars 117 = .ok (.bastore, 1) := dk_84 (dk_at dksJ9_getChars_5 2 rfl rfl)
theorem dJ9_getChars_118 : decode cJ9_getChars 118 = .ok (.iload 5, 2) := dk_21 5 (dk_at dksJ9_getChars_5 3 rfl rfl)
theorem dJ9_getChars_120 : decode cJ9_getChars 120 = .ok (.ireturn, 1) := dk_172 (dk_at dksJ9_getChars_5 5 rfl rfl)
theorem q119 : (Jvm.Cond.initialized "java/lang/Integer") ∈ lw_all := lw_g (lw_at lw_m1 13 rfl) rfl
theorem q320 : (Jvm.Cond.static ({ cls := "java/lang/Integer", name := "numberOfLeadingZeros", desc := "(I)I" } : Jvm.MethodName)) ∈ lw_all := lw_g (lw_at lw_m1 214 rfl) rfl
theorem q321 : (Jvm.Cond.code ({ cls := "java/lang/Integer", name := "numberOfLeadingZeros", desc := "(I)I" } : Jvm.MethodName) prog_34_method_47_code (2 : Nat) (Option.some Jvm.ClassFile.FieldType.int)) ∈ lw_all := lw_g (lw_at lw_m1 215 rfl) rfl
theorem q322 : (Jvm.Cond.constant "java/lang/Integer" (264 : Nat) (65536 : Int32)) ∈ lw_all := lw_g (lw_at lw_m1 216 rfl) rfl
theorem q622 : (Jvm.Cond.selects "java/lang/Integer" ({ cls := "java/lang/Object", name := "getClass", desc := "()Ljava/lang/Class;" } : Jvm.MethodName) ({ cls := "java/lang/Object", name := "getClass", desc := "()Ljava/lang/Class;" } : Jvm.MethodName)) ∈ lw_all := lw_g (lw_at lw_m3 36 rfl) rfl
theorem q935 : (Jvm.Cond.selects "java/lang/Integer" ({ cls := "java/lang/Object", name := "hashCode", desc := "()I" } : Jvm.MethodName) ({ cls := "java/lang/Integer", name := "hashCode", desc := "()I" } : Jvm.MethodName)) ∈ lw_all := lw_g (lw_at lw_m4 109 rfl) rfl
theorem q936 : (Jvm.Cond.instanceMethod ({ cls := "java/lang/Integer", name := "hashCode", desc := "()I" } : Jvm.MethodName)) ∈ lw_all := lw_g (lw_at lw_m4 110 rfl) rfl
theorem q937 : (Jvm.Cond.code ({ cls := "java/lang/Integer", name := "hashCode", desc := "()I" } : Jvm.MethodName) prog_34_method_32_code (1 : Nat) (Option.some Jvm.ClassFile.FieldType.int)) ∈ lw_all := lw_g (lw_at lw_m4 111 rfl) rfl
theorem q938 : (Jvm.Cond.methodLink "java/lang/Integer" (208 : Nat) ({ cls := "java/lang/Integer", name := "hashCode", desc := "(I)I" } : Jvm.MethodName)) ∈ lw_all := lw_g (lw_at lw_m4 112 rfl) rfl
theorem q939 : (Jvm.Cond.static ({ cls := "java/lang/Integer", name := "hashCode", desc := "(I)I" } : Jvm.MethodName)) ∈ lw_all := lw_g (lw_at lw_m4 113 rfl) rfl
theorem q940 : (Jvm.Cond.code ({ cls := "java/lang/Integer", name := "hashCode", desc := "(I)I" } : Jvm.MethodName) prog_34_method_33_code (1 : Nat) (Option.some Jvm.ClassFile.FieldType.int)) ∈ lw_all := lw_g (lw_at lw_m4 114 rfl) rfl
theorem q1048 : (Jvm.Cond.selects "java/lang/Integer" ({ cls := "java/lang/Object", name := "equals", desc := "(Ljava/lang/Object;)Z" } : Jvm.MethodName) ({ cls := "java/lang/Integer", name := "equals", desc := "(Ljava/lang/Object;)Z" } : Jvm.MethodName)) ∈ lw_all := lw_g (lw_at lw_m4 222 rfl) rfl
theorem q1049 : (Jvm.Cond.instanceMethod ({ cls := "java/lang/Integer", name := "equals", desc := "(Ljava/lang/Object;)Z" } : Jvm.MethodName)) ∈ lw_all := lw_g (lw_at lw_m4 223 rfl) rfl
theorem q1050 : (Jvm.Cond.code ({ cls := "java/lang/Integer", name := "equals", desc := "(Ljava/lang/Object;)Z" } : Jvm.MethodName) prog_34_method_34_code (2 : Nat) (Option.some Jvm.ClassFile.FieldType.boolean)) ∈ lw_all := lw_g (lw_at lw_m4 224 rfl) rfl
theorem q1051 : (Jvm.Cond.classLink "java/lang/Integer" (1 : Nat) "java/lang/Integer") ∈ lw_all := lw_g (lw_at lw_m4 225 rfl) rfl
theorem q1052 : (Jvm.Cond.methodLink "java/lang/Integer" (211 : Nat) ({ cls := "java/lang/Integer", name := "intValue", desc := "()I" } : Jvm.MethodName)) ∈ lw_all := lw_g (lw_at lw_m4 226 rfl) rfl
theorem q1053 : (Jvm.Cond.instanceMethod ({ cls := "java/lang/Integer", name := "intValue", desc := "()I" } : Jvm.MethodName)) ∈ lw_all := lw_g (lw_at lw_m4 227 rfl) rfl
theorem q1054 : (Jvm.Cond.selects "java/lang/Integer" ({ cls := "java/lang/Integer", name := "intValue", desc := "()I" } : Jvm.MethodName) ({ cls := "java/lang/Integer", name := "intValue", desc := "()I" } : Jvm.MethodName)) ∈ lw_all := lw_g (lw_at lw_m4 228 rfl) rfl
theorem q1055 : (Jvm.Cond.code ({ cls := "java/lang/Integer", name := "intValue", desc := "()I" } : Jvm.MethodName) prog_34_method_27_code (1 : Nat) (Option.some Jvm.ClassFile.FieldType.int)) ∈ lw_all := lw_g (lw_at lw_m4 229 rfl) rfl
theorem q1094 : (Jvm.Cond.castable "java/lang/Integer" "java/lang/Comparable") ∈ lw_tbl := lw_at lw_m5 28 rfl
theorem q1095 : (Jvm.Cond.selects "java/lang/Integer" ({ cls := "java/lang/Comparable", name := "compareTo", desc := "(Ljava/lang/Object;)I" } : Jvm.MethodName) ({ cls := "java/lang/Integer", name := "compareTo", desc := "(Ljava/lang/Object;)I" } : Jvm.MethodName)) ∈ lw_all := lw_g (lw_at lw_m5 29 rfl) rfl
theorem q1096 : (Jvm.Cond.unhidden "java/lang/Integer" "compareTo" "(Ljava/lang/Object;)I") ∈ lw_tbl := lw_at lw_m5 30 rfl
theorem q1097 : (Jvm.Cond.instanceMethod ({ cls := "java/lang/Integer", name := "compareTo", desc := "(Ljava/lang/Object;)I" } : Jvm.MethodName)) ∈ lw_all := lw_g (lw_at lw_m5 31 rfl) rfl
theorem q1098 : (Jvm.Cond.publicMethod ({ cls := "java/lang/Integer", name := "compareTo", desc := "(Ljava/lang/Object;)I" } : Jvm.MethodName)) ∈ lw_tbl := lw_at lw_m5 32 rfl
theorem q1099 : (Jvm.Cond.code ({ cls := "java/lang/Integer", name := "compareTo", desc := "(Ljava/lang/Object;)I" } : Jvm.MethodName) prog_34_method_63_code (2 : Nat) (Option.some Jvm.ClassFile.FieldType.int)) ∈ lw_all := lw_g (lw_at lw_m5 33 rfl) rfl
theorem q1100 : (Jvm.Cond.methodLink "java/lang/Integer" (284 : Nat) ({ cls := "java/lang/Integer", name := "compareTo", desc := "(Ljava/lang/Integer;)I" } : Jvm.MethodName)) ∈ lw_all := lw_g (lw_at lw_m5 34 rfl) rfl
theorem q1101 : (Jvm.Cond.instanceMethod ({ cls := "java/lang/Integer", name := "compareTo", desc := "(Ljava/lang/Integer;)I" } : Jvm.MethodName)) ∈ lw_all := lw_g (lw_at lw_m5 35 rfl) rfl
theorem q1102 : (Jvm.Cond.selects "java/lang/Integer" ({ cls := "java/lang/Integer", name := "compareTo", desc := "(Ljava/lang/Integer;)I" } : Jvm.MethodName) ({ cls := "java/lang/Integer", name := "compareTo", desc := "(Ljava/lang/Integer;)I" } : Jvm.MethodName)) ∈ lw_all := lw_g (lw_at lw_m5 36 rfl) rfl
theorem q1103 : (Jvm.Cond.code ({ cls := "java/lang/Integer", name := "compareTo", desc := "(Ljava/lang/Integer;)I" } : Jvm.MethodName) prog_34_method_39_code (2 : Nat) (Option.some Jvm.ClassFile.FieldType.int)) ∈ lw_all := lw_g (lw_at lw_m5 37 rfl) rfl
theorem q1104 : (Jvm.Cond.methodLink "java/lang/Integer" (259 : Nat) ({ cls := "java/lang/Integer", name := "compare", desc := "(II)I" } : Jvm.MethodName)) ∈ lw_all := lw_g (lw_at lw_m5 38 rfl) rfl
theorem q1105 : (Jvm.Cond.static ({ cls := "java/lang/Integer", name := "compare", desc := "(II)I" } : Jvm.MethodName)) ∈ lw_all := lw_g (lw_at lw_m5 39 rfl) rfl
theorem q1106 : (Jvm.Cond.code ({ cls := "java/lang/Integer", name := "compare", desc := "(II)I" } : Jvm.MethodName) prog_34_method_40_code (2 : Nat) (Option.some Jvm.ClassFile.FieldType.int)) ∈ lw_all := lw_g (lw_at lw_m5 40 rfl) rfl
theorem q1206 : (Jvm.Cond.static ({ cls := "java/lang/Integer", name := "numberOfTrailingZeros", desc := "(I)I" } : Jvm.MethodName)) ∈ lw_all := lw_g (lw_at lw_m5 140 rfl) rfl
theorem q1207 : (Jvm.Cond.code ({ cls := "java/lang/Integer", name := "numberOfTrailingZeros", desc := "(I)I" } : Jvm.MethodName) prog_34_method_48_code (2 : Nat) (Option.some Jvm.ClassFile.FieldType.int)) ∈ lw_all := lw_g (lw_at lw_m5 141 rfl) rfl
theorem q1371 : (Jvm.Cond.static ({ cls := "java/lang/Integer", name := "valueOf", desc := "(I)Ljava/lang/Integer;" } : Jvm.MethodName)) ∈ lw_all := lw_g (lw_at lw_m6 65 rfl) rfl
theorem q1372 : (Jvm.Cond.code ({ cls := "java/lang/Integer", name := "valueOf", desc := "(I)Ljava/lang/Integer;" } : Jvm.MethodName) prog_34_method_22_code (1 : Nat) (Option.some (Jvm.ClassFile.FieldType.object "java/lang/Integer"))) ∈ lw_all := lw_g (lw_at lw_m6 66 rfl) rfl
theorem q1373 : (Jvm.Cond.fieldLink "java/lang/Integer" (191 : Nat) "java/lang/Integer$IntegerCache" "high" "I") ∈ lw_all := lw_g (lw_at lw_m6 67 rfl) rfl
theorem q1375 : (Jvm.Cond.fieldLink "java/lang/Integer" (195 : Nat) "java/lang/Integer$IntegerCache" "cache" "[Ljava/lang/Integer;") ∈ lw_all := lw_g (lw_at lw_m6 69 rfl) rfl
theorem q1377 : (Jvm.Cond.instantiable "java/lang/Integer" (1 : Nat)) ∈ lw_all := lw_g (lw_at lw_m6 71 rfl) rfl
theorem q1378 : (Jvm.Cond.methodLink "java/lang/Integer" (199 : Nat) ({ cls := "java/lang/Integer", name := "<init>", desc := "(I)V" } : Jvm.MethodName)) ∈ lw_all := lw_g (lw_at lw_m6 72 rfl) rfl
theorem q1379 : (Jvm.Cond.instanceMethod ({ cls := "java/lang/Integer", name := "<init>", desc := "(I)V" } : Jvm.MethodName)) ∈ lw_all := lw_g (lw_at lw_m6 73 rfl) rfl
theorem q1380 : (Jvm.Cond.code ({ cls := "java/lang/Integer", name := "<init>", desc := "(I)V" } : Jvm.MethodName) prog_34_method_23_code (2 : Nat) (Option.none : Option Jvm.ClassFile.FieldType)) ∈ lw_all := lw_g (lw_at lw_m6 74 rfl) rfl
theorem q1381 : (Jvm.Cond.methodLink "java/lang/Integer" (202 : Nat) ({ cls := "java/lang/Number", name := "<init>", desc := "()V" } : Jvm.MethodName)) ∈ lw_all := lw_g (lw_at lw_m6 75 rfl) rfl
theorem q1385 : (Jvm.Cond.fieldLink "java/lang/Integer" (205 : Nat) "java/lang/Integer" "value" "I") ∈ lw_all := lw_g (lw_at lw_m6 79 rfl) rfl
theorem q1386 : (Jvm.Cond.laysFinal "java/lang/Integer" "java/lang/Integer" "value" "I") ∈ lw_all := lw_g (lw_at lw_m6 80 rfl) rfl
theorem q1387 : (Jvm.Cond.soleField "java/lang/Integer" "value") ∈ lw_all := lw_g (lw_at lw_m6 81 rfl) rfl
theorem q1388 : (Jvm.Cond.superclass "java/lang/Integer" "java/lang/Number") ∈ lw_all := lw_g (lw_at lw_m6 82 rfl) rfl
theorem q2415 : (Jvm.Cond.static ({ cls := "java/lang/Integer", name := "bitCount", desc := "(I)I" } : Jvm.MethodName)) ∈ lw_all := lw_g (lw_at lw_m10 149 rfl) rfl
theorem q2416 : (Jvm.Cond.code ({ cls := "java/lang/Integer", name := "bitCount", desc := "(I)I" } : Jvm.MethodName) prog_34_method_49_code (1 : Nat) (Option.some Jvm.ClassFile.FieldType.int)) ∈ lw_all := lw_g (lw_at lw_m10 150 rfl) rfl
theorem q2417 : (Jvm.Cond.constant "java/lang/Integer" (265 : Nat) (1431655765 : Int32)) ∈ lw_all := lw_g (lw_at lw_m10 151 rfl) rfl
theorem q2418 : (Jvm.Cond.constant "java/lang/Integer" (266 : Nat) (858993459 : Int32)) ∈ lw_all := lw_g (lw_at lw_m10 152 rfl) rfl
theorem q2419 : (Jvm.Cond.constant "java/lang/Integer" (267 : Nat) (252645135 : Int32)) ∈ lw_all := lw_g (lw_at lw_m10 153 rfl) rfl
theorem q2472 : (Jvm.Cond.static ({ cls := "java/lang/Integer", name := "stringSize", desc := "(I)I" } : Jvm.MethodName)) ∈ lw_all := lw_g (lw_at lw_m10 206 rfl) rfl
theorem q2473 : (Jvm.Cond.code ({ cls := "java/lang/Integer", name := "stringSize", desc := "(I)I" } : Jvm.MethodName) prog_34_method_13_code (4 : Nat) (Option.some Jvm.ClassFile.FieldType.int)) ∈ lw_all := lw_g (lw_at lw_m10 207 rfl) rfl
theorem q2475 : (Jvm.Cond.static ({ cls := "java/lang/Integer", name := "getChars", desc := "(II[B)I" } : Jvm.MethodName)) ∈ lw_all := lw_g (lw_at lw_m10 209 rfl) rfl
theorem q2476 : (Jvm.Cond.code ({ cls := "java/lang/Integer", name := "getChars", desc := "(II[B)I" } : Jvm.MethodName) prog_34_method_12_code (7 : Nat) (Option.some Jvm.ClassFile.FieldType.int)) ∈ lw_all := lw_g (lw_at lw_m10 210 rfl) rfl
theorem q2477 : (Jvm.Cond.fieldLink "java/lang/Integer" (83 : Nat) "java/lang/Integer" "DigitOnes" "[B") ∈ lw_all := lw_g (lw_at lw_m10 211 rfl) rfl
theorem q2478 : (Jvm.Cond.laysStatic "java/lang/Integer" "DigitOnes" "[B") ∈ lw_tbl := lw_at lw_m10 212 rfl
theorem q2479 : (Jvm.Cond.fieldLink "java/lang/Integer" (87 : Nat) "java/lang/Integer" "DigitTens" "[B") ∈ lw_all := lw_g (lw_at lw_m10 213 rfl) rfl
theorem q2480 : (Jvm.Cond.laysStatic "java/lang/Integer" "DigitTens" "[B") ∈ lw_tbl := lw_at lw_m10 214 rfl
theorem q3597 : (Jvm.Cond.castable "java/lang/Integer" "java/lang/Object") ∈ lw_tbl := lw_at lw_m15 131 rfl
theorem in_J9 : ∀ w ∈ wsJ90, w ∈ lw_all := lw_in wsJ90 [1386] (by decide +kernel) (by decide +kernel)
theorem q1621 : (Jvm.Cond.sameMethod "[B" "java/lang/Object" "clone" "()Ljava/lang/Object;") ∈ lw_all := lw_g (lw_at lw_m7 75 rfl) rfl
set_option maxRecDepth 100000
theorem q1624 : (Jvm.Cond.selects "[B" ({ cls := "[B", name := "clone", desc := "()Ljava/lang/Object;" } : Jvm.MethodName) ({ cls := "java/lang/Object", name := "clone", desc := "()Ljava/lang/Object;" } : Jvm.MethodName)) ∈ lw_all := lw_g (lw_at lw_m7 78 rfl) rfl
theorem q1625 : (Jvm.Cond.castable "[B" "java/lang/Cloneable") ∈ lw_tbl := lw_at lw_m7 79 rfl
theorem q3626 : (Jvm.Cond.castable "[B" "java/lang/Object") ∈ lw_tbl := lw_at lw_m15 160 rfl
theorem q3628 : (Jvm.Cond.castable "[I" "java/lang/Object") ∈ lw_tbl := lw_at lw_m15 162 rfl
set_option maxRecDepth 100000
theorem q3632 : (Jvm.Cond.castable "[J" "java/lang/Object") ∈ lw_tbl := lw_at lw_m15 166 rfl
set_option maxRecDepth 100000
theorem q3630 : (Jvm.Cond.castable "[LFinalLinks$Kept;" "java/lang/Object") ∈ lw_tbl := lw_at lw_m15 164 rfl
set_option maxRecDepth 100000
theorem q3629 : (Jvm.Cond.castable "[LFinalLinks$Tree;" "java/lang/Object") ∈ lw_tbl := lw_at lw_m15 163 rfl
set_option maxRecDepth 100000
theorem q3623 : (Jvm.Cond.sameMethod "[Ljava/lang/Object;" "java/lang/Object" "getClass" "()Ljava/lang/Class;") ∈ lw_all := lw_g (lw_at lw_m15 157 rfl) rfl
set_option maxRecDepth 100000
theorem q3624 : (Jvm.Cond.selects "[Ljava/lang/Object;" ({ cls := "java/lang/Object", name := "getClass", desc := "()Ljava/lang/Class;" } : Jvm.MethodName) ({ cls := "java/lang/Object", name := "getClass", desc := "()Ljava/lang/Class;" } : Jvm.MethodName)) ∈ lw_all := lw_g (lw_at lw_m15 158 rfl) rfl
theorem q3627 : (Jvm.Cond.castable "[Ljava/lang/Object;" "java/lang/Object") ∈ lw_tbl := lw_at lw_m15 161 rfl
theorem q3631 : (Jvm.Cond.castable "[Ljava/util/HashMap$Node;" "java/lang/Object") ∈ lw_tbl := lw_at lw_m15 165 rfl
set_option maxRecDepth 100000
theorem q3633 : (Jvm.Cond.castable "[Z" "java/lang/Object") ∈ lw_tbl := lw_at lw_m15 167 rfl
set_option maxRecDepth 100000
theorem q1092 : (Jvm.Cond.interfaceMethod "java/lang/Comparable" "java/lang/Comparable" "compareTo" "(Ljava/lang/Object;)I") ∈ lw_tbl := lw_at lw_m5 26 rfl
set_option maxRecDepth 100000
theorem q1093 : (Jvm.Cond.declares ({ cls := "java/lang/Comparable", name := "compareTo", desc := "(Ljava/lang/Object;)I" } : Jvm.MethodName)) ∈ lw_tbl := lw_at lw_m5 27 rfl
theorem q145 : (Jvm.Cond.initialized "java/lang/Integer$IntegerCache") ∈ lw_all := lw_g (lw_at lw_m1 39 rfl) rfl
set_option maxRecDepth 100000
theorem q1374 : (Jvm.Cond.laysStatic "java/lang/Integer$IntegerCache" "high" "I") ∈ lw_tbl := lw_at lw_m6 68 rfl
theorem q1376 : (Jvm.Cond.laysStatic "java/lang/Integer$IntegerCache" "cache" "[Ljava/lang/Integer;") ∈ lw_tbl := lw_at lw_m6 70 rfl
theorem q129 : (Jvm.Cond.initialized "java/lang/System") ∈ lw_all := lw_g (lw_at lw_m1 23 rfl) rfl
set_option maxRecDepth 100000
theorem q651 : (Jvm.Cond.static ({ cls := "java/lang/System", name := "arraycopy", desc := "(Ljava/lang/Object;ILjava/lang/Object;II)V" } : Jvm.MethodName)) ∈ lw_all := lw_g (lw_at lw_m3 65 rfl) rfl
theorem q652 : (Jvm.Cond.native ({ cls := "java/lang/System", name := "arraycopy", desc := "(Ljava/lang/Object;ILjava/lang/Object;II)V" } : Jvm.MethodName)) ∈ lw_all := lw_g (lw_at lw_m3 66 rfl) rfl
theorem q439 : (Jvm.Cond.interfaceMethod "java/util/Iterator" "java/util/Iterator" "hasNext" "()Z") ∈ lw_tbl := lw_at lw_m2 93 rfl
set_option maxRecDepth 100000
theorem q440 : (Jvm.Cond.declares ({ cls := "java/util/Iterator", name := "hasNext", desc := "()Z" } : Jvm.MethodName)) ∈ lw_tbl := lw_at lw_m2 94 rfl
theorem q461 : (Jvm.Cond.interfaceMethod "java/util/Iterator" "java/util/Iterator" "next" "()Ljava/lang/Object;") ∈ lw_tbl := lw_at lw_m2 115 rfl
theorem q462 : (Jvm.Cond.declares ({ cls := "java/util/Iterator", name := "next", desc := "()Ljava/lang/Object;" } : Jvm.MethodName)) ∈ lw_tbl := lw_at lw_m2 116 rfl
theorem q799 : (Jvm.Cond.interfaceMethod "java/util/Set" "java/util/Set" "iterator" "()Ljava/util/Iterator;") ∈ lw_tbl := lw_at lw_m3 213 rfl
set_option maxRecDepth 100000
theorem q800 : (Jvm.Cond.declares ({ cls := "java/util/Set", name := "iterator", desc := "()Ljava/util/Iterator;" } : Jvm.MethodName)) ∈ lw_tbl := lw_at lw_m3 214 rfl
theorem q967 : (Jvm.Cond.interfaceMethod "jdk/internal/access/JavaLangAccess" "jdk/internal/access/JavaLangAccess" "getUTF16Char" "([BI)C") ∈ lw_tbl := lw_at lw_m4 141 rfl
set_option maxRecDepth 100000
theorem q968 : (Jvm.Cond.declares ({ cls := "jdk/internal/access/JavaLangAccess", name := "getUTF16Char", desc := "([BI)C" } : Jvm.MethodName)) ∈ lw_tbl := lw_at lw_m4 142 rfl
theorem q143 : (Jvm.Cond.initialized "jdk/internal/misc/UnsafeConstants") ∈ lw_all := lw_g (lw_at lw_m1 37 rfl) rfl
set_option maxRecDepth 100000
theorem q1168 : (Jvm.Cond.laysStatic "jdk/internal/misc/UnsafeConstants" "BIG_ENDIAN" "Z") ∈ lw_tbl := lw_at lw_m5 102 rfl
theorem q214 : (Jvm.Cond.arrayClass Jvm.ClassFile.FieldType.byte) ∈ lw_all := lw_g (lw_at lw_m1 108 rfl) rfl
set_option maxRecDepth 100000
theorem q645 : (Jvm.Cond.arrayOver (Jvm.ClassFile.FieldType.object "java/lang/Object")) ∈ lw_tbl := lw_at lw_m3 59 rfl
theorem q721 : (Jvm.Cond.arrayClass Jvm.ClassFile.FieldType.int) ∈ lw_all := lw_g (lw_at lw_m3 135 rfl) rfl
theorem q1408 : (Jvm.Cond.arrayOver (Jvm.ClassFile.FieldType.object "FinalLinks$Tree")) ∈ lw_tbl := lw_at lw_m6 102 rfl
theorem q1411 : (Jvm.Cond.arrayOver (Jvm.ClassFile.FieldType.object "FinalLinks$Kept")) ∈ lw_tbl := lw_at lw_m6 105 rfl
theorem q1876 : (Jvm.Cond.arrayOver (Jvm.ClassFile.FieldType.object "java/util/HashMap$Node")) ∈ lw_tbl := lw_at lw_m8 90 rfl
theorem q3106 : (Jvm.Cond.arrayClass Jvm.ClassFile.FieldType.long) ∈ lw_all := lw_g (lw_at lw_m13 120 rfl) rfl
theorem q3107 : (Jvm.Cond.arrayClass Jvm.ClassFile.FieldType.boolean) ∈ lw_all := lw_g (lw_at lw_m13 121 rfl) rfl
theorem q3634 : (Jvm.Cond.arrayClass Jvm.ClassFile.FieldType.char) ∈ lw_all := lw_g (lw_at lw_m15 168 rfl) rfl
theorem q3635 : (Jvm.Cond.arrayClass Jvm.ClassFile.FieldType.short) ∈ lw_all := lw_g (lw_at lw_m15 169 rfl) rfl
