theorem q704 : (Jvm.Cond.sameMethod "[B" "java/lang/Object" "clone" "()Ljava/lang/Object;") ∈ lw_all := lw_g (lw_at lw_m3 104 rfl) rfl
set_option maxRecDepth 100000
theorem q707 : (Jvm.Cond.selects "[B" ({ cls := "[B", name := "clone", desc := "()Ljava/lang/Object;" } : Jvm.MethodName) ({ cls := "java/lang/Object", name := "clone", desc := "()Ljava/lang/Object;" } : Jvm.MethodName)) ∈ lw_all := lw_g (lw_at lw_m3 107 rfl) rfl
theorem q708 : (Jvm.Cond.castable "[B" "java/lang/Cloneable") ∈ lw_tbl := lw_at lw_m3 108 rfl
theorem q2226 : (Jvm.Cond.castable "[B" "java/lang/Object") ∈ lw_tbl := lw_at lw_m9 186 rfl
theorem q2228 : (Jvm.Cond.castable "[I" "java/lang/Object") ∈ lw_tbl := lw_at lw_m9 188 rfl
set_option maxRecDepth 100000
theorem q2232 : (Jvm.Cond.castable "[J" "java/lang/Object") ∈ lw_tbl := lw_at lw_m9 192 rfl
set_option maxRecDepth 100000
theorem q2229 : (Jvm.Cond.castable "[LGlassStreet$Marks;" "java/lang/Object") ∈ lw_tbl := lw_at lw_m9 189 rfl
set_option maxRecDepth 100000
theorem q2231 : (Jvm.Cond.castable "[LGlassStreet$Notch;" "java/lang/Object") ∈ lw_tbl := lw_at lw_m9 191 rfl
set_option maxRecDepth 100000
theorem q2230 : (Jvm.Cond.castable "[LGlassStreet$State;" "java/lang/Object") ∈ lw_tbl := lw_at lw_m9 190 rfl
set_option maxRecDepth 100000
theorem q2223 : (Jvm.Cond.sameMethod "[Ljava/lang/Object;" "java/lang/Object" "getClass" "()Ljava/lang/Class;") ∈ lw_all := lw_g (lw_at lw_m9 183 rfl) rfl
set_option maxRecDepth 100000
theorem q2224 : (Jvm.Cond.selects "[Ljava/lang/Object;" ({ cls := "java/lang/Object", name := "getClass", desc := "()Ljava/lang/Class;" } : Jvm.MethodName) ({ cls := "java/lang/Object", name := "getClass", desc := "()Ljava/lang/Class;" } : Jvm.MethodName)) ∈ lw_all := lw_g (lw_at lw_m9 184 rfl) rfl
theorem q2227 : (Jvm.Cond.castable "[Ljava/lang/Object;" "java/lang/Object") ∈ lw_tbl := lw_at lw_m9 187 rfl
theorem q2233 : (Jvm.Cond.castable "[Z" "java/lang/Object") ∈ lw_tbl := lw_at lw_m9 193 rfl
set_option maxRecDepth 100000
theorem q144 : (Jvm.Cond.initialized "java/lang/System") ∈ lw_all := lw_g (lw_at lw_m1 24 rfl) rfl
set_option maxRecDepth 100000
theorem q712 : (Jvm.Cond.static ({ cls := "java/lang/System", name := "arraycopy", desc := "(Ljava/lang/Object;ILjava/lang/Object;II)V" } : Jvm.MethodName)) ∈ lw_all := lw_g (lw_at lw_m3 112 rfl) rfl
theorem q713 : (Jvm.Cond.native ({ cls := "java/lang/System", name := "arraycopy", desc := "(Ljava/lang/Object;ILjava/lang/Object;II)V" } : Jvm.MethodName)) ∈ lw_all := lw_g (lw_at lw_m3 113 rfl) rfl
theorem q203 : (Jvm.Cond.arrayClass Jvm.ClassFile.FieldType.byte) ∈ lw_all := lw_g (lw_at lw_m1 83 rfl) rfl
set_option maxRecDepth 100000
theorem q223 : (Jvm.Cond.arrayOver (Jvm.ClassFile.FieldType.object "java/lang/Object")) ∈ lw_tbl := lw_at lw_m1 103 rfl
theorem q276 : (Jvm.Cond.arrayClass Jvm.ClassFile.FieldType.int) ∈ lw_all := lw_g (lw_at lw_m1 156 rfl) rfl
theorem q286 : (Jvm.Cond.arrayOver (Jvm.ClassFile.FieldType.object "GlassStreet$Marks")) ∈ lw_tbl := lw_at lw_m1 166 rfl
theorem q340 : (Jvm.Cond.arrayOver (Jvm.ClassFile.FieldType.object "GlassStreet$State")) ∈ lw_tbl := lw_at lw_m1 220 rfl
theorem q342 : (Jvm.Cond.arrayOver (Jvm.ClassFile.FieldType.object "GlassStreet$Notch")) ∈ lw_tbl := lw_at lw_m1 222 rfl
theorem q1741 : (Jvm.Cond.arrayClass Jvm.ClassFile.FieldType.long) ∈ lw_all := lw_g (lw_at lw_m7 181 rfl) rfl
theorem q1742 : (Jvm.Cond.arrayClass Jvm.ClassFile.FieldType.boolean) ∈ lw_all := lw_g (lw_at lw_m7 182 rfl) rfl
