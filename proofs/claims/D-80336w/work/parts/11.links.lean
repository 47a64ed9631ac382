/-! links of methods and classes (printed by gen/gen_links.py) -/
theorem wi_77 : Cond.instanceMethod ⟨"CallGraphs", "<init>", "()V"⟩ ∈ gws := gw1 21 ⟨rfl, rfl⟩
theorem wn_57 : Cond.initialized "CallGraphs" ∈ gws := gw1 1 ⟨rfl, rfl⟩
theorem wc_78 : Cond.code Y_G_init.1 Y_G_init.2.1 Y_G_init.2.2.1 Y_G_init.2.2.2 ∈ gws := gw1 22 ⟨rfl, rfl⟩
theorem dd_G_init : (Y_G_init.1.cls ≠ "java/lang/invoke/MethodHandle" ∧ Y_G_init.1.cls ≠ "java/lang/invoke/VarHandle" ∧ (parseMethodDescriptor Y_G_init.1.desc).map (fun d => d.parameters.length) = some 0) ∧ plainFor Y_G_init.1 = true ∧ Y_G_init.2.2.1 ≤ 20 := by decide +kernel
theorem ml_Law_9 : MLi "CallGraphsLaw" 9 Y_G_init 0 := ⟨gw1 20 ⟨rfl, rfl⟩, wi_77, rfl, wn_57, wc_78, dd_G_init.1, dd_G_init.2.1, dd_G_init.2.2, rfl⟩
theorem ml_G_1 : Cond.methodLink "CallGraphs" 1 Lib.objectInit ∈ gws := gw1 23 ⟨rfl, rfl⟩
theorem wi_91 : Cond.instanceMethod ⟨"CallGraphs$Run", "<init>", "()V"⟩ ∈ gws := gw1 35 ⟨rfl, rfl⟩
theorem wn_58 : Cond.initialized "CallGraphs$Run" ∈ gws := gw1 2 ⟨rfl, rfl⟩
theorem wc_92 : Cond.code Y_Run_init.1 Y_Run_init.2.1 Y_Run_init.2.2.1 Y_Run_init.2.2.2 ∈ gws := gw1 36 ⟨rfl, rfl⟩
theorem dd_Run_init : (Y_Run_init.1.cls ≠ "java/lang/invoke/MethodHandle" ∧ Y_Run_init.1.cls ≠ "java/lang/invoke/VarHandle" ∧ (parseMethodDescriptor Y_Run_init.1.desc).map (fun d => d.parameters.length) = some 0) ∧ plainFor Y_Run_init.1 = true ∧ Y_Run_init.2.2.1 ≤ 20 := by decide +kernel
theorem ml_G_38 : MLj "CallGraphs" 38 Y_Run_init 0 := ⟨lw1 34 rfl, wi_91, rfl, wn_58, wc_92, dd_Run_init.1, dd_Run_init.2.1, dd_Run_init.2.2, rfl⟩
theorem ml_Run_3 : Cond.methodLink "CallGraphs$Run" 3 Lib.objectInit ∈ gws := gw1 37 ⟨rfl, rfl⟩
theorem wi_215 : Cond.instanceMethod ⟨"CallGraphs", "type", "(II)I"⟩ ∈ gws := gw1 159 ⟨rfl, rfl⟩
theorem ws_216 : Cond.selects "CallGraphs" ⟨"CallGraphs", "type", "(II)I"⟩ ⟨"CallGraphs", "type", "(II)I"⟩ ∈ gws := gw1 160 ⟨rfl, rfl⟩
theorem wc_217 : Cond.code Y_G_type.1 Y_G_type.2.1 Y_G_type.2.2.1 Y_G_type.2.2.2 ∈ gws := gw1 161 ⟨rfl, rfl⟩
theorem dd_G_type : (Y_G_type.1.cls ≠ "java/lang/invoke/MethodHandle" ∧ Y_G_type.1.cls ≠ "java/lang/invoke/VarHandle" ∧ (parseMethodDescriptor Y_G_type.1.desc).map (fun d => d.parameters.length) = some 2) ∧ plainFor Y_G_type.1 = true ∧ Y_G_type.2.2.1 ≤ 20 := by decide +kernel
theorem ml_Law_13 : MLv "CallGraphsLaw" 13 Y_G_type 2 := ⟨gw1 158 ⟨rfl, rfl⟩, wi_215, ws_216, wn_57, wc_217, dd_G_type⟩
theorem wi_220 : Cond.instanceMethod ⟨"CallGraphs", "isType", "(I)Z"⟩ ∈ gws := gw1 164 ⟨rfl, rfl⟩
theorem ws_0 : Cond.selects "CallGraphs" ⟨"CallGraphs", "isType", "(I)Z"⟩ ⟨"CallGraphs", "isType", "(I)Z"⟩ ∈ gws := gw0 0 ⟨rfl, rfl⟩
theorem wc_221 : Cond.code Y_G_isType.1 Y_G_isType.2.1 Y_G_isType.2.2.1 Y_G_isType.2.2.2 ∈ gws := gw1 165 ⟨rfl, rfl⟩
theorem dd_G_isType : (Y_G_isType.1.cls ≠ "java/lang/invoke/MethodHandle" ∧ Y_G_isType.1.cls ≠ "java/lang/invoke/VarHandle" ∧ (parseMethodDescriptor Y_G_isType.1.desc).map (fun d => d.parameters.length) = some 1) ∧ plainFor Y_G_isType.1 = true ∧ Y_G_isType.2.2.1 ≤ 20 := by decide +kernel
theorem ml_G_169 : MLv "CallGraphs" 169 Y_G_isType 1 := ⟨gw1 162 ⟨rfl, rfl⟩, wi_220, ws_0, wn_57, wc_221, dd_G_isType⟩
theorem wt_223 : Cond.static ⟨"CallGraphs", "within", "(III)Z"⟩ ∈ gws := gw1 167 ⟨rfl, rfl⟩
theorem wc_224 : Cond.code Y_G_within.1 Y_G_within.2.1 Y_G_within.2.2.1 Y_G_within.2.2.2 ∈ gws := gw1 168 ⟨rfl, rfl⟩
theorem dd_G_within : (Y_G_within.1.cls ≠ "java/lang/invoke/MethodHandle" ∧ Y_G_within.1.cls ≠ "java/lang/invoke/VarHandle" ∧ (parseMethodDescriptor Y_G_within.1.desc).map (fun d => d.parameters.length) = some 3) ∧ plainFor Y_G_within.1 = true ∧ Y_G_within.2.2.1 ≤ 20 := by decide +kernel
theorem ml_G_165 : MLs "CallGraphs" 165 Y_G_within 3 := ⟨gw1 166 ⟨rfl, rfl⟩, wt_223, wn_57, wc_224, dd_G_within⟩
theorem wi_226 : Cond.instanceMethod ⟨"CallGraphs$Type", "isClass", "()Z"⟩ ∈ gws := gw1 170 ⟨rfl, rfl⟩
theorem ws_227 : Cond.selects "CallGraphs$Type" ⟨"CallGraphs$Type", "isClass", "()Z"⟩ ⟨"CallGraphs$Type", "isClass", "()Z"⟩ ∈ gws := gw1 171 ⟨rfl, rfl⟩
theorem wn_62 : Cond.initialized "CallGraphs$Type" ∈ gws := gw1 6 ⟨rfl, rfl⟩
theorem wc_228 : Cond.code Y_Type_isClass.1 Y_Type_isClass.2.1 Y_Type_isClass.2.2.1 Y_Type_isClass.2.2.2 ∈ gws := gw1 172 ⟨rfl, rfl⟩
theorem dd_Type_isClass : (Y_Type_isClass.1.cls ≠ "java/lang/invoke/MethodHandle" ∧ Y_Type_isClass.1.cls ≠ "java/lang/invoke/VarHandle" ∧ (parseMethodDescriptor Y_Type_isClass.1.desc).map (fun d => d.parameters.length) = some 0) ∧ plainFor Y_Type_isClass.1 = true ∧ Y_Type_isClass.2.2.1 ≤ 20 := by decide +kernel
theorem ml_G_77 : MLv "CallGraphs" 77 Y_Type_isClass 0 := ⟨gw1 169 ⟨rfl, rfl⟩, wi_226, ws_227, wn_62, wc_228, dd_Type_isClass⟩
theorem wt_233 : Cond.static ⟨"CallGraphs$Kind", "values", "()[LCallGraphs$Kind;"⟩ ∈ gws := gw1 177 ⟨rfl, rfl⟩
theorem wn_61 : Cond.initialized "CallGraphs$Kind" ∈ gws := gw1 5 ⟨rfl, rfl⟩
theorem wc_234 : Cond.code Y_Kind_values.1 Y_Kind_values.2.1 Y_Kind_values.2.2.1 Y_Kind_values.2.2.2 ∈ gws := gw1 178 ⟨rfl, rfl⟩
theorem dd_Kind_values : (Y_Kind_values.1.cls ≠ "java/lang/invoke/MethodHandle" ∧ Y_Kind_values.1.cls ≠ "java/lang/invoke/VarHandle" ∧ (parseMethodDescriptor Y_Kind_values.1.desc).map (fun d => d.parameters.length) = some 0) ∧ plainFor Y_Kind_values.1 = true ∧ Y_Kind_values.2.2.1 ≤ 20 := by decide +kernel
theorem ml_G_173 : MLs "CallGraphs" 173 Y_Kind_values 0 := ⟨gw1 176 ⟨rfl, rfl⟩, wt_233, wn_61, wc_234, dd_Kind_values⟩
theorem ml_Kind_17 : Cond.methodLink "CallGraphs$Kind" 17 ⟨"[LCallGraphs$Kind;", "clone", "()Ljava/lang/Object;"⟩ ∈ gws := gw1 181 ⟨rfl, rfl⟩
theorem wi_246 : Cond.instanceMethod ⟨"CallGraphs$Type", "<init>", "(ILCallGraphs$Kind;LCallGraphs$Type;)V"⟩ ∈ gws := gw1 190 ⟨rfl, rfl⟩
theorem wc_247 : Cond.code Y_Type_init.1 Y_Type_init.2.1 Y_Type_init.2.2.1 Y_Type_init.2.2.2 ∈ gws := gw1 191 ⟨rfl, rfl⟩
theorem dd_Type_init : (Y_Type_init.1.cls ≠ "java/lang/invoke/MethodHandle" ∧ Y_Type_init.1.cls ≠ "java/lang/invoke/VarHandle" ∧ (parseMethodDescriptor Y_Type_init.1.desc).map (fun d => d.parameters.length) = some 3) ∧ plainFor Y_Type_init.1 = true ∧ Y_Type_init.2.2.1 ≤ 20 := by decide +kernel
theorem ml_G_179 : MLi "CallGraphs" 179 Y_Type_init 3 := ⟨gw1 189 ⟨rfl, rfl⟩, wi_246, rfl, wn_62, wc_247, dd_Type_init.1, dd_Type_init.2.1, dd_Type_init.2.2, rfl⟩
theorem ml_Type_3 : Cond.methodLink "CallGraphs$Type" 3 Lib.objectInit ∈ gws := gw1 192 ⟨rfl, rfl⟩
theorem wi_252 : Cond.instanceMethod ⟨"CallGraphs$Type", "join", "(LCallGraphs$Type;)V"⟩ ∈ gws := gw1 196 ⟨rfl, rfl⟩
theorem ws_253 : Cond.selects "CallGraphs$Type" ⟨"CallGraphs$Type", "join", "(LCallGraphs$Type;)V"⟩ ⟨"CallGraphs$Type", "join", "(LCallGraphs$Type;)V"⟩ ∈ gws := gw1 197 ⟨rfl, rfl⟩
theorem wc_254 : Cond.code Y_Type_join.1 Y_Type_join.2.1 Y_Type_join.2.2.1 Y_Type_join.2.2.2 ∈ gws := gw1 198 ⟨rfl, rfl⟩
theorem dd_Type_join : (Y_Type_join.1.cls ≠ "java/lang/invoke/MethodHandle" ∧ Y_Type_join.1.cls ≠ "java/lang/invoke/VarHandle" ∧ (parseMethodDescriptor Y_Type_join.1.desc).map (fun d => d.parameters.length) = some 1) ∧ plainFor Y_Type_join.1 = true ∧ Y_Type_join.2.2.1 ≤ 20 := by decide +kernel
theorem ml_Type_37 : MLv "CallGraphs$Type" 37 Y_Type_join 1 := ⟨gw1 195 ⟨rfl, rfl⟩, wi_252, ws_253, wn_62, wc_254, dd_Type_join⟩
theorem wi_291 : Cond.instanceMethod ⟨"CallGraphs", "change", "()V"⟩ ∈ gws := gw1 235 ⟨rfl, rfl⟩
theorem ws_1 : Cond.selects "CallGraphs" ⟨"CallGraphs", "change", "()V"⟩ ⟨"CallGraphs", "change", "()V"⟩ ∈ gws := gw0 1 ⟨rfl, rfl⟩
theorem wc_292 : Cond.code Y_G_change.1 Y_G_change.2.1 Y_G_change.2.2.1 Y_G_change.2.2.2 ∈ gws := gw1 236 ⟨rfl, rfl⟩
theorem dd_G_change : (Y_G_change.1.cls ≠ "java/lang/invoke/MethodHandle" ∧ Y_G_change.1.cls ≠ "java/lang/invoke/VarHandle" ∧ (parseMethodDescriptor Y_G_change.1.desc).map (fun d => d.parameters.length) = some 0) ∧ plainFor Y_G_change.1 = true ∧ Y_G_change.2.2.1 ≤ 20 := by decide +kernel
theorem ml_G_182 : MLv "CallGraphs" 182 Y_G_change 0 := ⟨gw1 233 ⟨rfl, rfl⟩, wi_291, ws_1, wn_57, wc_292, dd_G_change⟩
theorem wi_294 : Cond.instanceMethod ⟨"CallGraphs", "face", "(II)I"⟩ ∈ gws := gw1 238 ⟨rfl, rfl⟩
theorem ws_295 : Cond.selects "CallGraphs" ⟨"CallGraphs", "face", "(II)I"⟩ ⟨"CallGraphs", "face", "(II)I"⟩ ∈ gws := gw1 239 ⟨rfl, rfl⟩
theorem wc_296 : Cond.code Y_G_face.1 Y_G_face.2.1 Y_G_face.2.2.1 Y_G_face.2.2.2 ∈ gws := gw2 0 ⟨rfl, rfl⟩
theorem dd_G_face : (Y_G_face.1.cls ≠ "java/lang/invoke/MethodHandle" ∧ Y_G_face.1.cls ≠ "java/lang/invoke/VarHandle" ∧ (parseMethodDescriptor Y_G_face.1.desc).map (fun d => d.parameters.length) = some 2) ∧ plainFor Y_G_face.1 = true ∧ Y_G_face.2.2.1 ≤ 20 := by decide +kernel
theorem ml_Law_18 : MLv "CallGraphsLaw" 18 Y_G_face 2 := ⟨gw1 237 ⟨rfl, rfl⟩, wi_294, ws_295, wn_57, wc_296, dd_G_face⟩
theorem wi_298 : Cond.instanceMethod ⟨"CallGraphs$Type", "hasFace", "(LCallGraphs$Type;)Z"⟩ ∈ gws := gw2 2 ⟨rfl, rfl⟩
theorem ws_299 : Cond.selects "CallGraphs$Type" ⟨"CallGraphs$Type", "hasFace", "(LCallGraphs$Type;)Z"⟩ ⟨"CallGraphs$Type", "hasFace", "(LCallGraphs$Type;)Z"⟩ ∈ gws := gw2 3 ⟨rfl, rfl⟩
theorem wc_300 : Cond.code Y_Type_hasFace.1 Y_Type_hasFace.2.1 Y_Type_hasFace.2.2.1 Y_Type_hasFace.2.2.2 ∈ gws := gw2 4 ⟨rfl, rfl⟩
theorem dd_Type_hasFace : (Y_Type_hasFace.1.cls ≠ "java/lang/invoke/MethodHandle" ∧ Y_Type_hasFace.1.cls ≠ "java/lang/invoke/VarHandle" ∧ (parseMethodDescriptor Y_Type_hasFace.1.desc).map (fun d => d.parameters.length) = some 1) ∧ plainFor Y_Type_hasFace.1 = true ∧ Y_Type_hasFace.2.2.1 ≤ 20 := by decide +kernel
theorem ml_G_185 : MLv "CallGraphs" 185 Y_Type_hasFace 1 := ⟨gw2 1 ⟨rfl, rfl⟩, wi_298, ws_299, wn_62, wc_300, dd_Type_hasFace⟩
theorem wi_302 : Cond.instanceMethod ⟨"CallGraphs$Type", "isUnder", "(LCallGraphs$Type;)Z"⟩ ∈ gws := gw2 6 ⟨rfl, rfl⟩
theorem ws_303 : Cond.selects "CallGraphs$Type" ⟨"CallGraphs$Type", "isUnder", "(LCallGraphs$Type;)Z"⟩ ⟨"CallGraphs$Type", "isUnder", "(LCallGraphs$Type;)Z"⟩ ∈ gws := gw2 7 ⟨rfl, rfl⟩
theorem wc_304 : Cond.code Y_Type_isUnder.1 Y_Type_isUnder.2.1 Y_Type_isUnder.2.2.1 Y_Type_isUnder.2.2.2 ∈ gws := gw2 8 ⟨rfl, rfl⟩
theorem dd_Type_isUnder : (Y_Type_isUnder.1.cls ≠ "java/lang/invoke/MethodHandle" ∧ Y_Type_isUnder.1.cls ≠ "java/lang/invoke/VarHandle" ∧ (parseMethodDescriptor Y_Type_isUnder.1.desc).map (fun d => d.parameters.length) = some 1) ∧ plainFor Y_Type_isUnder.1 = true ∧ Y_Type_isUnder.2.2.1 ≤ 20 := by decide +kernel
theorem ml_G_84 : MLv "CallGraphs" 84 Y_Type_isUnder 1 := ⟨gw2 5 ⟨rfl, rfl⟩, wi_302, ws_303, wn_62, wc_304, dd_Type_isUnder⟩
theorem ml_G_194 : MLv "CallGraphs" 194 Y_Type_join 1 := ⟨gw2 9 ⟨rfl, rfl⟩, wi_252, ws_253, wn_62, wc_254, dd_Type_join⟩
theorem wi_307 : Cond.instanceMethod ⟨"CallGraphs", "member", "(III)I"⟩ ∈ gws := gw2 11 ⟨rfl, rfl⟩
theorem ws_308 : Cond.selects "CallGraphs" ⟨"CallGraphs", "member", "(III)I"⟩ ⟨"CallGraphs", "member", "(III)I"⟩ ∈ gws := gw2 12 ⟨rfl, rfl⟩
theorem wc_309 : Cond.code Y_G_member.1 Y_G_member.2.1 Y_G_member.2.2.1 Y_G_member.2.2.2 ∈ gws := gw2 13 ⟨rfl, rfl⟩
theorem dd_G_member : (Y_G_member.1.cls ≠ "java/lang/invoke/MethodHandle" ∧ Y_G_member.1.cls ≠ "java/lang/invoke/VarHandle" ∧ (parseMethodDescriptor Y_G_member.1.desc).map (fun d => d.parameters.length) = some 3) ∧ plainFor Y_G_member.1 = true ∧ Y_G_member.2.2.1 ≤ 20 := by decide +kernel
theorem ml_Law_22 : MLv "CallGraphsLaw" 22 Y_G_member 3 := ⟨gw2 10 ⟨rfl, rfl⟩, wi_307, ws_308, wn_57, wc_309, dd_G_member⟩
theorem wt_314 : Cond.static ⟨"CallGraphs$Sort", "values", "()[LCallGraphs$Sort;"⟩ ∈ gws := gw2 18 ⟨rfl, rfl⟩
theorem wn_64 : Cond.initialized "CallGraphs$Sort" ∈ gws := gw1 8 ⟨rfl, rfl⟩
theorem wc_315 : Cond.code Y_Sort_values.1 Y_Sort_values.2.1 Y_Sort_values.2.2.1 Y_Sort_values.2.2.2 ∈ gws := gw2 19 ⟨rfl, rfl⟩
theorem dd_Sort_values : (Y_Sort_values.1.cls ≠ "java/lang/invoke/MethodHandle" ∧ Y_Sort_values.1.cls ≠ "java/lang/invoke/VarHandle" ∧ (parseMethodDescriptor Y_Sort_values.1.desc).map (fun d => d.parameters.length) = some 0) ∧ plainFor Y_Sort_values.1 = true ∧ Y_Sort_values.2.2.1 ≤ 20 := by decide +kernel
theorem ml_G_205 : MLs "CallGraphs" 205 Y_Sort_values 0 := ⟨gw2 17 ⟨rfl, rfl⟩, wt_314, wn_64, wc_315, dd_Sort_values⟩
theorem ml_Sort_23 : Cond.methodLink "CallGraphs$Sort" 23 ⟨"[LCallGraphs$Sort;", "clone", "()Ljava/lang/Object;"⟩ ∈ gws := gw2 22 ⟨rfl, rfl⟩
theorem wi_325 : Cond.instanceMethod ⟨"CallGraphs$Member", "<init>", "(ILCallGraphs$Type;ILCallGraphs$Sort;)V"⟩ ∈ gws := gw2 29 ⟨rfl, rfl⟩
theorem wn_63 : Cond.initialized "CallGraphs$Member" ∈ gws := gw1 7 ⟨rfl, rfl⟩
theorem wc_326 : Cond.code Y_Member_init.1 Y_Member_init.2.1 Y_Member_init.2.2.1 Y_Member_init.2.2.2 ∈ gws := gw2 30 ⟨rfl, rfl⟩
theorem dd_Member_init : (Y_Member_init.1.cls ≠ "java/lang/invoke/MethodHandle" ∧ Y_Member_init.1.cls ≠ "java/lang/invoke/VarHandle" ∧ (parseMethodDescriptor Y_Member_init.1.desc).map (fun d => d.parameters.length) = some 4) ∧ plainFor Y_Member_init.1 = true ∧ Y_Member_init.2.2.1 ≤ 20 := by decide +kernel
theorem ml_G_208 : MLi "CallGraphs" 208 Y_Member_init 4 := ⟨gw2 28 ⟨rfl, rfl⟩, wi_325, rfl, wn_63, wc_326, dd_Member_init.1, dd_Member_init.2.1, dd_Member_init.2.2, rfl⟩
theorem ml_Member_3 : Cond.methodLink "CallGraphs$Member" 3 Lib.objectInit ∈ gws := gw2 31 ⟨rfl, rfl⟩
theorem wi_374 : Cond.instanceMethod ⟨"CallGraphs", "op", "(IIII)I"⟩ ∈ gws := gw2 78 ⟨rfl, rfl⟩
theorem ws_375 : Cond.selects "CallGraphs" ⟨"CallGraphs", "op", "(IIII)I"⟩ ⟨"CallGraphs", "op", "(IIII)I"⟩ ∈ gws := gw2 79 ⟨rfl, rfl⟩
theorem wc_376 : Cond.code Y_G_op.1 Y_G_op.2.1 Y_G_op.2.2.1 Y_G_op.2.2.2 ∈ gws := gw2 80 ⟨rfl, rfl⟩
theorem dd_G_op : (Y_G_op.1.cls ≠ "java/lang/invoke/MethodHandle" ∧ Y_G_op.1.cls ≠ "java/lang/invoke/VarHandle" ∧ (parseMethodDescriptor Y_G_op.1.desc).map (fun d => d.parameters.length) = some 4) ∧ plainFor Y_G_op.1 = true ∧ Y_G_op.2.2.1 ≤ 20 := by decide +kernel
theorem ml_Law_27 : MLv "CallGraphsLaw" 27 Y_G_op 4 := ⟨gw2 77 ⟨rfl, rfl⟩, wi_374, ws_375, wn_57, wc_376, dd_G_op⟩
theorem wi_379 : Cond.instanceMethod ⟨"CallGraphs", "isMember", "(I)Z"⟩ ∈ gws := gw2 83 ⟨rfl, rfl⟩
theorem ws_2 : Cond.selects "CallGraphs" ⟨"CallGraphs", "isMember", "(I)Z"⟩ ⟨"CallGraphs", "isMember", "(I)Z"⟩ ∈ gws := gw0 2 ⟨rfl, rfl⟩
theorem wc_380 : Cond.code Y_G_isMember.1 Y_G_isMember.2.1 Y_G_isMember.2.2.1 Y_G_isMember.2.2.2 ∈ gws := gw2 84 ⟨rfl, rfl⟩
theorem dd_G_isMember : (Y_G_isMember.1.cls ≠ "java/lang/invoke/MethodHandle" ∧ Y_G_isMember.1.cls ≠ "java/lang/invoke/VarHandle" ∧ (parseMethodDescriptor Y_G_isMember.1.desc).map (fun d => d.parameters.length) = some 1) ∧ plainFor Y_G_isMember.1 = true ∧ Y_G_isMember.2.2.1 ≤ 20 := by decide +kernel
theorem ml_G_246 : MLv "CallGraphs" 246 Y_G_isMember 1 := ⟨gw2 81 ⟨rfl, rfl⟩, wi_379, ws_2, wn_57, wc_380, dd_G_isMember⟩
theorem wi_383 : Cond.instanceMethod ⟨"CallGraphs", "fits", "(LCallGraphs$Member;III)Z"⟩ ∈ gws := gw2 87 ⟨rfl, rfl⟩
theorem ws_3 : Cond.selects "CallGraphs" ⟨"CallGraphs", "fits", "(LCallGraphs$Member;III)Z"⟩ ⟨"CallGraphs", "fits", "(LCallGraphs$Member;III)Z"⟩ ∈ gws := gw0 3 ⟨rfl, rfl⟩
theorem wc_384 : Cond.code Y_G_fits.1 Y_G_fits.2.1 Y_G_fits.2.2.1 Y_G_fits.2.2.2 ∈ gws := gw2 88 ⟨rfl, rfl⟩
theorem dd_G_fits : (Y_G_fits.1.cls ≠ "java/lang/invoke/MethodHandle" ∧ Y_G_fits.1.cls ≠ "java/lang/invoke/VarHandle" ∧ (parseMethodDescriptor Y_G_fits.1.desc).map (fun d => d.parameters.length) = some 4) ∧ plainFor Y_G_fits.1 = true ∧ Y_G_fits.2.2.1 ≤ 20 := by decide +kernel
theorem ml_G_249 : MLv "CallGraphs" 249 Y_G_fits 4 := ⟨gw2 85 ⟨rfl, rfl⟩, wi_383, ws_3, wn_57, wc_384, dd_G_fits⟩
theorem wi_386 : Cond.instanceMethod ⟨"CallGraphs$Sort", "isNamed", "()Z"⟩ ∈ gws := gw2 90 ⟨rfl, rfl⟩
theorem ws_387 : Cond.selects "CallGraphs$Sort" ⟨"CallGraphs$Sort", "isNamed", "()Z"⟩ ⟨"CallGraphs$Sort", "isNamed", "()Z"⟩ ∈ gws := gw2 91 ⟨rfl, rfl⟩
theorem wc_388 : Cond.code Y_Sort_isNamed.1 Y_Sort_isNamed.2.1 Y_Sort_isNamed.2.2.1 Y_Sort_isNamed.2.2.2 ∈ gws := gw2 92 ⟨rfl, rfl⟩
theorem dd_Sort_isNamed : (Y_Sort_isNamed.1.cls ≠ "java/lang/invoke/MethodHandle" ∧ Y_Sort_isNamed.1.cls ≠ "java/lang/invoke/VarHandle" ∧ (parseMethodDescriptor Y_Sort_isNamed.1.desc).map (fun d => d.parameters.length) = some 0) ∧ plainFor Y_Sort_isNamed.1 = true ∧ Y_Sort_isNamed.2.2.1 ≤ 20 := by decide +kernel
theorem ml_G_214 : MLv "CallGraphs" 214 Y_Sort_isNamed 0 := ⟨gw2 89 ⟨rfl, rfl⟩, wi_386, ws_387, wn_64, wc_388, dd_Sort_isNamed⟩
theorem wi_399 : Cond.instanceMethod ⟨"CallGraphs", "made", "(LCallGraphs$Member;III)LCallGraphs$Op;"⟩ ∈ gws := gw2 103 ⟨rfl, rfl⟩
theorem ws_4 : Cond.selects "CallGraphs" ⟨"CallGraphs", "made", "(LCallGraphs$Member;III)LCallGraphs$Op;"⟩ ⟨"CallGraphs", "made", "(LCallGraphs$Member;III)LCallGraphs$Op;"⟩ ∈ gws := gw0 4 ⟨rfl, rfl⟩
theorem wc_400 : Cond.code Y_G_mkop.1 Y_G_mkop.2.1 Y_G_mkop.2.2.1 Y_G_mkop.2.2.2 ∈ gws := gw2 104 ⟨rfl, rfl⟩
theorem dd_G_mkop : (Y_G_mkop.1.cls ≠ "java/lang/invoke/MethodHandle" ∧ Y_G_mkop.1.cls ≠ "java/lang/invoke/VarHandle" ∧ (parseMethodDescriptor Y_G_mkop.1.desc).map (fun d => d.parameters.length) = some 4) ∧ plainFor Y_G_mkop.1 = true ∧ Y_G_mkop.2.2.1 ≤ 20 := by decide +kernel
theorem ml_G_257 : MLv "CallGraphs" 257 Y_G_mkop 4 := ⟨gw2 101 ⟨rfl, rfl⟩, wi_399, ws_4, wn_57, wc_400, dd_G_mkop⟩
theorem wi_404 : Cond.instanceMethod ⟨"CallGraphs$New", "<init>", "(ILCallGraphs$Member;LCallGraphs$Type;)V"⟩ ∈ gws := gw2 108 ⟨rfl, rfl⟩
theorem wn_66 : Cond.initialized "CallGraphs$New" ∈ gws := gw1 10 ⟨rfl, rfl⟩
theorem wc_405 : Cond.code Y_New_init.1 Y_New_init.2.1 Y_New_init.2.2.1 Y_New_init.2.2.2 ∈ gws := gw2 109 ⟨rfl, rfl⟩
theorem dd_New_init : (Y_New_init.1.cls ≠ "java/lang/invoke/MethodHandle" ∧ Y_New_init.1.cls ≠ "java/lang/invoke/VarHandle" ∧ (parseMethodDescriptor Y_New_init.1.desc).map (fun d => d.parameters.length) = some 3) ∧ plainFor Y_New_init.1 = true ∧ Y_New_init.2.2.1 ≤ 20 := by decide +kernel
theorem ml_G_219 : MLi "CallGraphs" 219 Y_New_init 3 := ⟨gw2 107 ⟨rfl, rfl⟩, wi_404, rfl, wn_66, wc_405, dd_New_init.1, dd_New_init.2.1, dd_New_init.2.2, rfl⟩
theorem wi_407 : Cond.instanceMethod ⟨"CallGraphs$Op", "<init>", "(ILCallGraphs$Member;)V"⟩ ∈ gws := gw2 111 ⟨rfl, rfl⟩
theorem wn_65 : Cond.initialized "CallGraphs$Op" ∈ gws := gw1 9 ⟨rfl, rfl⟩
theorem wc_408 : Cond.code Y_Op_init.1 Y_Op_init.2.1 Y_Op_init.2.2.1 Y_Op_init.2.2.2 ∈ gws := gw2 112 ⟨rfl, rfl⟩
theorem dd_Op_init : (Y_Op_init.1.cls ≠ "java/lang/invoke/MethodHandle" ∧ Y_Op_init.1.cls ≠ "java/lang/invoke/VarHandle" ∧ (parseMethodDescriptor Y_Op_init.1.desc).map (fun d => d.parameters.length) = some 2) ∧ plainFor Y_Op_init.1 = true ∧ Y_Op_init.2.2.1 ≤ 20 := by decide +kernel
theorem ml_New_1 : MLi "CallGraphs$New" 1 Y_Op_init 2 := ⟨gw2 110 ⟨rfl, rfl⟩, wi_407, rfl, wn_65, wc_408, dd_Op_init.1, dd_Op_init.2.1, dd_Op_init.2.2, rfl⟩
theorem ml_Op_3 : Cond.methodLink "CallGraphs$Op" 3 Lib.objectInit ∈ gws := gw2 113 ⟨rfl, rfl⟩
theorem wi_432 : Cond.instanceMethod ⟨"CallGraphs$Call", "<init>", "(ILCallGraphs$Member;LCallGraphs$Type;I)V"⟩ ∈ gws := gw2 136 ⟨rfl, rfl⟩
theorem wn_67 : Cond.initialized "CallGraphs$Call" ∈ gws := gw1 11 ⟨rfl, rfl⟩
theorem wc_433 : Cond.code Y_Call_init.1 Y_Call_init.2.1 Y_Call_init.2.2.1 Y_Call_init.2.2.2 ∈ gws := gw2 137 ⟨rfl, rfl⟩
theorem dd_Call_init : (Y_Call_init.1.cls ≠ "java/lang/invoke/MethodHandle" ∧ Y_Call_init.1.cls ≠ "java/lang/invoke/VarHandle" ∧ (parseMethodDescriptor Y_Call_init.1.desc).map (fun d => d.parameters.length) = some 4) ∧ plainFor Y_Call_init.1 = true ∧ Y_Call_init.2.2.1 ≤ 20 := by decide +kernel
theorem ml_G_224 : MLi "CallGraphs" 224 Y_Call_init 4 := ⟨gw2 135 ⟨rfl, rfl⟩, wi_432, rfl, wn_67, wc_433, dd_Call_init.1, dd_Call_init.2.1, dd_Call_init.2.2, rfl⟩
theorem ml_Call_3 : MLi "CallGraphs$Call" 3 Y_Op_init 2 := ⟨gw2 138 ⟨rfl, rfl⟩, wi_407, rfl, wn_65, wc_408, dd_Op_init.1, dd_Op_init.2.1, dd_Op_init.2.2, rfl⟩
theorem wi_449 : Cond.instanceMethod ⟨"CallGraphs$Up", "<init>", "(ILCallGraphs$Member;LCallGraphs$Type;I)V"⟩ ∈ gws := gw2 153 ⟨rfl, rfl⟩
theorem wn_68 : Cond.initialized "CallGraphs$Up" ∈ gws := gw1 12 ⟨rfl, rfl⟩
theorem wc_450 : Cond.code Y_Up_init.1 Y_Up_init.2.1 Y_Up_init.2.2.1 Y_Up_init.2.2.2 ∈ gws := gw2 154 ⟨rfl, rfl⟩
theorem dd_Up_init : (Y_Up_init.1.cls ≠ "java/lang/invoke/MethodHandle" ∧ Y_Up_init.1.cls ≠ "java/lang/invoke/VarHandle" ∧ (parseMethodDescriptor Y_Up_init.1.desc).map (fun d => d.parameters.length) = some 4) ∧ plainFor Y_Up_init.1 = true ∧ Y_Up_init.2.2.1 ≤ 20 := by decide +kernel
theorem ml_G_229 : MLi "CallGraphs" 229 Y_Up_init 4 := ⟨gw2 152 ⟨rfl, rfl⟩, wi_449, rfl, wn_68, wc_450, dd_Up_init.1, dd_Up_init.2.1, dd_Up_init.2.2, rfl⟩
theorem ml_Up_1 : MLi "CallGraphs$Up" 1 Y_Op_init 2 := ⟨gw2 155 ⟨rfl, rfl⟩, wi_407, rfl, wn_65, wc_408, dd_Op_init.1, dd_Op_init.2.1, dd_Op_init.2.2, rfl⟩
theorem wi_466 : Cond.instanceMethod ⟨"CallGraphs$Static", "<init>", "(ILCallGraphs$Member;LCallGraphs$Type;I)V"⟩ ∈ gws := gw2 170 ⟨rfl, rfl⟩
theorem wn_69 : Cond.initialized "CallGraphs$Static" ∈ gws := gw1 13 ⟨rfl, rfl⟩
theorem wc_467 : Cond.code Y_Static_init.1 Y_Static_init.2.1 Y_Static_init.2.2.1 Y_Static_init.2.2.2 ∈ gws := gw2 171 ⟨rfl, rfl⟩
theorem dd_Static_init : (Y_Static_init.1.cls ≠ "java/lang/invoke/MethodHandle" ∧ Y_Static_init.1.cls ≠ "java/lang/invoke/VarHandle" ∧ (parseMethodDescriptor Y_Static_init.1.desc).map (fun d => d.parameters.length) = some 4) ∧ plainFor Y_Static_init.1 = true ∧ Y_Static_init.2.2.1 ≤ 20 := by decide +kernel
theorem ml_G_232 : MLi "CallGraphs" 232 Y_Static_init 4 := ⟨gw2 169 ⟨rfl, rfl⟩, wi_466, rfl, wn_69, wc_467, dd_Static_init.1, dd_Static_init.2.1, dd_Static_init.2.2, rfl⟩
theorem ml_Static_3 : MLi "CallGraphs$Static" 3 Y_Op_init 2 := ⟨gw2 172 ⟨rfl, rfl⟩, wi_407, rfl, wn_65, wc_408, dd_Op_init.1, dd_Op_init.2.1, dd_Op_init.2.2, rfl⟩
theorem wi_483 : Cond.instanceMethod ⟨"CallGraphs$Put", "<init>", "(ILCallGraphs$Member;ILCallGraphs$Member;)V"⟩ ∈ gws := gw2 187 ⟨rfl, rfl⟩
theorem wn_70 : Cond.initialized "CallGraphs$Put" ∈ gws := gw1 14 ⟨rfl, rfl⟩
theorem wc_484 : Cond.code Y_Put_init.1 Y_Put_init.2.1 Y_Put_init.2.2.1 Y_Put_init.2.2.2 ∈ gws := gw2 188 ⟨rfl, rfl⟩
theorem dd_Put_init : (Y_Put_init.1.cls ≠ "java/lang/invoke/MethodHandle" ∧ Y_Put_init.1.cls ≠ "java/lang/invoke/VarHandle" ∧ (parseMethodDescriptor Y_Put_init.1.desc).map (fun d => d.parameters.length) = some 4) ∧ plainFor Y_Put_init.1 = true ∧ Y_Put_init.2.2.1 ≤ 20 := by decide +kernel
theorem ml_G_235 : MLi "CallGraphs" 235 Y_Put_init 4 := ⟨gw2 186 ⟨rfl, rfl⟩, wi_483, rfl, wn_70, wc_484, dd_Put_init.1, dd_Put_init.2.1, dd_Put_init.2.2, rfl⟩
theorem ml_Put_1 : MLi "CallGraphs$Put" 1 Y_Op_init 2 := ⟨gw2 189 ⟨rfl, rfl⟩, wi_407, rfl, wn_65, wc_408, dd_Op_init.1, dd_Op_init.2.1, dd_Op_init.2.2, rfl⟩
theorem wi_500 : Cond.instanceMethod ⟨"CallGraphs$Out", "<init>", "(ILCallGraphs$Member;I)V"⟩ ∈ gws := gw2 204 ⟨rfl, rfl⟩
theorem wn_71 : Cond.initialized "CallGraphs$Out" ∈ gws := gw1 15 ⟨rfl, rfl⟩
theorem wc_501 : Cond.code Y_Out_init.1 Y_Out_init.2.1 Y_Out_init.2.2.1 Y_Out_init.2.2.2 ∈ gws := gw2 205 ⟨rfl, rfl⟩
theorem dd_Out_init : (Y_Out_init.1.cls ≠ "java/lang/invoke/MethodHandle" ∧ Y_Out_init.1.cls ≠ "java/lang/invoke/VarHandle" ∧ (parseMethodDescriptor Y_Out_init.1.desc).map (fun d => d.parameters.length) = some 3) ∧ plainFor Y_Out_init.1 = true ∧ Y_Out_init.2.2.1 ≤ 20 := by decide +kernel
theorem ml_G_240 : MLi "CallGraphs" 240 Y_Out_init 3 := ⟨gw2 203 ⟨rfl, rfl⟩, wi_500, rfl, wn_71, wc_501, dd_Out_init.1, dd_Out_init.2.1, dd_Out_init.2.2, rfl⟩
theorem ml_Out_3 : MLi "CallGraphs$Out" 3 Y_Op_init 2 := ⟨gw2 206 ⟨rfl, rfl⟩, wi_407, rfl, wn_65, wc_408, dd_Op_init.1, dd_Op_init.2.1, dd_Op_init.2.2, rfl⟩
theorem wi_514 : Cond.instanceMethod ⟨"CallGraphs$Any", "<init>", "(ILCallGraphs$Member;I)V"⟩ ∈ gws := gw2 218 ⟨rfl, rfl⟩
theorem wn_72 : Cond.initialized "CallGraphs$Any" ∈ gws := gw1 16 ⟨rfl, rfl⟩
theorem wc_515 : Cond.code Y_Any_init.1 Y_Any_init.2.1 Y_Any_init.2.2.1 Y_Any_init.2.2.2 ∈ gws := gw2 219 ⟨rfl, rfl⟩
theorem dd_Any_init : (Y_Any_init.1.cls ≠ "java/lang/invoke/MethodHandle" ∧ Y_Any_init.1.cls ≠ "java/lang/invoke/VarHandle" ∧ (parseMethodDescriptor Y_Any_init.1.desc).map (fun d => d.parameters.length) = some 3) ∧ plainFor Y_Any_init.1 = true ∧ Y_Any_init.2.2.1 ≤ 20 := by decide +kernel
theorem ml_G_245 : MLi "CallGraphs" 245 Y_Any_init 3 := ⟨gw2 217 ⟨rfl, rfl⟩, wi_514, rfl, wn_72, wc_515, dd_Any_init.1, dd_Any_init.2.1, dd_Any_init.2.2, rfl⟩
theorem ml_Any_1 : MLi "CallGraphs$Any" 1 Y_Op_init 2 := ⟨gw2 220 ⟨rfl, rfl⟩, wi_407, rfl, wn_65, wc_408, dd_Op_init.1, dd_Op_init.2.1, dd_Op_init.2.2, rfl⟩
theorem wi_526 : Cond.instanceMethod ⟨"CallGraphs", "root", "(IZ)I"⟩ ∈ gws := gw2 230 ⟨rfl, rfl⟩
theorem ws_527 : Cond.selects "CallGraphs" ⟨"CallGraphs", "root", "(IZ)I"⟩ ⟨"CallGraphs", "root", "(IZ)I"⟩ ∈ gws := gw2 231 ⟨rfl, rfl⟩
theorem wc_528 : Cond.code Y_G_root.1 Y_G_root.2.1 Y_G_root.2.2.1 Y_G_root.2.2.2 ∈ gws := gw2 232 ⟨rfl, rfl⟩
theorem dd_G_root : (Y_G_root.1.cls ≠ "java/lang/invoke/MethodHandle" ∧ Y_G_root.1.cls ≠ "java/lang/invoke/VarHandle" ∧ (parseMethodDescriptor Y_G_root.1.desc).map (fun d => d.parameters.length) = some 2) ∧ plainFor Y_G_root.1 = true ∧ Y_G_root.2.2.1 ≤ 20 := by decide +kernel
theorem ml_Law_32 : MLv "CallGraphsLaw" 32 Y_G_root 2 := ⟨gw2 229 ⟨rfl, rfl⟩, wi_526, ws_527, wn_57, wc_528, dd_G_root⟩
theorem wi_530 : Cond.instanceMethod ⟨"CallGraphs", "count", "(I)I"⟩ ∈ gws := gw2 234 ⟨rfl, rfl⟩
theorem ws_531 : Cond.selects "CallGraphs" ⟨"CallGraphs", "count", "(I)I"⟩ ⟨"CallGraphs", "count", "(I)I"⟩ ∈ gws := gw2 235 ⟨rfl, rfl⟩
theorem wc_532 : Cond.code Y_G_count.1 Y_G_count.2.1 Y_G_count.2.2.1 Y_G_count.2.2.2 ∈ gws := gw2 236 ⟨rfl, rfl⟩
theorem dd_G_count : (Y_G_count.1.cls ≠ "java/lang/invoke/MethodHandle" ∧ Y_G_count.1.cls ≠ "java/lang/invoke/VarHandle" ∧ (parseMethodDescriptor Y_G_count.1.desc).map (fun d => d.parameters.length) = some 1) ∧ plainFor Y_G_count.1 = true ∧ Y_G_count.2.2.1 ≤ 20 := by decide +kernel
theorem ml_Law_37 : MLv "CallGraphsLaw" 37 Y_G_count 1 := ⟨gw2 233 ⟨rfl, rfl⟩, wi_530, ws_531, wn_57, wc_532, dd_G_count⟩
theorem wi_535 : Cond.instanceMethod ⟨"CallGraphs", "draw", "()V"⟩ ∈ gws := gw2 239 ⟨rfl, rfl⟩
theorem ws_5 : Cond.selects "CallGraphs" ⟨"CallGraphs", "draw", "()V"⟩ ⟨"CallGraphs", "draw", "()V"⟩ ∈ gws := gw0 5 ⟨rfl, rfl⟩
theorem wc_536 : Cond.code Y_G_draw.1 Y_G_draw.2.1 Y_G_draw.2.2.1 Y_G_draw.2.2.2 ∈ gws := gw3 0 ⟨rfl, rfl⟩
theorem dd_G_draw : (Y_G_draw.1.cls ≠ "java/lang/invoke/MethodHandle" ∧ Y_G_draw.1.cls ≠ "java/lang/invoke/VarHandle" ∧ (parseMethodDescriptor Y_G_draw.1.desc).map (fun d => d.parameters.length) = some 0) ∧ plainFor Y_G_draw.1 = true ∧ Y_G_draw.2.2.1 ≤ 20 := by decide +kernel
theorem ml_G_260 : MLv "CallGraphs" 260 Y_G_draw 0 := ⟨gw2 237 ⟨rfl, rfl⟩, wi_535, ws_5, wn_57, wc_536, dd_G_draw⟩
theorem wt_538 : Cond.static ⟨"java/util/Arrays", "fill", "([ZZ)V"⟩ ∈ gws := gw3 2 ⟨rfl, rfl⟩
theorem wn_73 : Cond.initialized "java/util/Arrays" ∈ gws := gw1 17 ⟨rfl, rfl⟩
theorem wc_539 : Cond.code Y_Arr_fillZ.1 Y_Arr_fillZ.2.1 Y_Arr_fillZ.2.2.1 Y_Arr_fillZ.2.2.2 ∈ gws := gw3 3 ⟨rfl, rfl⟩
theorem dd_Arr_fillZ : (Y_Arr_fillZ.1.cls ≠ "java/lang/invoke/MethodHandle" ∧ Y_Arr_fillZ.1.cls ≠ "java/lang/invoke/VarHandle" ∧ (parseMethodDescriptor Y_Arr_fillZ.1.desc).map (fun d => d.parameters.length) = some 2) ∧ plainFor Y_Arr_fillZ.1 = true ∧ Y_Arr_fillZ.2.2.1 ≤ 20 := by decide +kernel
theorem ml_G_127 : MLs "CallGraphs" 127 Y_Arr_fillZ 2 := ⟨gw3 1 ⟨rfl, rfl⟩, wt_538, wn_73, wc_539, dd_Arr_fillZ⟩
theorem wi_541 : Cond.instanceMethod ⟨"CallGraphs$Op", "forget", "()V"⟩ ∈ gws := gw3 5 ⟨rfl, rfl⟩
theorem wc_550 : Cond.code Y_Op_forget.1 Y_Op_forget.2.1 Y_Op_forget.2.2.1 Y_Op_forget.2.2.2 ∈ gws := gw3 14 ⟨rfl, rfl⟩
theorem ml_G_149 : MLu "CallGraphs" 149 ⟨"CallGraphs$Op", "forget", "()V"⟩ "CallGraphs$Op" 0 := ⟨gw3 4 ⟨rfl, rfl⟩, gw3 6 ⟨rfl, rfl⟩, Or.inr ⟨Y_Op_forget.2.1, Y_Op_forget.2.2.1, Y_Op_forget.2.2.2, wi_541, wc_550⟩, ⟨by decide +kernel, by decide +kernel, by decide +kernel⟩⟩
def mt_Op_forget_Y : Nat → Meth
  | 5 => Y_Op_forget
  | 6 => Y_Op_forget
  | 7 => Y_Op_forget
  | 8 => Y_Op_forget
  | 9 => Y_Op_forget
  | 10 => Y_Op_forget
  | 11 => Y_Op_forget
  | _ => Y_Op_forget
theorem ws_543 : Cond.selects "CallGraphs$Any" ⟨"CallGraphs$Op", "forget", "()V"⟩ ⟨"CallGraphs$Op", "forget", "()V"⟩ ∈ gws := gw3 7 ⟨rfl, rfl⟩
theorem dd_Op_forget : (Y_Op_forget.1.cls ≠ "java/lang/invoke/MethodHandle" ∧ Y_Op_forget.1.cls ≠ "java/lang/invoke/VarHandle" ∧ (parseMethodDescriptor Y_Op_forget.1.desc).map (fun d => d.parameters.length) = some 0) ∧ plainFor Y_Op_forget.1 = true ∧ Y_Op_forget.2.2.1 ≤ 20 := by decide +kernel
theorem ws_544 : Cond.selects "CallGraphs$Call" ⟨"CallGraphs$Op", "forget", "()V"⟩ ⟨"CallGraphs$Op", "forget", "()V"⟩ ∈ gws := gw3 8 ⟨rfl, rfl⟩
theorem ws_545 : Cond.selects "CallGraphs$New" ⟨"CallGraphs$Op", "forget", "()V"⟩ ⟨"CallGraphs$Op", "forget", "()V"⟩ ∈ gws := gw3 9 ⟨rfl, rfl⟩
theorem ws_546 : Cond.selects "CallGraphs$Out" ⟨"CallGraphs$Op", "forget", "()V"⟩ ⟨"CallGraphs$Op", "forget", "()V"⟩ ∈ gws := gw3 10 ⟨rfl, rfl⟩
theorem ws_547 : Cond.selects "CallGraphs$Put" ⟨"CallGraphs$Op", "forget", "()V"⟩ ⟨"CallGraphs$Op", "forget", "()V"⟩ ∈ gws := gw3 11 ⟨rfl, rfl⟩
theorem ws_548 : Cond.selects "CallGraphs$Static" ⟨"CallGraphs$Op", "forget", "()V"⟩ ⟨"CallGraphs$Op", "forget", "()V"⟩ ∈ gws := gw3 12 ⟨rfl, rfl⟩
theorem ws_549 : Cond.selects "CallGraphs$Up" ⟨"CallGraphs$Op", "forget", "()V"⟩ ⟨"CallGraphs$Op", "forget", "()V"⟩ ∈ gws := gw3 13 ⟨rfl, rfl⟩
theorem mt_Op_forget : ∀ kd, (opk) kd = true → MLt ⟨"CallGraphs$Op", "forget", "()V"⟩ kd (mt_Op_forget_Y kd) := by
  intro q hq
  rcases opk_cases hq with rfl | rfl | rfl | rfl | rfl | rfl | rfl
  · exact ⟨by decide, ws_545, wi_541, wn_65, wc_550, dd_Op_forget.2⟩
  · exact ⟨by decide, ws_544, wi_541, wn_65, wc_550, dd_Op_forget.2⟩
  · exact ⟨by decide, ws_549, wi_541, wn_65, wc_550, dd_Op_forget.2⟩
  · exact ⟨by decide, ws_548, wi_541, wn_65, wc_550, dd_Op_forget.2⟩
  · exact ⟨by decide, ws_547, wi_541, wn_65, wc_550, dd_Op_forget.2⟩
  · exact ⟨by decide, ws_546, wi_541, wn_65, wc_550, dd_Op_forget.2⟩
  · exact ⟨by decide, ws_543, wi_541, wn_65, wc_550, dd_Op_forget.2⟩
theorem ml_Op_27 : MLs "CallGraphs$Op" 27 Y_Arr_fillZ 2 := ⟨gw3 15 ⟨rfl, rfl⟩, wt_538, wn_73, wc_539, dd_Arr_fillZ⟩
theorem wt_553 : Cond.static ⟨"java/util/Arrays", "fill", "([II)V"⟩ ∈ gws := gw3 17 ⟨rfl, rfl⟩
theorem wc_554 : Cond.code Y_Arr_fillI.1 Y_Arr_fillI.2.1 Y_Arr_fillI.2.2.1 Y_Arr_fillI.2.2.2 ∈ gws := gw3 18 ⟨rfl, rfl⟩
theorem dd_Arr_fillI : (Y_Arr_fillI.1.cls ≠ "java/lang/invoke/MethodHandle" ∧ Y_Arr_fillI.1.cls ≠ "java/lang/invoke/VarHandle" ∧ (parseMethodDescriptor Y_Arr_fillI.1.desc).map (fun d => d.parameters.length) = some 2) ∧ plainFor Y_Arr_fillI.1 = true ∧ Y_Arr_fillI.2.2.1 ≤ 20 := by decide +kernel
theorem ml_Op_33 : MLs "CallGraphs$Op" 33 Y_Arr_fillI 2 := ⟨gw3 16 ⟨rfl, rfl⟩, wt_553, wn_73, wc_554, dd_Arr_fillI⟩
theorem ml_G_152 : MLu "CallGraphs" 152 ⟨"CallGraphs$Op", "spread", "(LCallGraphs;)V"⟩ "CallGraphs$Op" 1 := ⟨gw3 19 ⟨rfl, rfl⟩, gw3 21 ⟨rfl, rfl⟩, Or.inl (lw3 20 rfl), ⟨by decide +kernel, by decide +kernel, by decide +kernel⟩⟩
def mt_Op_spread_Y : Nat → Meth
  | 5 => Y_New_spread
  | 6 => Y_Call_spread
  | 7 => Y_Up_spread
  | 8 => Y_Static_spread
  | 9 => Y_Put_spread
  | 10 => Y_Out_spread
  | 11 => Y_Any_spread
  | _ => Y_New_spread
theorem ws_558 : Cond.selects "CallGraphs$Any" ⟨"CallGraphs$Op", "spread", "(LCallGraphs;)V"⟩ ⟨"CallGraphs$Any", "spread", "(LCallGraphs;)V"⟩ ∈ gws := gw3 22 ⟨rfl, rfl⟩
theorem wi_559 : Cond.instanceMethod ⟨"CallGraphs$Any", "spread", "(LCallGraphs;)V"⟩ ∈ gws := gw3 23 ⟨rfl, rfl⟩
theorem wc_560 : Cond.code Y_Any_spread.1 Y_Any_spread.2.1 Y_Any_spread.2.2.1 Y_Any_spread.2.2.2 ∈ gws := gw3 24 ⟨rfl, rfl⟩
theorem dd_Any_spread : (Y_Any_spread.1.cls ≠ "java/lang/invoke/MethodHandle" ∧ Y_Any_spread.1.cls ≠ "java/lang/invoke/VarHandle" ∧ (parseMethodDescriptor Y_Any_spread.1.desc).map (fun d => d.parameters.length) = some 1) ∧ plainFor Y_Any_spread.1 = true ∧ Y_Any_spread.2.2.1 ≤ 20 := by decide +kernel
theorem ws_572 : Cond.selects "CallGraphs$Call" ⟨"CallGraphs$Op", "spread", "(LCallGraphs;)V"⟩ ⟨"CallGraphs$Call", "spread", "(LCallGraphs;)V"⟩ ∈ gws := gw3 36 ⟨rfl, rfl⟩
theorem wi_573 : Cond.instanceMethod ⟨"CallGraphs$Call", "spread", "(LCallGraphs;)V"⟩ ∈ gws := gw3 37 ⟨rfl, rfl⟩
theorem wc_574 : Cond.code Y_Call_spread.1 Y_Call_spread.2.1 Y_Call_spread.2.2.1 Y_Call_spread.2.2.2 ∈ gws := gw3 38 ⟨rfl, rfl⟩
theorem dd_Call_spread : (Y_Call_spread.1.cls ≠ "java/lang/invoke/MethodHandle" ∧ Y_Call_spread.1.cls ≠ "java/lang/invoke/VarHandle" ∧ (parseMethodDescriptor Y_Call_spread.1.desc).map (fun d => d.parameters.length) = some 1) ∧ plainFor Y_Call_spread.1 = true ∧ Y_Call_spread.2.2.1 ≤ 20 := by decide +kernel
theorem ws_606 : Cond.selects "CallGraphs$New" ⟨"CallGraphs$Op", "spread", "(LCallGraphs;)V"⟩ ⟨"CallGraphs$New", "spread", "(LCallGraphs;)V"⟩ ∈ gws := gw3 70 ⟨rfl, rfl⟩
theorem wi_607 : Cond.instanceMethod ⟨"CallGraphs$New", "spread", "(LCallGraphs;)V"⟩ ∈ gws := gw3 71 ⟨rfl, rfl⟩
theorem wc_608 : Cond.code Y_New_spread.1 Y_New_spread.2.1 Y_New_spread.2.2.1 Y_New_spread.2.2.2 ∈ gws := gw3 72 ⟨rfl, rfl⟩
theorem dd_New_spread : (Y_New_spread.1.cls ≠ "java/lang/invoke/MethodHandle" ∧ Y_New_spread.1.cls ≠ "java/lang/invoke/VarHandle" ∧ (parseMethodDescriptor Y_New_spread.1.desc).map (fun d => d.parameters.length) = some 1) ∧ plainFor Y_New_spread.1 = true ∧ Y_New_spread.2.2.1 ≤ 20 := by decide +kernel
theorem ws_619 : Cond.selects "CallGraphs$Out" ⟨"CallGraphs$Op", "spread", "(LCallGraphs;)V"⟩ ⟨"CallGraphs$Out", "spread", "(LCallGraphs;)V"⟩ ∈ gws := gw3 83 ⟨rfl, rfl⟩
theorem wi_620 : Cond.instanceMethod ⟨"CallGraphs$Out", "spread", "(LCallGraphs;)V"⟩ ∈ gws := gw3 84 ⟨rfl, rfl⟩
theorem wc_621 : Cond.code Y_Out_spread.1 Y_Out_spread.2.1 Y_Out_spread.2.2.1 Y_Out_spread.2.2.2 ∈ gws := gw3 85 ⟨rfl, rfl⟩
theorem dd_Out_spread : (Y_Out_spread.1.cls ≠ "java/lang/invoke/MethodHandle" ∧ Y_Out_spread.1.cls ≠ "java/lang/invoke/VarHandle" ∧ (parseMethodDescriptor Y_Out_spread.1.desc).map (fun d => d.parameters.length) = some 1) ∧ plainFor Y_Out_spread.1 = true ∧ Y_Out_spread.2.2.1 ≤ 20 := by decide +kernel
theorem ws_625 : Cond.selects "CallGraphs$Put" ⟨"CallGraphs$Op", "spread", "(LCallGraphs;)V"⟩ ⟨"CallGraphs$Put", "spread", "(LCallGraphs;)V"⟩ ∈ gws := gw3 89 ⟨rfl, rfl⟩
theorem wi_626 : Cond.instanceMethod ⟨"CallGraphs$Put", "spread", "(LCallGraphs;)V"⟩ ∈ gws := gw3 90 ⟨rfl, rfl⟩
theorem wc_627 : Cond.code Y_Put_spread.1 Y_Put_spread.2.1 Y_Put_spread.2.2.1 Y_Put_spread.2.2.2 ∈ gws := gw3 91 ⟨rfl, rfl⟩
theorem dd_Put_spread : (Y_Put_spread.1.cls ≠ "java/lang/invoke/MethodHandle" ∧ Y_Put_spread.1.cls ≠ "java/lang/invoke/VarHandle" ∧ (parseMethodDescriptor Y_Put_spread.1.desc).map (fun d => d.parameters.length) = some 1) ∧ plainFor Y_Put_spread.1 = true ∧ Y_Put_spread.2.2.1 ≤ 20 := by decide +kernel
theorem ws_628 : Cond.selects "CallGraphs$Static" ⟨"CallGraphs$Op", "spread", "(LCallGraphs;)V"⟩ ⟨"CallGraphs$Static", "spread", "(LCallGraphs;)V"⟩ ∈ gws := gw3 92 ⟨rfl, rfl⟩
theorem wi_629 : Cond.instanceMethod ⟨"CallGraphs$Static", "spread", "(LCallGraphs;)V"⟩ ∈ gws := gw3 93 ⟨rfl, rfl⟩
theorem wc_630 : Cond.code Y_Static_spread.1 Y_Static_spread.2.1 Y_Static_spread.2.2.1 Y_Static_spread.2.2.2 ∈ gws := gw3 94 ⟨rfl, rfl⟩
theorem dd_Static_spread : (Y_Static_spread.1.cls ≠ "java/lang/invoke/MethodHandle" ∧ Y_Static_spread.1.cls ≠ "java/lang/invoke/VarHandle" ∧ (parseMethodDescriptor Y_Static_spread.1.desc).map (fun d => d.parameters.length) = some 1) ∧ plainFor Y_Static_spread.1 = true ∧ Y_Static_spread.2.2.1 ≤ 20 := by decide +kernel
theorem ws_641 : Cond.selects "CallGraphs$Up" ⟨"CallGraphs$Op", "spread", "(LCallGraphs;)V"⟩ ⟨"CallGraphs$Up", "spread", "(LCallGraphs;)V"⟩ ∈ gws := gw3 105 ⟨rfl, rfl⟩
theorem wi_642 : Cond.instanceMethod ⟨"CallGraphs$Up", "spread", "(LCallGraphs;)V"⟩ ∈ gws := gw3 106 ⟨rfl, rfl⟩
theorem wc_643 : Cond.code Y_Up_spread.1 Y_Up_spread.2.1 Y_Up_spread.2.2.1 Y_Up_spread.2.2.2 ∈ gws := gw3 107 ⟨rfl, rfl⟩
theorem dd_Up_spread : (Y_Up_spread.1.cls ≠ "java/lang/invoke/MethodHandle" ∧ Y_Up_spread.1.cls ≠ "java/lang/invoke/VarHandle" ∧ (parseMethodDescriptor Y_Up_spread.1.desc).map (fun d => d.parameters.length) = some 1) ∧ plainFor Y_Up_spread.1 = true ∧ Y_Up_spread.2.2.1 ≤ 20 := by decide +kernel
theorem mt_Op_spread : ∀ kd, (opk) kd = true → MLt ⟨"CallGraphs$Op", "spread", "(LCallGraphs;)V"⟩ kd (mt_Op_spread_Y kd) := by
  intro q hq
  rcases opk_cases hq with rfl | rfl | rfl | rfl | rfl | rfl | rfl
  · exact ⟨by decide, ws_606, wi_607, wn_66, wc_608, dd_New_spread.2⟩
  · exact ⟨by decide, ws_572, wi_573, wn_67, wc_574, dd_Call_spread.2⟩
  · exact ⟨by decide, ws_641, wi_642, wn_68, wc_643, dd_Up_spread.2⟩
  · exact ⟨by decide, ws_628, wi_629, wn_69, wc_630, dd_Static_spread.2⟩
  · exact ⟨by decide, ws_625, wi_626, wn_70, wc_627, dd_Put_spread.2⟩
  · exact ⟨by decide, ws_619, wi_620, wn_71, wc_621, dd_Out_spread.2⟩
  · exact ⟨by decide, ws_558, wi_559, wn_72, wc_560, dd_Any_spread.2⟩
theorem wi_563 : Cond.instanceMethod ⟨"CallGraphs$Any", "tells", "(LCallGraphs$Member;)Z"⟩ ∈ gws := gw3 27 ⟨rfl, rfl⟩
theorem ws_6 : Cond.selects "CallGraphs$Any" ⟨"CallGraphs$Any", "tells", "(LCallGraphs$Member;)Z"⟩ ⟨"CallGraphs$Any", "tells", "(LCallGraphs$Member;)Z"⟩ ∈ gws := gw0 6 ⟨rfl, rfl⟩
theorem wc_564 : Cond.code Y_Any_tells.1 Y_Any_tells.2.1 Y_Any_tells.2.2.1 Y_Any_tells.2.2.2 ∈ gws := gw3 28 ⟨rfl, rfl⟩
theorem dd_Any_tells : (Y_Any_tells.1.cls ≠ "java/lang/invoke/MethodHandle" ∧ Y_Any_tells.1.cls ≠ "java/lang/invoke/VarHandle" ∧ (parseMethodDescriptor Y_Any_tells.1.desc).map (fun d => d.parameters.length) = some 1) ∧ plainFor Y_Any_tells.1 = true ∧ Y_Any_tells.2.2.1 ≤ 20 := by decide +kernel
theorem ml_Any_35 : MLv "CallGraphs$Any" 35 Y_Any_tells 1 := ⟨gw3 25 ⟨rfl, rfl⟩, wi_563, ws_6, wn_72, wc_564, dd_Any_tells⟩
theorem ml_Any_20 : MLv "CallGraphs$Any" 20 Y_Sort_isNamed 0 := ⟨gw3 29 ⟨rfl, rfl⟩, wi_386, ws_387, wn_64, wc_388, dd_Sort_isNamed⟩
theorem ml_Any_39 : MLu "CallGraphs$Any" 39 ⟨"CallGraphs$Any", "call", "(LCallGraphs;LCallGraphs$Member;)V"⟩ "CallGraphs$Op" 2 := ⟨gw3 30 ⟨rfl, rfl⟩, gw3 31 ⟨rfl, rfl⟩, Or.inl (lw3 32 rfl), ⟨by decide +kernel, by decide +kernel, by decide +kernel⟩⟩
def mt_Any_call_Y : Nat → Meth
  | 11 => Y_Op_call
  | _ => Y_Op_call
theorem ws_569 : Cond.selects "CallGraphs$Any" ⟨"CallGraphs$Any", "call", "(LCallGraphs;LCallGraphs$Member;)V"⟩ ⟨"CallGraphs$Op", "call", "(LCallGraphs;LCallGraphs$Member;)V"⟩ ∈ gws := gw3 33 ⟨rfl, rfl⟩
theorem wi_570 : Cond.instanceMethod ⟨"CallGraphs$Op", "call", "(LCallGraphs;LCallGraphs$Member;)V"⟩ ∈ gws := gw3 34 ⟨rfl, rfl⟩
theorem wc_571 : Cond.code Y_Op_call.1 Y_Op_call.2.1 Y_Op_call.2.2.1 Y_Op_call.2.2.2 ∈ gws := gw3 35 ⟨rfl, rfl⟩
theorem dd_Op_call : (Y_Op_call.1.cls ≠ "java/lang/invoke/MethodHandle" ∧ Y_Op_call.1.cls ≠ "java/lang/invoke/VarHandle" ∧ (parseMethodDescriptor Y_Op_call.1.desc).map (fun d => d.parameters.length) = some 2) ∧ plainFor Y_Op_call.1 = true ∧ Y_Op_call.2.2.1 ≤ 20 := by decide +kernel
theorem mt_Any_call : ∀ kd, ((· == 11)) kd = true → MLt ⟨"CallGraphs$Any", "call", "(LCallGraphs;LCallGraphs$Member;)V"⟩ kd (mt_Any_call_Y kd) := by
  intro q hq
  have e : q = 11 := by simpa using hq
  subst e
  · exact ⟨by decide, ws_569, wi_570, wn_65, wc_571, dd_Op_call.2⟩
theorem wi_577 : Cond.instanceMethod ⟨"CallGraphs", "find", "(LCallGraphs$Type;I)LCallGraphs$Member;"⟩ ∈ gws := gw3 41 ⟨rfl, rfl⟩
theorem ws_7 : Cond.selects "CallGraphs" ⟨"CallGraphs", "find", "(LCallGraphs$Type;I)LCallGraphs$Member;"⟩ ⟨"CallGraphs", "find", "(LCallGraphs$Type;I)LCallGraphs$Member;"⟩ ∈ gws := gw0 7 ⟨rfl, rfl⟩
theorem wc_578 : Cond.code Y_G_find.1 Y_G_find.2.1 Y_G_find.2.2.1 Y_G_find.2.2.2 ∈ gws := gw3 42 ⟨rfl, rfl⟩
theorem dd_G_find : (Y_G_find.1.cls ≠ "java/lang/invoke/MethodHandle" ∧ Y_G_find.1.cls ≠ "java/lang/invoke/VarHandle" ∧ (parseMethodDescriptor Y_G_find.1.desc).map (fun d => d.parameters.length) = some 2) ∧ plainFor Y_G_find.1 = true ∧ Y_G_find.2.2.1 ≤ 20 := by decide +kernel
theorem ml_Call_19 : MLn "CallGraphs$Call" 19 Y_G_find 2 := ⟨lw3 39 rfl, wi_577, ws_7, wn_57, wc_578, dd_G_find⟩
theorem wi_581 : Cond.instanceMethod ⟨"CallGraphs", "leave", "(LCallGraphs$Type;I)V"⟩ ∈ gws := gw3 45 ⟨rfl, rfl⟩
theorem ws_8 : Cond.selects "CallGraphs" ⟨"CallGraphs", "leave", "(LCallGraphs$Type;I)V"⟩ ⟨"CallGraphs", "leave", "(LCallGraphs$Type;I)V"⟩ ∈ gws := gw0 8 ⟨rfl, rfl⟩
theorem wc_582 : Cond.code Y_G_leave.1 Y_G_leave.2.1 Y_G_leave.2.2.1 Y_G_leave.2.2.2 ∈ gws := gw3 46 ⟨rfl, rfl⟩
theorem dd_G_leave : (Y_G_leave.1.cls ≠ "java/lang/invoke/MethodHandle" ∧ Y_G_leave.1.cls ≠ "java/lang/invoke/VarHandle" ∧ (parseMethodDescriptor Y_G_leave.1.desc).map (fun d => d.parameters.length) = some 2) ∧ plainFor Y_G_leave.1 = true ∧ Y_G_leave.2.2.1 ≤ 20 := by decide +kernel
theorem ml_G_95 : MLv "CallGraphs" 95 Y_G_leave 2 := ⟨gw3 43 ⟨rfl, rfl⟩, wi_581, ws_8, wn_57, wc_582, dd_G_leave⟩
theorem wi_585 : Cond.instanceMethod ⟨"CallGraphs", "isLeft", "(LCallGraphs$Type;LCallGraphs$Type;I)Z"⟩ ∈ gws := gw3 49 ⟨rfl, rfl⟩
theorem ws_9 : Cond.selects "CallGraphs" ⟨"CallGraphs", "isLeft", "(LCallGraphs$Type;LCallGraphs$Type;I)Z"⟩ ⟨"CallGraphs", "isLeft", "(LCallGraphs$Type;LCallGraphs$Type;I)Z"⟩ ∈ gws := gw0 9 ⟨rfl, rfl⟩
theorem wc_586 : Cond.code Y_G_isLeft.1 Y_G_isLeft.2.1 Y_G_isLeft.2.2.1 Y_G_isLeft.2.2.2 ∈ gws := gw3 50 ⟨rfl, rfl⟩
theorem dd_G_isLeft : (Y_G_isLeft.1.cls ≠ "java/lang/invoke/MethodHandle" ∧ Y_G_isLeft.1.cls ≠ "java/lang/invoke/VarHandle" ∧ (parseMethodDescriptor Y_G_isLeft.1.desc).map (fun d => d.parameters.length) = some 3) ∧ plainFor Y_G_isLeft.1 = true ∧ Y_G_isLeft.2.2.1 ≤ 20 := by decide +kernel
theorem ml_G_61 : MLv "CallGraphs" 61 Y_G_isLeft 3 := ⟨gw3 47 ⟨rfl, rfl⟩, wi_585, ws_9, wn_57, wc_586, dd_G_isLeft⟩
theorem wt_588 : Cond.static ⟨"CallGraphs", "isMeant", "(LCallGraphs$Type;LCallGraphs$Type;I)Z"⟩ ∈ gws := gw3 52 ⟨rfl, rfl⟩
theorem wc_589 : Cond.code Y_G_isMeant.1 Y_G_isMeant.2.1 Y_G_isMeant.2.2.1 Y_G_isMeant.2.2.2 ∈ gws := gw3 53 ⟨rfl, rfl⟩
theorem dd_G_isMeant : (Y_G_isMeant.1.cls ≠ "java/lang/invoke/MethodHandle" ∧ Y_G_isMeant.1.cls ≠ "java/lang/invoke/VarHandle" ∧ (parseMethodDescriptor Y_G_isMeant.1.desc).map (fun d => d.parameters.length) = some 3) ∧ plainFor Y_G_isMeant.1 = true ∧ Y_G_isMeant.2.2.1 ≤ 20 := by decide +kernel
theorem ml_G_88 : MLs "CallGraphs" 88 Y_G_isMeant 3 := ⟨gw3 51 ⟨rfl, rfl⟩, wt_588, wn_57, wc_589, dd_G_isMeant⟩
theorem wi_591 : Cond.instanceMethod ⟨"CallGraphs$Sort", "isOpen", "()Z"⟩ ∈ gws := gw3 55 ⟨rfl, rfl⟩
theorem ws_592 : Cond.selects "CallGraphs$Sort" ⟨"CallGraphs$Sort", "isOpen", "()Z"⟩ ⟨"CallGraphs$Sort", "isOpen", "()Z"⟩ ∈ gws := gw3 56 ⟨rfl, rfl⟩
theorem wc_593 : Cond.code Y_Sort_isOpen.1 Y_Sort_isOpen.2.1 Y_Sort_isOpen.2.2.1 Y_Sort_isOpen.2.2.2 ∈ gws := gw3 57 ⟨rfl, rfl⟩
theorem dd_Sort_isOpen : (Y_Sort_isOpen.1.cls ≠ "java/lang/invoke/MethodHandle" ∧ Y_Sort_isOpen.1.cls ≠ "java/lang/invoke/VarHandle" ∧ (parseMethodDescriptor Y_Sort_isOpen.1.desc).map (fun d => d.parameters.length) = some 0) ∧ plainFor Y_Sort_isOpen.1 = true ∧ Y_Sort_isOpen.2.2.1 ≤ 20 := by decide +kernel
theorem ml_G_81 : MLv "CallGraphs" 81 Y_Sort_isOpen 0 := ⟨gw3 54 ⟨rfl, rfl⟩, wi_591, ws_592, wn_64, wc_593, dd_Sort_isOpen⟩
theorem ml_Call_34 : MLv "CallGraphs$Call" 34 Y_Type_isUnder 1 := ⟨gw3 60 ⟨rfl, rfl⟩, wi_302, ws_303, wn_62, wc_304, dd_Type_isUnder⟩
theorem wi_599 : Cond.instanceMethod ⟨"CallGraphs", "choose", "(LCallGraphs$Type;LCallGraphs$Member;)I"⟩ ∈ gws := gw3 63 ⟨rfl, rfl⟩
theorem ws_10 : Cond.selects "CallGraphs" ⟨"CallGraphs", "choose", "(LCallGraphs$Type;LCallGraphs$Member;)I"⟩ ⟨"CallGraphs", "choose", "(LCallGraphs$Type;LCallGraphs$Member;)I"⟩ ∈ gws := gw0 10 ⟨rfl, rfl⟩
theorem wc_600 : Cond.code Y_G_choose.1 Y_G_choose.2.1 Y_G_choose.2.2.1 Y_G_choose.2.2.2 ∈ gws := gw3 64 ⟨rfl, rfl⟩
theorem dd_G_choose : (Y_G_choose.1.cls ≠ "java/lang/invoke/MethodHandle" ∧ Y_G_choose.1.cls ≠ "java/lang/invoke/VarHandle" ∧ (parseMethodDescriptor Y_G_choose.1.desc).map (fun d => d.parameters.length) = some 2) ∧ plainFor Y_G_choose.1 = true ∧ Y_G_choose.2.2.1 ≤ 20 := by decide +kernel
theorem ml_Call_40 : MLn "CallGraphs$Call" 40 Y_G_choose 2 := ⟨lw3 61 rfl, wi_599, ws_10, wn_57, wc_600, dd_G_choose⟩
theorem ml_Call_48 : MLu "CallGraphs$Call" 48 ⟨"CallGraphs$Call", "call", "(LCallGraphs;LCallGraphs$Member;)V"⟩ "CallGraphs$Op" 2 := ⟨gw3 67 ⟨rfl, rfl⟩, gw3 68 ⟨rfl, rfl⟩, Or.inl (lw3 32 rfl), ⟨by decide +kernel, by decide +kernel, by decide +kernel⟩⟩
def mt_Call_call_Y : Nat → Meth
  | 6 => Y_Op_call
  | _ => Y_Op_call
theorem ws_605 : Cond.selects "CallGraphs$Call" ⟨"CallGraphs$Call", "call", "(LCallGraphs;LCallGraphs$Member;)V"⟩ ⟨"CallGraphs$Op", "call", "(LCallGraphs;LCallGraphs$Member;)V"⟩ ∈ gws := gw3 69 ⟨rfl, rfl⟩
theorem mt_Call_call : ∀ kd, ((· == 6)) kd = true → MLt ⟨"CallGraphs$Call", "call", "(LCallGraphs;LCallGraphs$Member;)V"⟩ kd (mt_Call_call_Y kd) := by
  intro q hq
  have e : q = 6 := by simpa using hq
  subst e
  · exact ⟨by decide, ws_605, wi_570, wn_65, wc_571, dd_Op_call.2⟩
theorem wi_611 : Cond.instanceMethod ⟨"CallGraphs", "begin", "(LCallGraphs$Op;LCallGraphs$Type;)V"⟩ ∈ gws := gw3 75 ⟨rfl, rfl⟩
theorem ws_11 : Cond.selects "CallGraphs" ⟨"CallGraphs", "begin", "(LCallGraphs$Op;LCallGraphs$Type;)V"⟩ ⟨"CallGraphs", "begin", "(LCallGraphs$Op;LCallGraphs$Type;)V"⟩ ∈ gws := gw0 11 ⟨rfl, rfl⟩
theorem wc_612 : Cond.code Y_G_begin.1 Y_G_begin.2.1 Y_G_begin.2.2.1 Y_G_begin.2.2.2 ∈ gws := gw3 76 ⟨rfl, rfl⟩
theorem dd_G_begin : (Y_G_begin.1.cls ≠ "java/lang/invoke/MethodHandle" ∧ Y_G_begin.1.cls ≠ "java/lang/invoke/VarHandle" ∧ (parseMethodDescriptor Y_G_begin.1.desc).map (fun d => d.parameters.length) = some 2) ∧ plainFor Y_G_begin.1 = true ∧ Y_G_begin.2.2.1 ≤ 20 := by decide +kernel
theorem ml_New_29 : MLn "CallGraphs$New" 29 Y_G_begin 2 := ⟨lw3 73 rfl, wi_611, ws_11, wn_57, wc_612, dd_G_begin⟩
theorem wi_614 : Cond.instanceMethod ⟨"CallGraphs$Type", "hasPlain", "()Z"⟩ ∈ gws := gw3 78 ⟨rfl, rfl⟩
theorem ws_615 : Cond.selects "CallGraphs$Type" ⟨"CallGraphs$Type", "hasPlain", "()Z"⟩ ⟨"CallGraphs$Type", "hasPlain", "()Z"⟩ ∈ gws := gw3 79 ⟨rfl, rfl⟩
theorem wc_616 : Cond.code Y_Type_hasPlain.1 Y_Type_hasPlain.2.1 Y_Type_hasPlain.2.2.1 Y_Type_hasPlain.2.2.2 ∈ gws := gw3 80 ⟨rfl, rfl⟩
theorem dd_Type_hasPlain : (Y_Type_hasPlain.1.cls ≠ "java/lang/invoke/MethodHandle" ∧ Y_Type_hasPlain.1.cls ≠ "java/lang/invoke/VarHandle" ∧ (parseMethodDescriptor Y_Type_hasPlain.1.desc).map (fun d => d.parameters.length) = some 0) ∧ plainFor Y_Type_hasPlain.1 = true ∧ Y_Type_hasPlain.2.2.1 ≤ 20 := by decide +kernel
theorem ml_G_108 : MLv "CallGraphs" 108 Y_Type_hasPlain 0 := ⟨gw3 77 ⟨rfl, rfl⟩, wi_614, ws_615, wn_62, wc_616, dd_Type_hasPlain⟩
theorem ml_G_118 : MLu "CallGraphs" 118 ⟨"CallGraphs$Op", "call", "(LCallGraphs;LCallGraphs$Member;)V"⟩ "CallGraphs$Op" 2 := ⟨gw3 82 ⟨rfl, rfl⟩, gw5 183 ⟨rfl, rfl⟩, Or.inl (lw3 32 rfl), ⟨by decide +kernel, by decide +kernel, by decide +kernel⟩⟩
def mt_Op_call_Y : Nat → Meth
  | 5 => Y_Op_call
  | 6 => Y_Op_call
  | 7 => Y_Op_call
  | 8 => Y_Op_call
  | 9 => Y_Op_call
  | 10 => Y_Op_call
  | 11 => Y_Op_call
  | _ => Y_Op_call
theorem ws_1200 : Cond.selects "CallGraphs$Any" ⟨"CallGraphs$Op", "call", "(LCallGraphs;LCallGraphs$Member;)V"⟩ ⟨"CallGraphs$Op", "call", "(LCallGraphs;LCallGraphs$Member;)V"⟩ ∈ gws := gw5 184 ⟨rfl, rfl⟩
theorem ws_1201 : Cond.selects "CallGraphs$Call" ⟨"CallGraphs$Op", "call", "(LCallGraphs;LCallGraphs$Member;)V"⟩ ⟨"CallGraphs$Op", "call", "(LCallGraphs;LCallGraphs$Member;)V"⟩ ∈ gws := gw5 185 ⟨rfl, rfl⟩
theorem ws_1202 : Cond.selects "CallGraphs$New" ⟨"CallGraphs$Op", "call", "(LCallGraphs;LCallGraphs$Member;)V"⟩ ⟨"CallGraphs$Op", "call", "(LCallGraphs;LCallGraphs$Member;)V"⟩ ∈ gws := gw5 186 ⟨rfl, rfl⟩
theorem ws_1203 : Cond.selects "CallGraphs$Out" ⟨"CallGraphs$Op", "call", "(LCallGraphs;LCallGraphs$Member;)V"⟩ ⟨"CallGraphs$Op", "call", "(LCallGraphs;LCallGraphs$Member;)V"⟩ ∈ gws := gw5 187 ⟨rfl, rfl⟩
theorem ws_1204 : Cond.selects "CallGraphs$Put" ⟨"CallGraphs$Op", "call", "(LCallGraphs;LCallGraphs$Member;)V"⟩ ⟨"CallGraphs$Op", "call", "(LCallGraphs;LCallGraphs$Member;)V"⟩ ∈ gws := gw5 188 ⟨rfl, rfl⟩
theorem ws_1205 : Cond.selects "CallGraphs$Static" ⟨"CallGraphs$Op", "call", "(LCallGraphs;LCallGraphs$Member;)V"⟩ ⟨"CallGraphs$Op", "call", "(LCallGraphs;LCallGraphs$Member;)V"⟩ ∈ gws := gw5 189 ⟨rfl, rfl⟩
theorem ws_1206 : Cond.selects "CallGraphs$Up" ⟨"CallGraphs$Op", "call", "(LCallGraphs;LCallGraphs$Member;)V"⟩ ⟨"CallGraphs$Op", "call", "(LCallGraphs;LCallGraphs$Member;)V"⟩ ∈ gws := gw5 190 ⟨rfl, rfl⟩
theorem mt_Op_call : ∀ kd, (opk) kd = true → MLt ⟨"CallGraphs$Op", "call", "(LCallGraphs;LCallGraphs$Member;)V"⟩ kd (mt_Op_call_Y kd) := by
  intro q hq
  rcases opk_cases hq with rfl | rfl | rfl | rfl | rfl | rfl | rfl
  · exact ⟨by decide, ws_1202, wi_570, wn_65, wc_571, dd_Op_call.2⟩
  · exact ⟨by decide, ws_1201, wi_570, wn_65, wc_571, dd_Op_call.2⟩
  · exact ⟨by decide, ws_1206, wi_570, wn_65, wc_571, dd_Op_call.2⟩
  · exact ⟨by decide, ws_1205, wi_570, wn_65, wc_571, dd_Op_call.2⟩
  · exact ⟨by decide, ws_1204, wi_570, wn_65, wc_571, dd_Op_call.2⟩
  · exact ⟨by decide, ws_1203, wi_570, wn_65, wc_571, dd_Op_call.2⟩
  · exact ⟨by decide, ws_1200, wi_570, wn_65, wc_571, dd_Op_call.2⟩
theorem ml_Out_26 : MLu "CallGraphs$Out" 26 ⟨"CallGraphs$Out", "call", "(LCallGraphs;LCallGraphs$Member;)V"⟩ "CallGraphs$Op" 2 := ⟨gw3 86 ⟨rfl, rfl⟩, gw3 87 ⟨rfl, rfl⟩, Or.inl (lw3 32 rfl), ⟨by decide +kernel, by decide +kernel, by decide +kernel⟩⟩
def mt_Out_call_Y : Nat → Meth
  | 10 => Y_Op_call
  | _ => Y_Op_call
theorem ws_624 : Cond.selects "CallGraphs$Out" ⟨"CallGraphs$Out", "call", "(LCallGraphs;LCallGraphs$Member;)V"⟩ ⟨"CallGraphs$Op", "call", "(LCallGraphs;LCallGraphs$Member;)V"⟩ ∈ gws := gw3 88 ⟨rfl, rfl⟩
theorem mt_Out_call : ∀ kd, ((· == 10)) kd = true → MLt ⟨"CallGraphs$Out", "call", "(LCallGraphs;LCallGraphs$Member;)V"⟩ kd (mt_Out_call_Y kd) := by
  intro q hq
  have e : q = 10 := by simpa using hq
  subst e
  · exact ⟨by decide, ws_624, wi_570, wn_65, wc_571, dd_Op_call.2⟩
theorem wi_633 : Cond.instanceMethod ⟨"CallGraphs$Static", "told", "(LCallGraphs;)LCallGraphs$Member;"⟩ ∈ gws := gw3 97 ⟨rfl, rfl⟩
theorem ws_12 : Cond.selects "CallGraphs$Static" ⟨"CallGraphs$Static", "told", "(LCallGraphs;)LCallGraphs$Member;"⟩ ⟨"CallGraphs$Static", "told", "(LCallGraphs;)LCallGraphs$Member;"⟩ ∈ gws := gw0 12 ⟨rfl, rfl⟩
theorem wc_634 : Cond.code Y_Static_told.1 Y_Static_told.2.1 Y_Static_told.2.2.1 Y_Static_told.2.2.2 ∈ gws := gw3 98 ⟨rfl, rfl⟩
theorem dd_Static_told : (Y_Static_told.1.cls ≠ "java/lang/invoke/MethodHandle" ∧ Y_Static_told.1.cls ≠ "java/lang/invoke/VarHandle" ∧ (parseMethodDescriptor Y_Static_told.1.desc).map (fun d => d.parameters.length) = some 1) ∧ plainFor Y_Static_told.1 = true ∧ Y_Static_told.2.2.1 ≤ 20 := by decide +kernel
theorem ml_Static_34 : MLv "CallGraphs$Static" 34 Y_Static_told 1 := ⟨gw3 95 ⟨rfl, rfl⟩, wi_633, ws_12, wn_69, wc_634, dd_Static_told⟩
theorem ml_Static_19 : MLn "CallGraphs$Static" 19 Y_G_find 2 := ⟨lw3 99 rfl, wi_577, ws_7, wn_57, wc_578, dd_G_find⟩
theorem ml_Static_38 : MLu "CallGraphs$Static" 38 ⟨"CallGraphs$Static", "call", "(LCallGraphs;LCallGraphs$Member;)V"⟩ "CallGraphs$Op" 2 := ⟨gw3 101 ⟨rfl, rfl⟩, gw3 102 ⟨rfl, rfl⟩, Or.inl (lw3 32 rfl), ⟨by decide +kernel, by decide +kernel, by decide +kernel⟩⟩
def mt_Static_call_Y : Nat → Meth
  | 8 => Y_Op_call
  | _ => Y_Op_call
theorem ws_639 : Cond.selects "CallGraphs$Static" ⟨"CallGraphs$Static", "call", "(LCallGraphs;LCallGraphs$Member;)V"⟩ ⟨"CallGraphs$Op", "call", "(LCallGraphs;LCallGraphs$Member;)V"⟩ ∈ gws := gw3 103 ⟨rfl, rfl⟩
theorem mt_Static_call : ∀ kd, ((· == 8)) kd = true → MLt ⟨"CallGraphs$Static", "call", "(LCallGraphs;LCallGraphs$Member;)V"⟩ kd (mt_Static_call_Y kd) := by
  intro q hq
  have e : q = 8 := by simpa using hq
  subst e
  · exact ⟨by decide, ws_639, wi_570, wn_65, wc_571, dd_Op_call.2⟩
theorem ml_Static_45 : MLn "CallGraphs$Static" 45 Y_G_begin 2 := ⟨lw3 104 rfl, wi_611, ws_11, wn_57, wc_612, dd_G_begin⟩
theorem ml_Up_17 : MLn "CallGraphs$Up" 17 Y_G_find 2 := ⟨lw3 108 rfl, wi_577, ws_7, wn_57, wc_578, dd_G_find⟩
theorem ml_Up_23 : MLn "CallGraphs$Up" 23 Y_G_choose 2 := ⟨lw3 109 rfl, wi_599, ws_10, wn_57, wc_600, dd_G_choose⟩
theorem ml_Up_31 : MLu "CallGraphs$Up" 31 ⟨"CallGraphs$Up", "call", "(LCallGraphs;LCallGraphs$Member;)V"⟩ "CallGraphs$Op" 2 := ⟨gw3 110 ⟨rfl, rfl⟩, gw3 111 ⟨rfl, rfl⟩, Or.inl (lw3 32 rfl), ⟨by decide +kernel, by decide +kernel, by decide +kernel⟩⟩
def mt_Up_call_Y : Nat → Meth
  | 7 => Y_Op_call
  | _ => Y_Op_call
theorem ws_648 : Cond.selects "CallGraphs$Up" ⟨"CallGraphs$Up", "call", "(LCallGraphs;LCallGraphs$Member;)V"⟩ ⟨"CallGraphs$Op", "call", "(LCallGraphs;LCallGraphs$Member;)V"⟩ ∈ gws := gw3 112 ⟨rfl, rfl⟩
theorem mt_Up_call : ∀ kd, ((· == 7)) kd = true → MLt ⟨"CallGraphs$Up", "call", "(LCallGraphs;LCallGraphs$Member;)V"⟩ kd (mt_Up_call_Y kd) := by
  intro q hq
  have e : q = 7 := by simpa using hq
  subst e
  · exact ⟨by decide, ws_648, wi_570, wn_65, wc_571, dd_Op_call.2⟩
theorem wi_651 : Cond.instanceMethod ⟨"CallGraphs", "close", "()V"⟩ ∈ gws := gw3 115 ⟨rfl, rfl⟩
theorem ws_13 : Cond.selects "CallGraphs" ⟨"CallGraphs", "close", "()V"⟩ ⟨"CallGraphs", "close", "()V"⟩ ∈ gws := gw0 13 ⟨rfl, rfl⟩
theorem wc_652 : Cond.code Y_G_close.1 Y_G_close.2.1 Y_G_close.2.2.1 Y_G_close.2.2.2 ∈ gws := gw3 116 ⟨rfl, rfl⟩
theorem dd_G_close : (Y_G_close.1.cls ≠ "java/lang/invoke/MethodHandle" ∧ Y_G_close.1.cls ≠ "java/lang/invoke/VarHandle" ∧ (parseMethodDescriptor Y_G_close.1.desc).map (fun d => d.parameters.length) = some 0) ∧ plainFor Y_G_close.1 = true ∧ Y_G_close.2.2.1 ≤ 20 := by decide +kernel
theorem ml_G_156 : MLv "CallGraphs" 156 Y_G_close 0 := ⟨gw3 113 ⟨rfl, rfl⟩, wi_651, ws_13, wn_57, wc_652, dd_G_close⟩
theorem wi_654 : Cond.instanceMethod ⟨"CallGraphs$Op", "judge", "(LCallGraphs;)V"⟩ ∈ gws := gw3 118 ⟨rfl, rfl⟩
theorem wc_681 : Cond.code Y_Op_judge.1 Y_Op_judge.2.1 Y_Op_judge.2.2.1 Y_Op_judge.2.2.2 ∈ gws := gw3 145 ⟨rfl, rfl⟩
theorem ml_G_159 : MLu "CallGraphs" 159 ⟨"CallGraphs$Op", "judge", "(LCallGraphs;)V"⟩ "CallGraphs$Op" 1 := ⟨gw3 117 ⟨rfl, rfl⟩, gw3 119 ⟨rfl, rfl⟩, Or.inr ⟨Y_Op_judge.2.1, Y_Op_judge.2.2.1, Y_Op_judge.2.2.2, wi_654, wc_681⟩, ⟨by decide +kernel, by decide +kernel, by decide +kernel⟩⟩
def mt_Op_judge_Y : Nat → Meth
  | 5 => Y_Op_judge
  | 6 => Y_Call_judge
  | 7 => Y_Up_judge
  | 8 => Y_Static_judge
  | 9 => Y_Op_judge
  | 10 => Y_Op_judge
  | 11 => Y_Op_judge
  | _ => Y_Op_judge
theorem ws_656 : Cond.selects "CallGraphs$Any" ⟨"CallGraphs$Op", "judge", "(LCallGraphs;)V"⟩ ⟨"CallGraphs$Op", "judge", "(LCallGraphs;)V"⟩ ∈ gws := gw3 120 ⟨rfl, rfl⟩
theorem dd_Op_judge : (Y_Op_judge.1.cls ≠ "java/lang/invoke/MethodHandle" ∧ Y_Op_judge.1.cls ≠ "java/lang/invoke/VarHandle" ∧ (parseMethodDescriptor Y_Op_judge.1.desc).map (fun d => d.parameters.length) = some 1) ∧ plainFor Y_Op_judge.1 = true ∧ Y_Op_judge.2.2.1 ≤ 20 := by decide +kernel
theorem ws_657 : Cond.selects "CallGraphs$Call" ⟨"CallGraphs$Op", "judge", "(LCallGraphs;)V"⟩ ⟨"CallGraphs$Call", "judge", "(LCallGraphs;)V"⟩ ∈ gws := gw3 121 ⟨rfl, rfl⟩
theorem wi_658 : Cond.instanceMethod ⟨"CallGraphs$Call", "judge", "(LCallGraphs;)V"⟩ ∈ gws := gw3 122 ⟨rfl, rfl⟩
theorem wc_659 : Cond.code Y_Call_judge.1 Y_Call_judge.2.1 Y_Call_judge.2.2.1 Y_Call_judge.2.2.2 ∈ gws := gw3 123 ⟨rfl, rfl⟩
theorem dd_Call_judge : (Y_Call_judge.1.cls ≠ "java/lang/invoke/MethodHandle" ∧ Y_Call_judge.1.cls ≠ "java/lang/invoke/VarHandle" ∧ (parseMethodDescriptor Y_Call_judge.1.desc).map (fun d => d.parameters.length) = some 1) ∧ plainFor Y_Call_judge.1 = true ∧ Y_Call_judge.2.2.1 ≤ 20 := by decide +kernel
theorem ws_666 : Cond.selects "CallGraphs$New" ⟨"CallGraphs$Op", "judge", "(LCallGraphs;)V"⟩ ⟨"CallGraphs$Op", "judge", "(LCallGraphs;)V"⟩ ∈ gws := gw3 130 ⟨rfl, rfl⟩
theorem ws_667 : Cond.selects "CallGraphs$Out" ⟨"CallGraphs$Op", "judge", "(LCallGraphs;)V"⟩ ⟨"CallGraphs$Op", "judge", "(LCallGraphs;)V"⟩ ∈ gws := gw3 131 ⟨rfl, rfl⟩
theorem ws_668 : Cond.selects "CallGraphs$Put" ⟨"CallGraphs$Op", "judge", "(LCallGraphs;)V"⟩ ⟨"CallGraphs$Op", "judge", "(LCallGraphs;)V"⟩ ∈ gws := gw3 132 ⟨rfl, rfl⟩
theorem ws_669 : Cond.selects "CallGraphs$Static" ⟨"CallGraphs$Op", "judge", "(LCallGraphs;)V"⟩ ⟨"CallGraphs$Static", "judge", "(LCallGraphs;)V"⟩ ∈ gws := gw3 133 ⟨rfl, rfl⟩
theorem wi_670 : Cond.instanceMethod ⟨"CallGraphs$Static", "judge", "(LCallGraphs;)V"⟩ ∈ gws := gw3 134 ⟨rfl, rfl⟩
theorem wc_671 : Cond.code Y_Static_judge.1 Y_Static_judge.2.1 Y_Static_judge.2.2.1 Y_Static_judge.2.2.2 ∈ gws := gw3 135 ⟨rfl, rfl⟩
theorem dd_Static_judge : (Y_Static_judge.1.cls ≠ "java/lang/invoke/MethodHandle" ∧ Y_Static_judge.1.cls ≠ "java/lang/invoke/VarHandle" ∧ (parseMethodDescriptor Y_Static_judge.1.desc).map (fun d => d.parameters.length) = some 1) ∧ plainFor Y_Static_judge.1 = true ∧ Y_Static_judge.2.2.1 ≤ 20 := by decide +kernel
theorem ws_675 : Cond.selects "CallGraphs$Up" ⟨"CallGraphs$Op", "judge", "(LCallGraphs;)V"⟩ ⟨"CallGraphs$Up", "judge", "(LCallGraphs;)V"⟩ ∈ gws := gw3 139 ⟨rfl, rfl⟩
theorem wi_676 : Cond.instanceMethod ⟨"CallGraphs$Up", "judge", "(LCallGraphs;)V"⟩ ∈ gws := gw3 140 ⟨rfl, rfl⟩
theorem wc_677 : Cond.code Y_Up_judge.1 Y_Up_judge.2.1 Y_Up_judge.2.2.1 Y_Up_judge.2.2.2 ∈ gws := gw3 141 ⟨rfl, rfl⟩
theorem dd_Up_judge : (Y_Up_judge.1.cls ≠ "java/lang/invoke/MethodHandle" ∧ Y_Up_judge.1.cls ≠ "java/lang/invoke/VarHandle" ∧ (parseMethodDescriptor Y_Up_judge.1.desc).map (fun d => d.parameters.length) = some 1) ∧ plainFor Y_Up_judge.1 = true ∧ Y_Up_judge.2.2.1 ≤ 20 := by decide +kernel
theorem mt_Op_judge : ∀ kd, (opk) kd = true → MLt ⟨"CallGraphs$Op", "judge", "(LCallGraphs;)V"⟩ kd (mt_Op_judge_Y kd) := by
  intro q hq
  rcases opk_cases hq with rfl | rfl | rfl | rfl | rfl | rfl | rfl
  · exact ⟨by decide, ws_666, wi_654, wn_65, wc_681, dd_Op_judge.2⟩
  · exact ⟨by decide, ws_657, wi_658, wn_67, wc_659, dd_Call_judge.2⟩
  · exact ⟨by decide, ws_675, wi_676, wn_68, wc_677, dd_Up_judge.2⟩
  · exact ⟨by decide, ws_669, wi_670, wn_69, wc_671, dd_Static_judge.2⟩
  · exact ⟨by decide, ws_668, wi_654, wn_65, wc_681, dd_Op_judge.2⟩
  · exact ⟨by decide, ws_667, wi_654, wn_65, wc_681, dd_Op_judge.2⟩
  · exact ⟨by decide, ws_656, wi_654, wn_65, wc_681, dd_Op_judge.2⟩
theorem ml_Call_52 : MLu "CallGraphs$Call" 52 ⟨"CallGraphs$Call", "fault", "(I)V"⟩ "CallGraphs$Op" 1 := ⟨gw3 124 ⟨rfl, rfl⟩, gw3 125 ⟨rfl, rfl⟩, Or.inl (lw3 126 rfl), ⟨by decide +kernel, by decide +kernel, by decide +kernel⟩⟩
def mt_Call_fault_Y : Nat → Meth
  | 6 => Y_Op_fault
  | _ => Y_Op_fault
theorem ws_663 : Cond.selects "CallGraphs$Call" ⟨"CallGraphs$Call", "fault", "(I)V"⟩ ⟨"CallGraphs$Op", "fault", "(I)V"⟩ ∈ gws := gw3 127 ⟨rfl, rfl⟩
theorem wi_664 : Cond.instanceMethod ⟨"CallGraphs$Op", "fault", "(I)V"⟩ ∈ gws := gw3 128 ⟨rfl, rfl⟩
theorem wc_665 : Cond.code Y_Op_fault.1 Y_Op_fault.2.1 Y_Op_fault.2.2.1 Y_Op_fault.2.2.2 ∈ gws := gw3 129 ⟨rfl, rfl⟩
theorem dd_Op_fault : (Y_Op_fault.1.cls ≠ "java/lang/invoke/MethodHandle" ∧ Y_Op_fault.1.cls ≠ "java/lang/invoke/VarHandle" ∧ (parseMethodDescriptor Y_Op_fault.1.desc).map (fun d => d.parameters.length) = some 1) ∧ plainFor Y_Op_fault.1 = true ∧ Y_Op_fault.2.2.1 ≤ 20 := by decide +kernel
theorem mt_Call_fault : ∀ kd, ((· == 6)) kd = true → MLt ⟨"CallGraphs$Call", "fault", "(I)V"⟩ kd (mt_Call_fault_Y kd) := by
  intro q hq
  have e : q = 6 := by simpa using hq
  subst e
  · exact ⟨by decide, ws_663, wi_664, wn_65, wc_665, dd_Op_fault.2⟩
theorem ml_Static_49 : MLu "CallGraphs$Static" 49 ⟨"CallGraphs$Static", "fault", "(I)V"⟩ "CallGraphs$Op" 1 := ⟨gw3 136 ⟨rfl, rfl⟩, gw3 137 ⟨rfl, rfl⟩, Or.inl (lw3 126 rfl), ⟨by decide +kernel, by decide +kernel, by decide +kernel⟩⟩
def mt_Static_fault_Y : Nat → Meth
  | 8 => Y_Op_fault
  | _ => Y_Op_fault
theorem ws_674 : Cond.selects "CallGraphs$Static" ⟨"CallGraphs$Static", "fault", "(I)V"⟩ ⟨"CallGraphs$Op", "fault", "(I)V"⟩ ∈ gws := gw3 138 ⟨rfl, rfl⟩
theorem mt_Static_fault : ∀ kd, ((· == 8)) kd = true → MLt ⟨"CallGraphs$Static", "fault", "(I)V"⟩ kd (mt_Static_fault_Y kd) := by
  intro q hq
  have e : q = 8 := by simpa using hq
  subst e
  · exact ⟨by decide, ws_674, wi_664, wn_65, wc_665, dd_Op_fault.2⟩
theorem ml_Up_35 : MLu "CallGraphs$Up" 35 ⟨"CallGraphs$Up", "fault", "(I)V"⟩ "CallGraphs$Op" 1 := ⟨gw3 142 ⟨rfl, rfl⟩, gw3 143 ⟨rfl, rfl⟩, Or.inl (lw3 126 rfl), ⟨by decide +kernel, by decide +kernel, by decide +kernel⟩⟩
def mt_Up_fault_Y : Nat → Meth
  | 7 => Y_Op_fault
  | _ => Y_Op_fault
theorem ws_680 : Cond.selects "CallGraphs$Up" ⟨"CallGraphs$Up", "fault", "(I)V"⟩ ⟨"CallGraphs$Op", "fault", "(I)V"⟩ ∈ gws := gw3 144 ⟨rfl, rfl⟩
theorem mt_Up_fault : ∀ kd, ((· == 7)) kd = true → MLt ⟨"CallGraphs$Up", "fault", "(I)V"⟩ kd (mt_Up_fault_Y kd) := by
  intro q hq
  have e : q = 7 := by simpa using hq
  subst e
  · exact ⟨by decide, ws_680, wi_664, wn_65, wc_665, dd_Op_fault.2⟩
theorem wi_684 : Cond.instanceMethod ⟨"CallGraphs", "countOf", "(LCallGraphs$Member;I)I"⟩ ∈ gws := gw3 148 ⟨rfl, rfl⟩
theorem ws_14 : Cond.selects "CallGraphs" ⟨"CallGraphs", "countOf", "(LCallGraphs$Member;I)I"⟩ ⟨"CallGraphs", "countOf", "(LCallGraphs$Member;I)I"⟩ ∈ gws := gw0 14 ⟨rfl, rfl⟩
theorem wc_685 : Cond.code Y_G_countOf.1 Y_G_countOf.2.1 Y_G_countOf.2.2.1 Y_G_countOf.2.2.2 ∈ gws := gw3 149 ⟨rfl, rfl⟩
theorem dd_G_countOf : (Y_G_countOf.1.cls ≠ "java/lang/invoke/MethodHandle" ∧ Y_G_countOf.1.cls ≠ "java/lang/invoke/VarHandle" ∧ (parseMethodDescriptor Y_G_countOf.1.desc).map (fun d => d.parameters.length) = some 2) ∧ plainFor Y_G_countOf.1 = true ∧ Y_G_countOf.2.2.1 ≤ 20 := by decide +kernel
theorem ml_G_263 : MLv "CallGraphs" 263 Y_G_countOf 2 := ⟨gw3 146 ⟨rfl, rfl⟩, wi_684, ws_14, wn_57, wc_685, dd_G_countOf⟩
theorem wi_687 : Cond.instanceMethod ⟨"CallGraphs", "under", "(II)I"⟩ ∈ gws := gw3 151 ⟨rfl, rfl⟩
theorem ws_688 : Cond.selects "CallGraphs" ⟨"CallGraphs", "under", "(II)I"⟩ ⟨"CallGraphs", "under", "(II)I"⟩ ∈ gws := gw3 152 ⟨rfl, rfl⟩
theorem wc_689 : Cond.code Y_G_under.1 Y_G_under.2.1 Y_G_under.2.2.1 Y_G_under.2.2.2 ∈ gws := gw3 153 ⟨rfl, rfl⟩
theorem dd_G_under : (Y_G_under.1.cls ≠ "java/lang/invoke/MethodHandle" ∧ Y_G_under.1.cls ≠ "java/lang/invoke/VarHandle" ∧ (parseMethodDescriptor Y_G_under.1.desc).map (fun d => d.parameters.length) = some 2) ∧ plainFor Y_G_under.1 = true ∧ Y_G_under.2.2.1 ≤ 20 := by decide +kernel
theorem ml_Law_42 : MLv "CallGraphsLaw" 42 Y_G_under 2 := ⟨gw3 150 ⟨rfl, rfl⟩, wi_687, ws_688, wn_57, wc_689, dd_G_under⟩
theorem wi_691 : Cond.instanceMethod ⟨"CallGraphs", "found", "(II)I"⟩ ∈ gws := gw3 155 ⟨rfl, rfl⟩
theorem ws_692 : Cond.selects "CallGraphs" ⟨"CallGraphs", "found", "(II)I"⟩ ⟨"CallGraphs", "found", "(II)I"⟩ ∈ gws := gw3 156 ⟨rfl, rfl⟩
theorem wc_693 : Cond.code Y_G_found.1 Y_G_found.2.1 Y_G_found.2.2.1 Y_G_found.2.2.2 ∈ gws := gw3 157 ⟨rfl, rfl⟩
theorem dd_G_found : (Y_G_found.1.cls ≠ "java/lang/invoke/MethodHandle" ∧ Y_G_found.1.cls ≠ "java/lang/invoke/VarHandle" ∧ (parseMethodDescriptor Y_G_found.1.desc).map (fun d => d.parameters.length) = some 2) ∧ plainFor Y_G_found.1 = true ∧ Y_G_found.2.2.1 ≤ 20 := by decide +kernel
theorem ml_Law_46 : MLv "CallGraphsLaw" 46 Y_G_found 2 := ⟨gw3 154 ⟨rfl, rfl⟩, wi_691, ws_692, wn_57, wc_693, dd_G_found⟩
theorem ml_G_270 : MLv "CallGraphs" 270 Y_G_find 2 := ⟨gw3 158 ⟨rfl, rfl⟩, wi_577, ws_7, wn_57, wc_578, dd_G_find⟩
theorem wi_696 : Cond.instanceMethod ⟨"CallGraphs", "chosen", "(III)I"⟩ ∈ gws := gw3 160 ⟨rfl, rfl⟩
theorem ws_697 : Cond.selects "CallGraphs" ⟨"CallGraphs", "chosen", "(III)I"⟩ ⟨"CallGraphs", "chosen", "(III)I"⟩ ∈ gws := gw3 161 ⟨rfl, rfl⟩
theorem wc_698 : Cond.code Y_G_chosen.1 Y_G_chosen.2.1 Y_G_chosen.2.2.1 Y_G_chosen.2.2.2 ∈ gws := gw3 162 ⟨rfl, rfl⟩
theorem dd_G_chosen : (Y_G_chosen.1.cls ≠ "java/lang/invoke/MethodHandle" ∧ Y_G_chosen.1.cls ≠ "java/lang/invoke/VarHandle" ∧ (parseMethodDescriptor Y_G_chosen.1.desc).map (fun d => d.parameters.length) = some 3) ∧ plainFor Y_G_chosen.1 = true ∧ Y_G_chosen.2.2.1 ≤ 20 := by decide +kernel
theorem ml_Law_50 : MLv "CallGraphsLaw" 50 Y_G_chosen 3 := ⟨gw3 159 ⟨rfl, rfl⟩, wi_696, ws_697, wn_57, wc_698, dd_G_chosen⟩
theorem ml_G_274 : MLv "CallGraphs" 274 Y_G_choose 2 := ⟨gw3 163 ⟨rfl, rfl⟩, wi_599, ws_10, wn_57, wc_600, dd_G_choose⟩
theorem wi_701 : Cond.instanceMethod ⟨"CallGraphs", "about", "(II)I"⟩ ∈ gws := gw3 165 ⟨rfl, rfl⟩
theorem ws_702 : Cond.selects "CallGraphs" ⟨"CallGraphs", "about", "(II)I"⟩ ⟨"CallGraphs", "about", "(II)I"⟩ ∈ gws := gw3 166 ⟨rfl, rfl⟩
theorem wc_703 : Cond.code Y_G_about.1 Y_G_about.2.1 Y_G_about.2.2.1 Y_G_about.2.2.2 ∈ gws := gw3 167 ⟨rfl, rfl⟩
theorem dd_G_about : (Y_G_about.1.cls ≠ "java/lang/invoke/MethodHandle" ∧ Y_G_about.1.cls ≠ "java/lang/invoke/VarHandle" ∧ (parseMethodDescriptor Y_G_about.1.desc).map (fun d => d.parameters.length) = some 2) ∧ plainFor Y_G_about.1 = true ∧ Y_G_about.2.2.1 ≤ 20 := by decide +kernel
theorem ml_Law_54 : MLv "CallGraphsLaw" 54 Y_G_about 2 := ⟨gw3 164 ⟨rfl, rfl⟩, wi_701, ws_702, wn_57, wc_703, dd_G_about⟩
theorem wi_706 : Cond.instanceMethod ⟨"CallGraphs", "calls", "(LCallGraphs$Member;I)Z"⟩ ∈ gws := gw3 170 ⟨rfl, rfl⟩
theorem ws_15 : Cond.selects "CallGraphs" ⟨"CallGraphs", "calls", "(LCallGraphs$Member;I)Z"⟩ ⟨"CallGraphs", "calls", "(LCallGraphs$Member;I)Z"⟩ ∈ gws := gw0 15 ⟨rfl, rfl⟩
theorem wc_707 : Cond.code Y_G_calls.1 Y_G_calls.2.1 Y_G_calls.2.2.1 Y_G_calls.2.2.2 ∈ gws := gw3 171 ⟨rfl, rfl⟩
theorem dd_G_calls : (Y_G_calls.1.cls ≠ "java/lang/invoke/MethodHandle" ∧ Y_G_calls.1.cls ≠ "java/lang/invoke/VarHandle" ∧ (parseMethodDescriptor Y_G_calls.1.desc).map (fun d => d.parameters.length) = some 2) ∧ plainFor Y_G_calls.1 = true ∧ Y_G_calls.2.2.1 ≤ 20 := by decide +kernel
theorem ml_G_278 : MLv "CallGraphs" 278 Y_G_calls 2 := ⟨gw3 168 ⟨rfl, rfl⟩, wi_706, ws_15, wn_57, wc_707, dd_G_calls⟩
theorem wi_710 : Cond.instanceMethod ⟨"CallGraphs", "ring", "(I)I"⟩ ∈ gws := gw3 174 ⟨rfl, rfl⟩
theorem ws_16 : Cond.selects "CallGraphs" ⟨"CallGraphs", "ring", "(I)I"⟩ ⟨"CallGraphs", "ring", "(I)I"⟩ ∈ gws := gw0 16 ⟨rfl, rfl⟩
theorem wc_711 : Cond.code Y_G_ring.1 Y_G_ring.2.1 Y_G_ring.2.2.1 Y_G_ring.2.2.2 ∈ gws := gw3 175 ⟨rfl, rfl⟩
theorem dd_G_ring : (Y_G_ring.1.cls ≠ "java/lang/invoke/MethodHandle" ∧ Y_G_ring.1.cls ≠ "java/lang/invoke/VarHandle" ∧ (parseMethodDescriptor Y_G_ring.1.desc).map (fun d => d.parameters.length) = some 1) ∧ plainFor Y_G_ring.1 = true ∧ Y_G_ring.2.2.1 ≤ 20 := by decide +kernel
theorem ml_G_282 : MLv "CallGraphs" 282 Y_G_ring 1 := ⟨gw3 172 ⟨rfl, rfl⟩, wi_710, ws_16, wn_57, wc_711, dd_G_ring⟩
theorem wi_713 : Cond.instanceMethod ⟨"CallGraphs", "made", "(II)I"⟩ ∈ gws := gw3 177 ⟨rfl, rfl⟩
theorem ws_714 : Cond.selects "CallGraphs" ⟨"CallGraphs", "made", "(II)I"⟩ ⟨"CallGraphs", "made", "(II)I"⟩ ∈ gws := gw3 178 ⟨rfl, rfl⟩
theorem wc_715 : Cond.code Y_G_made.1 Y_G_made.2.1 Y_G_made.2.2.1 Y_G_made.2.2.2 ∈ gws := gw3 179 ⟨rfl, rfl⟩
theorem dd_G_made : (Y_G_made.1.cls ≠ "java/lang/invoke/MethodHandle" ∧ Y_G_made.1.cls ≠ "java/lang/invoke/VarHandle" ∧ (parseMethodDescriptor Y_G_made.1.desc).map (fun d => d.parameters.length) = some 2) ∧ plainFor Y_G_made.1 = true ∧ Y_G_made.2.2.1 ≤ 20 := by decide +kernel
theorem ml_Law_58 : MLv "CallGraphsLaw" 58 Y_G_made 2 := ⟨gw3 176 ⟨rfl, rfl⟩, wi_713, ws_714, wn_57, wc_715, dd_G_made⟩
theorem wi_717 : Cond.instanceMethod ⟨"CallGraphs", "callee", "(III)I"⟩ ∈ gws := gw3 181 ⟨rfl, rfl⟩
theorem ws_718 : Cond.selects "CallGraphs" ⟨"CallGraphs", "callee", "(III)I"⟩ ⟨"CallGraphs", "callee", "(III)I"⟩ ∈ gws := gw3 182 ⟨rfl, rfl⟩
theorem wc_719 : Cond.code Y_G_callee.1 Y_G_callee.2.1 Y_G_callee.2.2.1 Y_G_callee.2.2.2 ∈ gws := gw3 183 ⟨rfl, rfl⟩
theorem dd_G_callee : (Y_G_callee.1.cls ≠ "java/lang/invoke/MethodHandle" ∧ Y_G_callee.1.cls ≠ "java/lang/invoke/VarHandle" ∧ (parseMethodDescriptor Y_G_callee.1.desc).map (fun d => d.parameters.length) = some 3) ∧ plainFor Y_G_callee.1 = true ∧ Y_G_callee.2.2.1 ≤ 20 := by decide +kernel
theorem ml_Law_62 : MLv "CallGraphsLaw" 62 Y_G_callee 3 := ⟨gw3 180 ⟨rfl, rfl⟩, wi_717, ws_718, wn_57, wc_719, dd_G_callee⟩
theorem wi_722 : Cond.instanceMethod ⟨"CallGraphs", "isOp", "(II)Z"⟩ ∈ gws := gw3 186 ⟨rfl, rfl⟩
theorem ws_17 : Cond.selects "CallGraphs" ⟨"CallGraphs", "isOp", "(II)Z"⟩ ⟨"CallGraphs", "isOp", "(II)Z"⟩ ∈ gws := gw0 17 ⟨rfl, rfl⟩
theorem wc_723 : Cond.code Y_G_isOp.1 Y_G_isOp.2.1 Y_G_isOp.2.2.1 Y_G_isOp.2.2.2 ∈ gws := gw3 187 ⟨rfl, rfl⟩
theorem dd_G_isOp : (Y_G_isOp.1.cls ≠ "java/lang/invoke/MethodHandle" ∧ Y_G_isOp.1.cls ≠ "java/lang/invoke/VarHandle" ∧ (parseMethodDescriptor Y_G_isOp.1.desc).map (fun d => d.parameters.length) = some 2) ∧ plainFor Y_G_isOp.1 = true ∧ Y_G_isOp.2.2.1 ≤ 20 := by decide +kernel
theorem ml_G_286 : MLv "CallGraphs" 286 Y_G_isOp 2 := ⟨gw3 184 ⟨rfl, rfl⟩, wi_722, ws_17, wn_57, wc_723, dd_G_isOp⟩
theorem wi_725 : Cond.instanceMethod ⟨"CallGraphs", "faults", "(III)I"⟩ ∈ gws := gw3 189 ⟨rfl, rfl⟩
theorem ws_726 : Cond.selects "CallGraphs" ⟨"CallGraphs", "faults", "(III)I"⟩ ⟨"CallGraphs", "faults", "(III)I"⟩ ∈ gws := gw3 190 ⟨rfl, rfl⟩
theorem wc_727 : Cond.code Y_G_faults.1 Y_G_faults.2.1 Y_G_faults.2.2.1 Y_G_faults.2.2.2 ∈ gws := gw3 191 ⟨rfl, rfl⟩
theorem dd_G_faults : (Y_G_faults.1.cls ≠ "java/lang/invoke/MethodHandle" ∧ Y_G_faults.1.cls ≠ "java/lang/invoke/VarHandle" ∧ (parseMethodDescriptor Y_G_faults.1.desc).map (fun d => d.parameters.length) = some 3) ∧ plainFor Y_G_faults.1 = true ∧ Y_G_faults.2.2.1 ≤ 20 := by decide +kernel
theorem ml_Law_66 : MLv "CallGraphsLaw" 66 Y_G_faults 3 := ⟨gw3 188 ⟨rfl, rfl⟩, wi_725, ws_726, wn_57, wc_727, dd_G_faults⟩
theorem wi_729 : Cond.instanceMethod ⟨"CallGraphs", "caller", "(II)I"⟩ ∈ gws := gw3 193 ⟨rfl, rfl⟩
theorem ws_730 : Cond.selects "CallGraphs" ⟨"CallGraphs", "caller", "(II)I"⟩ ⟨"CallGraphs", "caller", "(II)I"⟩ ∈ gws := gw3 194 ⟨rfl, rfl⟩
theorem wc_731 : Cond.code Y_G_caller.1 Y_G_caller.2.1 Y_G_caller.2.2.1 Y_G_caller.2.2.2 ∈ gws := gw3 195 ⟨rfl, rfl⟩
theorem dd_G_caller : (Y_G_caller.1.cls ≠ "java/lang/invoke/MethodHandle" ∧ Y_G_caller.1.cls ≠ "java/lang/invoke/VarHandle" ∧ (parseMethodDescriptor Y_G_caller.1.desc).map (fun d => d.parameters.length) = some 2) ∧ plainFor Y_G_caller.1 = true ∧ Y_G_caller.2.2.1 ≤ 20 := by decide +kernel
theorem ml_Law_70 : MLv "CallGraphsLaw" 70 Y_G_caller 2 := ⟨gw3 192 ⟨rfl, rfl⟩, wi_729, ws_730, wn_57, wc_731, dd_G_caller⟩
theorem wi_733 : Cond.instanceMethod ⟨"CallGraphs", "way", "(II)I"⟩ ∈ gws := gw3 197 ⟨rfl, rfl⟩
theorem ws_734 : Cond.selects "CallGraphs" ⟨"CallGraphs", "way", "(II)I"⟩ ⟨"CallGraphs", "way", "(II)I"⟩ ∈ gws := gw3 198 ⟨rfl, rfl⟩
theorem wc_735 : Cond.code Y_G_way.1 Y_G_way.2.1 Y_G_way.2.2.1 Y_G_way.2.2.2 ∈ gws := gw3 199 ⟨rfl, rfl⟩
theorem dd_G_way : (Y_G_way.1.cls ≠ "java/lang/invoke/MethodHandle" ∧ Y_G_way.1.cls ≠ "java/lang/invoke/VarHandle" ∧ (parseMethodDescriptor Y_G_way.1.desc).map (fun d => d.parameters.length) = some 2) ∧ plainFor Y_G_way.1 = true ∧ Y_G_way.2.2.1 ≤ 20 := by decide +kernel
theorem ml_Law_74 : MLv "CallGraphsLaw" 74 Y_G_way 2 := ⟨gw3 196 ⟨rfl, rfl⟩, wi_733, ws_734, wn_57, wc_735, dd_G_way⟩
theorem wi_738 : Cond.instanceMethod ⟨"CallGraphs", "measure", "(I)V"⟩ ∈ gws := gw3 202 ⟨rfl, rfl⟩
theorem ws_18 : Cond.selects "CallGraphs" ⟨"CallGraphs", "measure", "(I)V"⟩ ⟨"CallGraphs", "measure", "(I)V"⟩ ∈ gws := gw0 18 ⟨rfl, rfl⟩
theorem wc_739 : Cond.code Y_G_measure.1 Y_G_measure.2.1 Y_G_measure.2.2.1 Y_G_measure.2.2.2 ∈ gws := gw3 203 ⟨rfl, rfl⟩
theorem dd_G_measure : (Y_G_measure.1.cls ≠ "java/lang/invoke/MethodHandle" ∧ Y_G_measure.1.cls ≠ "java/lang/invoke/VarHandle" ∧ (parseMethodDescriptor Y_G_measure.1.desc).map (fun d => d.parameters.length) = some 1) ∧ plainFor Y_G_measure.1 = true ∧ Y_G_measure.2.2.1 ≤ 20 := by decide +kernel
theorem ml_G_293 : MLv "CallGraphs" 293 Y_G_measure 1 := ⟨gw3 200 ⟨rfl, rfl⟩, wi_738, ws_18, wn_57, wc_739, dd_G_measure⟩
theorem ml_G_290 : MLs "CallGraphs" 290 Y_Arr_fillI 2 := ⟨gw3 204 ⟨rfl, rfl⟩, wt_553, wn_73, wc_554, dd_Arr_fillI⟩
theorem wi_742 : Cond.instanceMethod ⟨"CallGraphs", "run", "(JI)I"⟩ ∈ gws := gw3 206 ⟨rfl, rfl⟩
theorem ws_743 : Cond.selects "CallGraphs" ⟨"CallGraphs", "run", "(JI)I"⟩ ⟨"CallGraphs", "run", "(JI)I"⟩ ∈ gws := gw3 207 ⟨rfl, rfl⟩
theorem wc_744 : Cond.code Y_G_run.1 Y_G_run.2.1 Y_G_run.2.2.1 Y_G_run.2.2.2 ∈ gws := gw3 208 ⟨rfl, rfl⟩
theorem dd_G_run : (Y_G_run.1.cls ≠ "java/lang/invoke/MethodHandle" ∧ Y_G_run.1.cls ≠ "java/lang/invoke/VarHandle" ∧ (parseMethodDescriptor Y_G_run.1.desc).map (fun d => d.parameters.length) = some 2) ∧ plainFor Y_G_run.1 = true ∧ Y_G_run.2.2.1 ≤ 20 := by decide +kernel
theorem ml_Law_80 : MLv "CallGraphsLaw" 80 Y_G_run 2 := ⟨gw3 205 ⟨rfl, rfl⟩, wi_742, ws_743, wn_57, wc_744, dd_G_run⟩
theorem wi_746 : Cond.instanceMethod ⟨"CallGraphs$Run", "play", "(LCallGraphs;J)V"⟩ ∈ gws := gw3 210 ⟨rfl, rfl⟩
theorem ws_747 : Cond.selects "CallGraphs$Run" ⟨"CallGraphs$Run", "play", "(LCallGraphs;J)V"⟩ ⟨"CallGraphs$Run", "play", "(LCallGraphs;J)V"⟩ ∈ gws := gw3 211 ⟨rfl, rfl⟩
theorem wc_748 : Cond.code Y_Run_play.1 Y_Run_play.2.1 Y_Run_play.2.2.1 Y_Run_play.2.2.2 ∈ gws := gw3 212 ⟨rfl, rfl⟩
theorem dd_Run_play : (Y_Run_play.1.cls ≠ "java/lang/invoke/MethodHandle" ∧ Y_Run_play.1.cls ≠ "java/lang/invoke/VarHandle" ∧ (parseMethodDescriptor Y_Run_play.1.desc).map (fun d => d.parameters.length) = some 2) ∧ plainFor Y_Run_play.1 = true ∧ Y_Run_play.2.2.1 ≤ 20 := by decide +kernel
theorem ml_G_297 : MLv "CallGraphs" 297 Y_Run_play 2 := ⟨gw3 209 ⟨rfl, rfl⟩, wi_746, ws_747, wn_58, wc_748, dd_Run_play⟩
theorem ml_Run_46 : MLs "CallGraphs$Run" 46 Y_Arr_fillZ 2 := ⟨gw3 213 ⟨rfl, rfl⟩, wt_538, wn_73, wc_539, dd_Arr_fillZ⟩
theorem ml_Run_52 : MLs "CallGraphs$Run" 52 Y_Arr_fillI 2 := ⟨gw3 214 ⟨rfl, rfl⟩, wt_553, wn_73, wc_554, dd_Arr_fillI⟩
theorem wi_752 : Cond.instanceMethod ⟨"CallGraphs$Run", "run", "(LCallGraphs$Op;LCallGraphs$Member;)V"⟩ ∈ gws := gw3 216 ⟨rfl, rfl⟩
theorem ws_753 : Cond.selects "CallGraphs$Run" ⟨"CallGraphs$Run", "run", "(LCallGraphs$Op;LCallGraphs$Member;)V"⟩ ⟨"CallGraphs$Run", "run", "(LCallGraphs$Op;LCallGraphs$Member;)V"⟩ ∈ gws := gw3 217 ⟨rfl, rfl⟩
theorem wc_754 : Cond.code Y_Run_run.1 Y_Run_run.2.1 Y_Run_run.2.2.1 Y_Run_run.2.2.2 ∈ gws := gw3 218 ⟨rfl, rfl⟩
theorem dd_Run_run : (Y_Run_run.1.cls ≠ "java/lang/invoke/MethodHandle" ∧ Y_Run_run.1.cls ≠ "java/lang/invoke/VarHandle" ∧ (parseMethodDescriptor Y_Run_run.1.desc).map (fun d => d.parameters.length) = some 2) ∧ plainFor Y_Run_run.1 = true ∧ Y_Run_run.2.2.1 ≤ 20 := by decide +kernel
theorem ml_Run_80 : MLv "CallGraphs$Run" 80 Y_Run_run 2 := ⟨gw3 215 ⟨rfl, rfl⟩, wi_752, ws_753, wn_58, wc_754, dd_Run_run⟩
theorem wi_756 : Cond.instanceMethod ⟨"CallGraphs$Run", "draw", "(I)I"⟩ ∈ gws := gw3 220 ⟨rfl, rfl⟩
theorem ws_757 : Cond.selects "CallGraphs$Run" ⟨"CallGraphs$Run", "draw", "(I)I"⟩ ⟨"CallGraphs$Run", "draw", "(I)I"⟩ ∈ gws := gw3 221 ⟨rfl, rfl⟩
theorem wc_758 : Cond.code Y_Run_draw.1 Y_Run_draw.2.1 Y_Run_draw.2.2.1 Y_Run_draw.2.2.2 ∈ gws := gw3 222 ⟨rfl, rfl⟩
theorem dd_Run_draw : (Y_Run_draw.1.cls ≠ "java/lang/invoke/MethodHandle" ∧ Y_Run_draw.1.cls ≠ "java/lang/invoke/VarHandle" ∧ (parseMethodDescriptor Y_Run_draw.1.desc).map (fun d => d.parameters.length) = some 1) ∧ plainFor Y_Run_draw.1 = true ∧ Y_Run_draw.2.2.1 ≤ 20 := by decide +kernel
theorem ml_Run_92 : MLv "CallGraphs$Run" 92 Y_Run_draw 1 := ⟨gw3 219 ⟨rfl, rfl⟩, wi_756, ws_757, wn_58, wc_758, dd_Run_draw⟩
theorem ml_Run_144 : MLu "CallGraphs$Run" 144 ⟨"CallGraphs$Op", "act", "(LCallGraphs;LCallGraphs$Run;)V"⟩ "CallGraphs$Op" 2 := ⟨gw3 225 ⟨rfl, rfl⟩, gw3 227 ⟨rfl, rfl⟩, Or.inl (lw3 226 rfl), ⟨by decide +kernel, by decide +kernel, by decide +kernel⟩⟩
def mt_Op_act_Y : Nat → Meth
  | 5 => Y_New_act
  | 6 => Y_Call_act
  | 7 => Y_Up_act
  | 8 => Y_Static_act
  | 9 => Y_Put_act
  | 10 => Y_Out_act
  | 11 => Y_Any_act
  | _ => Y_New_act
theorem ws_764 : Cond.selects "CallGraphs$Any" ⟨"CallGraphs$Op", "act", "(LCallGraphs;LCallGraphs$Run;)V"⟩ ⟨"CallGraphs$Any", "act", "(LCallGraphs;LCallGraphs$Run;)V"⟩ ∈ gws := gw3 228 ⟨rfl, rfl⟩
theorem wi_765 : Cond.instanceMethod ⟨"CallGraphs$Any", "act", "(LCallGraphs;LCallGraphs$Run;)V"⟩ ∈ gws := gw3 229 ⟨rfl, rfl⟩
theorem wc_766 : Cond.code Y_Any_act.1 Y_Any_act.2.1 Y_Any_act.2.2.1 Y_Any_act.2.2.2 ∈ gws := gw3 230 ⟨rfl, rfl⟩
theorem dd_Any_act : (Y_Any_act.1.cls ≠ "java/lang/invoke/MethodHandle" ∧ Y_Any_act.1.cls ≠ "java/lang/invoke/VarHandle" ∧ (parseMethodDescriptor Y_Any_act.1.desc).map (fun d => d.parameters.length) = some 2) ∧ plainFor Y_Any_act.1 = true ∧ Y_Any_act.2.2.1 ≤ 20 := by decide +kernel
theorem ws_769 : Cond.selects "CallGraphs$Call" ⟨"CallGraphs$Op", "act", "(LCallGraphs;LCallGraphs$Run;)V"⟩ ⟨"CallGraphs$Call", "act", "(LCallGraphs;LCallGraphs$Run;)V"⟩ ∈ gws := gw3 233 ⟨rfl, rfl⟩
theorem wi_770 : Cond.instanceMethod ⟨"CallGraphs$Call", "act", "(LCallGraphs;LCallGraphs$Run;)V"⟩ ∈ gws := gw3 234 ⟨rfl, rfl⟩
theorem wc_771 : Cond.code Y_Call_act.1 Y_Call_act.2.1 Y_Call_act.2.2.1 Y_Call_act.2.2.2 ∈ gws := gw3 235 ⟨rfl, rfl⟩
theorem dd_Call_act : (Y_Call_act.1.cls ≠ "java/lang/invoke/MethodHandle" ∧ Y_Call_act.1.cls ≠ "java/lang/invoke/VarHandle" ∧ (parseMethodDescriptor Y_Call_act.1.desc).map (fun d => d.parameters.length) = some 2) ∧ plainFor Y_Call_act.1 = true ∧ Y_Call_act.2.2.1 ≤ 20 := by decide +kernel
theorem ws_778 : Cond.selects "CallGraphs$New" ⟨"CallGraphs$Op", "act", "(LCallGraphs;LCallGraphs$Run;)V"⟩ ⟨"CallGraphs$New", "act", "(LCallGraphs;LCallGraphs$Run;)V"⟩ ∈ gws := gw4 2 ⟨rfl, rfl⟩
theorem wi_779 : Cond.instanceMethod ⟨"CallGraphs$New", "act", "(LCallGraphs;LCallGraphs$Run;)V"⟩ ∈ gws := gw4 3 ⟨rfl, rfl⟩
theorem wc_780 : Cond.code Y_New_act.1 Y_New_act.2.1 Y_New_act.2.2.1 Y_New_act.2.2.2 ∈ gws := gw4 4 ⟨rfl, rfl⟩
theorem dd_New_act : (Y_New_act.1.cls ≠ "java/lang/invoke/MethodHandle" ∧ Y_New_act.1.cls ≠ "java/lang/invoke/VarHandle" ∧ (parseMethodDescriptor Y_New_act.1.desc).map (fun d => d.parameters.length) = some 2) ∧ plainFor Y_New_act.1 = true ∧ Y_New_act.2.2.1 ≤ 20 := by decide +kernel
theorem ws_792 : Cond.selects "CallGraphs$Out" ⟨"CallGraphs$Op", "act", "(LCallGraphs;LCallGraphs$Run;)V"⟩ ⟨"CallGraphs$Out", "act", "(LCallGraphs;LCallGraphs$Run;)V"⟩ ∈ gws := gw4 16 ⟨rfl, rfl⟩
theorem wi_793 : Cond.instanceMethod ⟨"CallGraphs$Out", "act", "(LCallGraphs;LCallGraphs$Run;)V"⟩ ∈ gws := gw4 17 ⟨rfl, rfl⟩
theorem wc_794 : Cond.code Y_Out_act.1 Y_Out_act.2.1 Y_Out_act.2.2.1 Y_Out_act.2.2.2 ∈ gws := gw4 18 ⟨rfl, rfl⟩
theorem dd_Out_act : (Y_Out_act.1.cls ≠ "java/lang/invoke/MethodHandle" ∧ Y_Out_act.1.cls ≠ "java/lang/invoke/VarHandle" ∧ (parseMethodDescriptor Y_Out_act.1.desc).map (fun d => d.parameters.length) = some 2) ∧ plainFor Y_Out_act.1 = true ∧ Y_Out_act.2.2.1 ≤ 20 := by decide +kernel
theorem ws_797 : Cond.selects "CallGraphs$Put" ⟨"CallGraphs$Op", "act", "(LCallGraphs;LCallGraphs$Run;)V"⟩ ⟨"CallGraphs$Put", "act", "(LCallGraphs;LCallGraphs$Run;)V"⟩ ∈ gws := gw4 21 ⟨rfl, rfl⟩
theorem wi_798 : Cond.instanceMethod ⟨"CallGraphs$Put", "act", "(LCallGraphs;LCallGraphs$Run;)V"⟩ ∈ gws := gw4 22 ⟨rfl, rfl⟩
theorem wc_799 : Cond.code Y_Put_act.1 Y_Put_act.2.1 Y_Put_act.2.2.1 Y_Put_act.2.2.2 ∈ gws := gw4 23 ⟨rfl, rfl⟩
theorem dd_Put_act : (Y_Put_act.1.cls ≠ "java/lang/invoke/MethodHandle" ∧ Y_Put_act.1.cls ≠ "java/lang/invoke/VarHandle" ∧ (parseMethodDescriptor Y_Put_act.1.desc).map (fun d => d.parameters.length) = some 2) ∧ plainFor Y_Put_act.1 = true ∧ Y_Put_act.2.2.1 ≤ 20 := by decide +kernel
theorem ws_804 : Cond.selects "CallGraphs$Static" ⟨"CallGraphs$Op", "act", "(LCallGraphs;LCallGraphs$Run;)V"⟩ ⟨"CallGraphs$Static", "act", "(LCallGraphs;LCallGraphs$Run;)V"⟩ ∈ gws := gw4 28 ⟨rfl, rfl⟩
theorem wi_805 : Cond.instanceMethod ⟨"CallGraphs$Static", "act", "(LCallGraphs;LCallGraphs$Run;)V"⟩ ∈ gws := gw4 29 ⟨rfl, rfl⟩
theorem wc_806 : Cond.code Y_Static_act.1 Y_Static_act.2.1 Y_Static_act.2.2.1 Y_Static_act.2.2.2 ∈ gws := gw4 30 ⟨rfl, rfl⟩
theorem dd_Static_act : (Y_Static_act.1.cls ≠ "java/lang/invoke/MethodHandle" ∧ Y_Static_act.1.cls ≠ "java/lang/invoke/VarHandle" ∧ (parseMethodDescriptor Y_Static_act.1.desc).map (fun d => d.parameters.length) = some 2) ∧ plainFor Y_Static_act.1 = true ∧ Y_Static_act.2.2.1 ≤ 20 := by decide +kernel
theorem ws_809 : Cond.selects "CallGraphs$Up" ⟨"CallGraphs$Op", "act", "(LCallGraphs;LCallGraphs$Run;)V"⟩ ⟨"CallGraphs$Up", "act", "(LCallGraphs;LCallGraphs$Run;)V"⟩ ∈ gws := gw4 33 ⟨rfl, rfl⟩
theorem wi_810 : Cond.instanceMethod ⟨"CallGraphs$Up", "act", "(LCallGraphs;LCallGraphs$Run;)V"⟩ ∈ gws := gw4 34 ⟨rfl, rfl⟩
theorem wc_811 : Cond.code Y_Up_act.1 Y_Up_act.2.1 Y_Up_act.2.2.1 Y_Up_act.2.2.2 ∈ gws := gw4 35 ⟨rfl, rfl⟩
theorem dd_Up_act : (Y_Up_act.1.cls ≠ "java/lang/invoke/MethodHandle" ∧ Y_Up_act.1.cls ≠ "java/lang/invoke/VarHandle" ∧ (parseMethodDescriptor Y_Up_act.1.desc).map (fun d => d.parameters.length) = some 2) ∧ plainFor Y_Up_act.1 = true ∧ Y_Up_act.2.2.1 ≤ 20 := by decide +kernel
theorem mt_Op_act : ∀ kd, (opk) kd = true → MLt ⟨"CallGraphs$Op", "act", "(LCallGraphs;LCallGraphs$Run;)V"⟩ kd (mt_Op_act_Y kd) := by
  intro q hq
  rcases opk_cases hq with rfl | rfl | rfl | rfl | rfl | rfl | rfl
  · exact ⟨by decide, ws_778, wi_779, wn_66, wc_780, dd_New_act.2⟩
  · exact ⟨by decide, ws_769, wi_770, wn_67, wc_771, dd_Call_act.2⟩
  · exact ⟨by decide, ws_809, wi_810, wn_68, wc_811, dd_Up_act.2⟩
  · exact ⟨by decide, ws_804, wi_805, wn_69, wc_806, dd_Static_act.2⟩
  · exact ⟨by decide, ws_797, wi_798, wn_70, wc_799, dd_Put_act.2⟩
  · exact ⟨by decide, ws_792, wi_793, wn_71, wc_794, dd_Out_act.2⟩
  · exact ⟨by decide, ws_764, wi_765, wn_72, wc_766, dd_Any_act.2⟩
theorem ml_Any_43 : MLv "CallGraphs$Any" 43 Y_Run_draw 1 := ⟨gw3 231 ⟨rfl, rfl⟩, wi_756, ws_757, wn_58, wc_758, dd_Run_draw⟩
theorem ml_Any_49 : MLv "CallGraphs$Any" 49 Y_Run_run 2 := ⟨gw3 232 ⟨rfl, rfl⟩, wi_752, ws_753, wn_58, wc_754, dd_Run_run⟩
theorem wi_773 : Cond.instanceMethod ⟨"CallGraphs$Run", "draw", "(LCallGraphs$Type;)LCallGraphs$Type;"⟩ ∈ gws := gw3 237 ⟨rfl, rfl⟩
theorem ws_774 : Cond.selects "CallGraphs$Run" ⟨"CallGraphs$Run", "draw", "(LCallGraphs$Type;)LCallGraphs$Type;"⟩ ⟨"CallGraphs$Run", "draw", "(LCallGraphs$Type;)LCallGraphs$Type;"⟩ ∈ gws := gw3 238 ⟨rfl, rfl⟩
theorem wc_775 : Cond.code Y_Run_drawT.1 Y_Run_drawT.2.1 Y_Run_drawT.2.2.1 Y_Run_drawT.2.2.2 ∈ gws := gw3 239 ⟨rfl, rfl⟩
theorem dd_Run_drawT : (Y_Run_drawT.1.cls ≠ "java/lang/invoke/MethodHandle" ∧ Y_Run_drawT.1.cls ≠ "java/lang/invoke/VarHandle" ∧ (parseMethodDescriptor Y_Run_drawT.1.desc).map (fun d => d.parameters.length) = some 1) ∧ plainFor Y_Run_drawT.1 = true ∧ Y_Run_drawT.2.2.1 ≤ 20 := by decide +kernel
theorem ml_Call_56 : MLv "CallGraphs$Call" 56 Y_Run_drawT 1 := ⟨gw3 236 ⟨rfl, rfl⟩, wi_773, ws_774, wn_58, wc_775, dd_Run_drawT⟩
theorem ml_Run_88 : MLv "CallGraphs$Run" 88 Y_Type_isUnder 1 := ⟨gw4 0 ⟨rfl, rfl⟩, wi_302, ws_303, wn_62, wc_304, dd_Type_isUnder⟩
theorem ml_Call_62 : MLv "CallGraphs$Call" 62 Y_Run_run 2 := ⟨gw4 1 ⟨rfl, rfl⟩, wi_752, ws_753, wn_58, wc_754, dd_Run_run⟩
theorem wi_782 : Cond.instanceMethod ⟨"CallGraphs$Run", "begin", "(LCallGraphs$Op;LCallGraphs$Type;)V"⟩ ∈ gws := gw4 6 ⟨rfl, rfl⟩
theorem ws_783 : Cond.selects "CallGraphs$Run" ⟨"CallGraphs$Run", "begin", "(LCallGraphs$Op;LCallGraphs$Type;)V"⟩ ⟨"CallGraphs$Run", "begin", "(LCallGraphs$Op;LCallGraphs$Type;)V"⟩ ∈ gws := gw4 7 ⟨rfl, rfl⟩
theorem wc_784 : Cond.code Y_Run_begin.1 Y_Run_begin.2.1 Y_Run_begin.2.2.1 Y_Run_begin.2.2.2 ∈ gws := gw4 8 ⟨rfl, rfl⟩
theorem dd_Run_begin : (Y_Run_begin.1.cls ≠ "java/lang/invoke/MethodHandle" ∧ Y_Run_begin.1.cls ≠ "java/lang/invoke/VarHandle" ∧ (parseMethodDescriptor Y_Run_begin.1.desc).map (fun d => d.parameters.length) = some 2) ∧ plainFor Y_Run_begin.1 = true ∧ Y_Run_begin.2.2.1 ≤ 20 := by decide +kernel
theorem ml_New_33 : MLv "CallGraphs$New" 33 Y_Run_begin 2 := ⟨gw4 5 ⟨rfl, rfl⟩, wi_782, ws_783, wn_58, wc_784, dd_Run_begin⟩
theorem ml_Run_103 : MLv "CallGraphs$Run" 103 Y_Type_isClass 0 := ⟨gw4 9 ⟨rfl, rfl⟩, wi_226, ws_227, wn_62, wc_228, dd_Type_isClass⟩
theorem ml_Run_111 : MLv "CallGraphs$Run" 111 Y_Run_begin 2 := ⟨gw4 10 ⟨rfl, rfl⟩, wi_782, ws_783, wn_58, wc_784, dd_Run_begin⟩
theorem ml_Run_121 : MLv "CallGraphs$Run" 121 Y_Type_hasPlain 0 := ⟨gw4 11 ⟨rfl, rfl⟩, wi_614, ws_615, wn_62, wc_616, dd_Type_hasPlain⟩
theorem wi_789 : Cond.instanceMethod ⟨"CallGraphs$Run", "make", "(LCallGraphs$Type;)V"⟩ ∈ gws := gw4 13 ⟨rfl, rfl⟩
theorem ws_790 : Cond.selects "CallGraphs$Run" ⟨"CallGraphs$Run", "make", "(LCallGraphs$Type;)V"⟩ ⟨"CallGraphs$Run", "make", "(LCallGraphs$Type;)V"⟩ ∈ gws := gw4 14 ⟨rfl, rfl⟩
theorem wc_791 : Cond.code Y_Run_make.1 Y_Run_make.2.1 Y_Run_make.2.2.1 Y_Run_make.2.2.2 ∈ gws := gw4 15 ⟨rfl, rfl⟩
theorem dd_Run_make : (Y_Run_make.1.cls ≠ "java/lang/invoke/MethodHandle" ∧ Y_Run_make.1.cls ≠ "java/lang/invoke/VarHandle" ∧ (parseMethodDescriptor Y_Run_make.1.desc).map (fun d => d.parameters.length) = some 1) ∧ plainFor Y_Run_make.1 = true ∧ Y_Run_make.2.2.1 ≤ 20 := by decide +kernel
theorem ml_New_36 : MLv "CallGraphs$New" 36 Y_Run_make 1 := ⟨gw4 12 ⟨rfl, rfl⟩, wi_789, ws_790, wn_58, wc_791, dd_Run_make⟩
theorem ml_Out_38 : MLv "CallGraphs$Out" 38 Y_Run_draw 1 := ⟨gw4 19 ⟨rfl, rfl⟩, wi_756, ws_757, wn_58, wc_758, dd_Run_draw⟩
theorem ml_Out_42 : MLv "CallGraphs$Out" 42 Y_Run_run 2 := ⟨gw4 20 ⟨rfl, rfl⟩, wi_752, ws_753, wn_58, wc_754, dd_Run_run⟩
theorem wi_801 : Cond.instanceMethod ⟨"CallGraphs$Run", "put", "(ILCallGraphs$Member;)V"⟩ ∈ gws := gw4 25 ⟨rfl, rfl⟩
theorem ws_802 : Cond.selects "CallGraphs$Run" ⟨"CallGraphs$Run", "put", "(ILCallGraphs$Member;)V"⟩ ⟨"CallGraphs$Run", "put", "(ILCallGraphs$Member;)V"⟩ ∈ gws := gw4 26 ⟨rfl, rfl⟩
theorem wc_803 : Cond.code Y_Run_put.1 Y_Run_put.2.1 Y_Run_put.2.2.1 Y_Run_put.2.2.2 ∈ gws := gw4 27 ⟨rfl, rfl⟩
theorem dd_Run_put : (Y_Run_put.1.cls ≠ "java/lang/invoke/MethodHandle" ∧ Y_Run_put.1.cls ≠ "java/lang/invoke/VarHandle" ∧ (parseMethodDescriptor Y_Run_put.1.desc).map (fun d => d.parameters.length) = some 2) ∧ plainFor Y_Run_put.1 = true ∧ Y_Run_put.2.2.1 ≤ 20 := by decide +kernel
theorem ml_Put_32 : MLv "CallGraphs$Put" 32 Y_Run_put 2 := ⟨gw4 24 ⟨rfl, rfl⟩, wi_801, ws_802, wn_58, wc_803, dd_Run_put⟩
theorem ml_Static_53 : MLv "CallGraphs$Static" 53 Y_Run_begin 2 := ⟨gw4 31 ⟨rfl, rfl⟩, wi_782, ws_783, wn_58, wc_784, dd_Run_begin⟩
theorem ml_Static_56 : MLv "CallGraphs$Static" 56 Y_Run_run 2 := ⟨gw4 32 ⟨rfl, rfl⟩, wi_752, ws_753, wn_58, wc_754, dd_Run_run⟩
theorem ml_Up_39 : MLv "CallGraphs$Up" 39 Y_Run_run 2 := ⟨gw4 36 ⟨rfl, rfl⟩, wi_752, ws_753, wn_58, wc_754, dd_Run_run⟩
theorem wi_814 : Cond.instanceMethod ⟨"CallGraphs", "holds", "(J)Z"⟩ ∈ gws := gw4 38 ⟨rfl, rfl⟩
theorem ws_815 : Cond.selects "CallGraphs" ⟨"CallGraphs", "holds", "(J)Z"⟩ ⟨"CallGraphs", "holds", "(J)Z"⟩ ∈ gws := gw4 39 ⟨rfl, rfl⟩
theorem wc_816 : Cond.code Y_G_holds.1 Y_G_holds.2.1 Y_G_holds.2.2.1 Y_G_holds.2.2.2 ∈ gws := gw4 40 ⟨rfl, rfl⟩
theorem dd_G_holds : (Y_G_holds.1.cls ≠ "java/lang/invoke/MethodHandle" ∧ Y_G_holds.1.cls ≠ "java/lang/invoke/VarHandle" ∧ (parseMethodDescriptor Y_G_holds.1.desc).map (fun d => d.parameters.length) = some 1) ∧ plainFor Y_G_holds.1 = true ∧ Y_G_holds.2.2.1 ≤ 20 := by decide +kernel
theorem ml_Law_85 : MLv "CallGraphsLaw" 85 Y_G_holds 1 := ⟨gw4 37 ⟨rfl, rfl⟩, wi_814, ws_815, wn_57, wc_816, dd_G_holds⟩
theorem wi_820 : Cond.instanceMethod ⟨"CallGraphsModel", "<init>", "()V"⟩ ∈ gws := gw4 44 ⟨rfl, rfl⟩
theorem wn_59 : Cond.initialized "CallGraphsModel" ∈ gws := gw1 3 ⟨rfl, rfl⟩
theorem wc_821 : Cond.code Y_M_init.1 Y_M_init.2.1 Y_M_init.2.2.1 Y_M_init.2.2.2 ∈ gws := gw4 45 ⟨rfl, rfl⟩
theorem dd_M_init : (Y_M_init.1.cls ≠ "java/lang/invoke/MethodHandle" ∧ Y_M_init.1.cls ≠ "java/lang/invoke/VarHandle" ∧ (parseMethodDescriptor Y_M_init.1.desc).map (fun d => d.parameters.length) = some 0) ∧ plainFor Y_M_init.1 = true ∧ Y_M_init.2.2.1 ≤ 20 := by decide +kernel
theorem ml_Law_12 : MLi "CallGraphsLaw" 12 Y_M_init 0 := ⟨gw4 43 ⟨rfl, rfl⟩, wi_820, rfl, wn_59, wc_821, dd_M_init.1, dd_M_init.2.1, dd_M_init.2.2, rfl⟩
theorem ml_M_1 : Cond.methodLink "CallGraphsModel" 1 Lib.objectInit ∈ gws := gw4 46 ⟨rfl, rfl⟩
theorem wi_975 : Cond.instanceMethod ⟨"CallGraphsModel", "type", "(II)I"⟩ ∈ gws := gw4 199 ⟨rfl, rfl⟩
theorem ws_976 : Cond.selects "CallGraphsModel" ⟨"CallGraphsModel", "type", "(II)I"⟩ ⟨"CallGraphsModel", "type", "(II)I"⟩ ∈ gws := gw4 200 ⟨rfl, rfl⟩
theorem wc_977 : Cond.code Y_M_type.1 Y_M_type.2.1 Y_M_type.2.2.1 Y_M_type.2.2.2 ∈ gws := gw4 201 ⟨rfl, rfl⟩
theorem dd_M_type : (Y_M_type.1.cls ≠ "java/lang/invoke/MethodHandle" ∧ Y_M_type.1.cls ≠ "java/lang/invoke/VarHandle" ∧ (parseMethodDescriptor Y_M_type.1.desc).map (fun d => d.parameters.length) = some 2) ∧ plainFor Y_M_type.1 = true ∧ Y_M_type.2.2.1 ≤ 20 := by decide +kernel
theorem ml_Law_17 : MLv "CallGraphsLaw" 17 Y_M_type 2 := ⟨gw4 198 ⟨rfl, rfl⟩, wi_975, ws_976, wn_59, wc_977, dd_M_type⟩
theorem wi_980 : Cond.instanceMethod ⟨"CallGraphsModel", "isType", "(I)Z"⟩ ∈ gws := gw4 204 ⟨rfl, rfl⟩
theorem ws_19 : Cond.selects "CallGraphsModel" ⟨"CallGraphsModel", "isType", "(I)Z"⟩ ⟨"CallGraphsModel", "isType", "(I)Z"⟩ ∈ gws := gw0 19 ⟨rfl, rfl⟩
theorem wc_981 : Cond.code Y_M_isType.1 Y_M_isType.2.1 Y_M_isType.2.2.1 Y_M_isType.2.2.2 ∈ gws := gw4 205 ⟨rfl, rfl⟩
theorem dd_M_isType : (Y_M_isType.1.cls ≠ "java/lang/invoke/MethodHandle" ∧ Y_M_isType.1.cls ≠ "java/lang/invoke/VarHandle" ∧ (parseMethodDescriptor Y_M_isType.1.desc).map (fun d => d.parameters.length) = some 1) ∧ plainFor Y_M_isType.1 = true ∧ Y_M_isType.2.2.1 ≤ 20 := by decide +kernel
theorem ml_M_141 : MLv "CallGraphsModel" 141 Y_M_isType 1 := ⟨gw4 202 ⟨rfl, rfl⟩, wi_980, ws_19, wn_59, wc_981, dd_M_isType⟩
theorem wt_983 : Cond.static ⟨"CallGraphsModel", "in", "(III)Z"⟩ ∈ gws := gw4 207 ⟨rfl, rfl⟩
theorem wc_984 : Cond.code Y_M_in.1 Y_M_in.2.1 Y_M_in.2.2.1 Y_M_in.2.2.2 ∈ gws := gw4 208 ⟨rfl, rfl⟩
theorem dd_M_in : (Y_M_in.1.cls ≠ "java/lang/invoke/MethodHandle" ∧ Y_M_in.1.cls ≠ "java/lang/invoke/VarHandle" ∧ (parseMethodDescriptor Y_M_in.1.desc).map (fun d => d.parameters.length) = some 3) ∧ plainFor Y_M_in.1 = true ∧ Y_M_in.2.2.1 ≤ 20 := by decide +kernel
theorem ml_M_127 : MLs "CallGraphsModel" 127 Y_M_in 3 := ⟨gw4 206 ⟨rfl, rfl⟩, wt_983, wn_59, wc_984, dd_M_in⟩
theorem wi_986 : Cond.instanceMethod ⟨"CallGraphsModel", "face", "(II)I"⟩ ∈ gws := gw4 210 ⟨rfl, rfl⟩
theorem ws_987 : Cond.selects "CallGraphsModel" ⟨"CallGraphsModel", "face", "(II)I"⟩ ⟨"CallGraphsModel", "face", "(II)I"⟩ ∈ gws := gw4 211 ⟨rfl, rfl⟩
theorem wc_988 : Cond.code Y_M_face.1 Y_M_face.2.1 Y_M_face.2.2.1 Y_M_face.2.2.2 ∈ gws := gw4 212 ⟨rfl, rfl⟩
theorem dd_M_face : (Y_M_face.1.cls ≠ "java/lang/invoke/MethodHandle" ∧ Y_M_face.1.cls ≠ "java/lang/invoke/VarHandle" ∧ (parseMethodDescriptor Y_M_face.1.desc).map (fun d => d.parameters.length) = some 2) ∧ plainFor Y_M_face.1 = true ∧ Y_M_face.2.2.1 ≤ 20 := by decide +kernel
theorem ml_Law_21 : MLv "CallGraphsLaw" 21 Y_M_face 2 := ⟨gw4 209 ⟨rfl, rfl⟩, wi_986, ws_987, wn_59, wc_988, dd_M_face⟩
theorem wi_990 : Cond.instanceMethod ⟨"CallGraphsModel", "member", "(III)I"⟩ ∈ gws := gw4 214 ⟨rfl, rfl⟩
theorem ws_991 : Cond.selects "CallGraphsModel" ⟨"CallGraphsModel", "member", "(III)I"⟩ ⟨"CallGraphsModel", "member", "(III)I"⟩ ∈ gws := gw4 215 ⟨rfl, rfl⟩
theorem wc_992 : Cond.code Y_M_member.1 Y_M_member.2.1 Y_M_member.2.2.1 Y_M_member.2.2.2 ∈ gws := gw4 216 ⟨rfl, rfl⟩
theorem dd_M_member : (Y_M_member.1.cls ≠ "java/lang/invoke/MethodHandle" ∧ Y_M_member.1.cls ≠ "java/lang/invoke/VarHandle" ∧ (parseMethodDescriptor Y_M_member.1.desc).map (fun d => d.parameters.length) = some 3) ∧ plainFor Y_M_member.1 = true ∧ Y_M_member.2.2.1 ≤ 20 := by decide +kernel
theorem ml_Law_26 : MLv "CallGraphsLaw" 26 Y_M_member 3 := ⟨gw4 213 ⟨rfl, rfl⟩, wi_990, ws_991, wn_59, wc_992, dd_M_member⟩
theorem wi_995 : Cond.instanceMethod ⟨"CallGraphsModel", "ownOf", "(II)I"⟩ ∈ gws := gw4 219 ⟨rfl, rfl⟩
theorem ws_20 : Cond.selects "CallGraphsModel" ⟨"CallGraphsModel", "ownOf", "(II)I"⟩ ⟨"CallGraphsModel", "ownOf", "(II)I"⟩ ∈ gws := gw0 20 ⟨rfl, rfl⟩
theorem wc_996 : Cond.code Y_M_ownOf.1 Y_M_ownOf.2.1 Y_M_ownOf.2.2.1 Y_M_ownOf.2.2.2 ∈ gws := gw4 220 ⟨rfl, rfl⟩
theorem dd_M_ownOf : (Y_M_ownOf.1.cls ≠ "java/lang/invoke/MethodHandle" ∧ Y_M_ownOf.1.cls ≠ "java/lang/invoke/VarHandle" ∧ (parseMethodDescriptor Y_M_ownOf.1.desc).map (fun d => d.parameters.length) = some 2) ∧ plainFor Y_M_ownOf.1 = true ∧ Y_M_ownOf.2.2.1 ≤ 20 := by decide +kernel
theorem ml_M_145 : MLv "CallGraphsModel" 145 Y_M_ownOf 2 := ⟨gw4 217 ⟨rfl, rfl⟩, wi_995, ws_20, wn_59, wc_996, dd_M_ownOf⟩
theorem wi_998 : Cond.instanceMethod ⟨"CallGraphsModel", "op", "(IIII)I"⟩ ∈ gws := gw4 222 ⟨rfl, rfl⟩
theorem ws_999 : Cond.selects "CallGraphsModel" ⟨"CallGraphsModel", "op", "(IIII)I"⟩ ⟨"CallGraphsModel", "op", "(IIII)I"⟩ ∈ gws := gw4 223 ⟨rfl, rfl⟩
theorem wc_1000 : Cond.code Y_M_op.1 Y_M_op.2.1 Y_M_op.2.2.1 Y_M_op.2.2.2 ∈ gws := gw4 224 ⟨rfl, rfl⟩
theorem dd_M_op : (Y_M_op.1.cls ≠ "java/lang/invoke/MethodHandle" ∧ Y_M_op.1.cls ≠ "java/lang/invoke/VarHandle" ∧ (parseMethodDescriptor Y_M_op.1.desc).map (fun d => d.parameters.length) = some 4) ∧ plainFor Y_M_op.1 = true ∧ Y_M_op.2.2.1 ≤ 20 := by decide +kernel
theorem ml_Law_31 : MLv "CallGraphsLaw" 31 Y_M_op 4 := ⟨gw4 221 ⟨rfl, rfl⟩, wi_998, ws_999, wn_59, wc_1000, dd_M_op⟩
theorem wi_1003 : Cond.instanceMethod ⟨"CallGraphsModel", "isMember", "(I)Z"⟩ ∈ gws := gw4 227 ⟨rfl, rfl⟩
theorem ws_21 : Cond.selects "CallGraphsModel" ⟨"CallGraphsModel", "isMember", "(I)Z"⟩ ⟨"CallGraphsModel", "isMember", "(I)Z"⟩ ∈ gws := gw0 21 ⟨rfl, rfl⟩
theorem wc_1004 : Cond.code Y_M_isMember.1 Y_M_isMember.2.1 Y_M_isMember.2.2.1 Y_M_isMember.2.2.2 ∈ gws := gw4 228 ⟨rfl, rfl⟩
theorem dd_M_isMember : (Y_M_isMember.1.cls ≠ "java/lang/invoke/MethodHandle" ∧ Y_M_isMember.1.cls ≠ "java/lang/invoke/VarHandle" ∧ (parseMethodDescriptor Y_M_isMember.1.desc).map (fun d => d.parameters.length) = some 1) ∧ plainFor Y_M_isMember.1 = true ∧ Y_M_isMember.2.2.1 ≤ 20 := by decide +kernel
theorem ml_M_156 : MLv "CallGraphsModel" 156 Y_M_isMember 1 := ⟨gw4 225 ⟨rfl, rfl⟩, wi_1003, ws_21, wn_59, wc_1004, dd_M_isMember⟩
theorem wi_1007 : Cond.instanceMethod ⟨"CallGraphsModel", "isRightOp", "(IIII)Z"⟩ ∈ gws := gw4 231 ⟨rfl, rfl⟩
theorem ws_22 : Cond.selects "CallGraphsModel" ⟨"CallGraphsModel", "isRightOp", "(IIII)Z"⟩ ⟨"CallGraphsModel", "isRightOp", "(IIII)Z"⟩ ∈ gws := gw0 22 ⟨rfl, rfl⟩
theorem wc_1008 : Cond.code Y_M_isRightOp.1 Y_M_isRightOp.2.1 Y_M_isRightOp.2.2.1 Y_M_isRightOp.2.2.2 ∈ gws := gw4 232 ⟨rfl, rfl⟩
theorem dd_M_isRightOp : (Y_M_isRightOp.1.cls ≠ "java/lang/invoke/MethodHandle" ∧ Y_M_isRightOp.1.cls ≠ "java/lang/invoke/VarHandle" ∧ (parseMethodDescriptor Y_M_isRightOp.1.desc).map (fun d => d.parameters.length) = some 4) ∧ plainFor Y_M_isRightOp.1 = true ∧ Y_M_isRightOp.2.2.1 ≤ 20 := by decide +kernel
theorem ml_M_159 : MLv "CallGraphsModel" 159 Y_M_isRightOp 4 := ⟨gw4 229 ⟨rfl, rfl⟩, wi_1007, ws_22, wn_59, wc_1008, dd_M_isRightOp⟩
theorem wi_1011 : Cond.instanceMethod ⟨"CallGraphsModel", "isNext", "(II)Z"⟩ ∈ gws := gw4 235 ⟨rfl, rfl⟩
theorem ws_23 : Cond.selects "CallGraphsModel" ⟨"CallGraphsModel", "isNext", "(II)Z"⟩ ⟨"CallGraphsModel", "isNext", "(II)Z"⟩ ∈ gws := gw0 23 ⟨rfl, rfl⟩
theorem wc_1012 : Cond.code Y_M_isNext.1 Y_M_isNext.2.1 Y_M_isNext.2.2.1 Y_M_isNext.2.2.2 ∈ gws := gw4 236 ⟨rfl, rfl⟩
theorem dd_M_isNext : (Y_M_isNext.1.cls ≠ "java/lang/invoke/MethodHandle" ∧ Y_M_isNext.1.cls ≠ "java/lang/invoke/VarHandle" ∧ (parseMethodDescriptor Y_M_isNext.1.desc).map (fun d => d.parameters.length) = some 2) ∧ plainFor Y_M_isNext.1 = true ∧ Y_M_isNext.2.2.1 ≤ 20 := by decide +kernel
theorem ml_M_149 : MLv "CallGraphsModel" 149 Y_M_isNext 2 := ⟨gw4 233 ⟨rfl, rfl⟩, wi_1011, ws_23, wn_59, wc_1012, dd_M_isNext⟩
theorem wt_1014 : Cond.static ⟨"CallGraphsModel", "canBeCalled", "(I)Z"⟩ ∈ gws := gw4 238 ⟨rfl, rfl⟩
theorem wc_1015 : Cond.code Y_M_canBeCalled.1 Y_M_canBeCalled.2.1 Y_M_canBeCalled.2.2.1 Y_M_canBeCalled.2.2.2 ∈ gws := gw4 239 ⟨rfl, rfl⟩
theorem dd_M_canBeCalled : (Y_M_canBeCalled.1.cls ≠ "java/lang/invoke/MethodHandle" ∧ Y_M_canBeCalled.1.cls ≠ "java/lang/invoke/VarHandle" ∧ (parseMethodDescriptor Y_M_canBeCalled.1.desc).map (fun d => d.parameters.length) = some 1) ∧ plainFor Y_M_canBeCalled.1 = true ∧ Y_M_canBeCalled.2.2.1 ≤ 20 := by decide +kernel
theorem ml_M_153 : MLs "CallGraphsModel" 153 Y_M_canBeCalled 1 := ⟨gw4 237 ⟨rfl, rfl⟩, wt_1014, wn_59, wc_1015, dd_M_canBeCalled⟩
theorem wi_1017 : Cond.instanceMethod ⟨"CallGraphsModel", "root", "(IZ)I"⟩ ∈ gws := gw5 1 ⟨rfl, rfl⟩
theorem ws_1018 : Cond.selects "CallGraphsModel" ⟨"CallGraphsModel", "root", "(IZ)I"⟩ ⟨"CallGraphsModel", "root", "(IZ)I"⟩ ∈ gws := gw5 2 ⟨rfl, rfl⟩
theorem wc_1019 : Cond.code Y_M_root.1 Y_M_root.2.1 Y_M_root.2.2.1 Y_M_root.2.2.2 ∈ gws := gw5 3 ⟨rfl, rfl⟩
theorem dd_M_root : (Y_M_root.1.cls ≠ "java/lang/invoke/MethodHandle" ∧ Y_M_root.1.cls ≠ "java/lang/invoke/VarHandle" ∧ (parseMethodDescriptor Y_M_root.1.desc).map (fun d => d.parameters.length) = some 2) ∧ plainFor Y_M_root.1 = true ∧ Y_M_root.2.2.1 ≤ 20 := by decide +kernel
theorem ml_Law_36 : MLv "CallGraphsLaw" 36 Y_M_root 2 := ⟨gw5 0 ⟨rfl, rfl⟩, wi_1017, ws_1018, wn_59, wc_1019, dd_M_root⟩
theorem wi_1021 : Cond.instanceMethod ⟨"CallGraphsModel", "under", "(II)I"⟩ ∈ gws := gw5 5 ⟨rfl, rfl⟩
theorem ws_1022 : Cond.selects "CallGraphsModel" ⟨"CallGraphsModel", "under", "(II)I"⟩ ⟨"CallGraphsModel", "under", "(II)I"⟩ ∈ gws := gw5 6 ⟨rfl, rfl⟩
theorem wc_1023 : Cond.code Y_M_under.1 Y_M_under.2.1 Y_M_under.2.2.1 Y_M_under.2.2.2 ∈ gws := gw5 7 ⟨rfl, rfl⟩
theorem dd_M_under : (Y_M_under.1.cls ≠ "java/lang/invoke/MethodHandle" ∧ Y_M_under.1.cls ≠ "java/lang/invoke/VarHandle" ∧ (parseMethodDescriptor Y_M_under.1.desc).map (fun d => d.parameters.length) = some 2) ∧ plainFor Y_M_under.1 = true ∧ Y_M_under.2.2.1 ≤ 20 := by decide +kernel
theorem ml_Law_45 : MLv "CallGraphsLaw" 45 Y_M_under 2 := ⟨gw5 4 ⟨rfl, rfl⟩, wi_1021, ws_1022, wn_59, wc_1023, dd_M_under⟩
theorem wi_1026 : Cond.instanceMethod ⟨"CallGraphsModel", "isUnder", "(II)Z"⟩ ∈ gws := gw5 10 ⟨rfl, rfl⟩
theorem ws_24 : Cond.selects "CallGraphsModel" ⟨"CallGraphsModel", "isUnder", "(II)Z"⟩ ⟨"CallGraphsModel", "isUnder", "(II)Z"⟩ ∈ gws := gw0 24 ⟨rfl, rfl⟩
theorem wc_1027 : Cond.code Y_M_isUnder.1 Y_M_isUnder.2.1 Y_M_isUnder.2.2.1 Y_M_isUnder.2.2.2 ∈ gws := gw5 11 ⟨rfl, rfl⟩
theorem dd_M_isUnder : (Y_M_isUnder.1.cls ≠ "java/lang/invoke/MethodHandle" ∧ Y_M_isUnder.1.cls ≠ "java/lang/invoke/VarHandle" ∧ (parseMethodDescriptor Y_M_isUnder.1.desc).map (fun d => d.parameters.length) = some 2) ∧ plainFor Y_M_isUnder.1 = true ∧ Y_M_isUnder.2.2.1 ≤ 20 := by decide +kernel
theorem ml_M_166 : MLv "CallGraphsModel" 166 Y_M_isUnder 2 := ⟨gw5 8 ⟨rfl, rfl⟩, wi_1026, ws_24, wn_59, wc_1027, dd_M_isUnder⟩
theorem wi_1030 : Cond.instanceMethod ⟨"CallGraphsModel", "lookUp", "(I)V"⟩ ∈ gws := gw5 14 ⟨rfl, rfl⟩
theorem ws_25 : Cond.selects "CallGraphsModel" ⟨"CallGraphsModel", "lookUp", "(I)V"⟩ ⟨"CallGraphsModel", "lookUp", "(I)V"⟩ ∈ gws := gw0 25 ⟨rfl, rfl⟩
theorem wc_1031 : Cond.code Y_M_lookUp.1 Y_M_lookUp.2.1 Y_M_lookUp.2.2.1 Y_M_lookUp.2.2.2 ∈ gws := gw5 15 ⟨rfl, rfl⟩
theorem dd_M_lookUp : (Y_M_lookUp.1.cls ≠ "java/lang/invoke/MethodHandle" ∧ Y_M_lookUp.1.cls ≠ "java/lang/invoke/VarHandle" ∧ (parseMethodDescriptor Y_M_lookUp.1.desc).map (fun d => d.parameters.length) = some 1) ∧ plainFor Y_M_lookUp.1 = true ∧ Y_M_lookUp.2.2.1 ≤ 20 := by decide +kernel
theorem ml_M_137 : MLv "CallGraphsModel" 137 Y_M_lookUp 1 := ⟨gw5 12 ⟨rfl, rfl⟩, wi_1030, ws_25, wn_59, wc_1031, dd_M_lookUp⟩
theorem wi_1033 : Cond.instanceMethod ⟨"CallGraphsModel", "found", "(II)I"⟩ ∈ gws := gw5 17 ⟨rfl, rfl⟩
theorem ws_1034 : Cond.selects "CallGraphsModel" ⟨"CallGraphsModel", "found", "(II)I"⟩ ⟨"CallGraphsModel", "found", "(II)I"⟩ ∈ gws := gw5 18 ⟨rfl, rfl⟩
theorem wc_1035 : Cond.code Y_M_found.1 Y_M_found.2.1 Y_M_found.2.2.1 Y_M_found.2.2.2 ∈ gws := gw5 19 ⟨rfl, rfl⟩
theorem dd_M_found : (Y_M_found.1.cls ≠ "java/lang/invoke/MethodHandle" ∧ Y_M_found.1.cls ≠ "java/lang/invoke/VarHandle" ∧ (parseMethodDescriptor Y_M_found.1.desc).map (fun d => d.parameters.length) = some 2) ∧ plainFor Y_M_found.1 = true ∧ Y_M_found.2.2.1 ≤ 20 := by decide +kernel
theorem ml_Law_49 : MLv "CallGraphsLaw" 49 Y_M_found 2 := ⟨gw5 16 ⟨rfl, rfl⟩, wi_1033, ws_1034, wn_59, wc_1035, dd_M_found⟩
theorem wi_1038 : Cond.instanceMethod ⟨"CallGraphsModel", "find", "(II)I"⟩ ∈ gws := gw5 22 ⟨rfl, rfl⟩
theorem ws_26 : Cond.selects "CallGraphsModel" ⟨"CallGraphsModel", "find", "(II)I"⟩ ⟨"CallGraphsModel", "find", "(II)I"⟩ ∈ gws := gw0 26 ⟨rfl, rfl⟩
theorem wc_1039 : Cond.code Y_M_find.1 Y_M_find.2.1 Y_M_find.2.2.1 Y_M_find.2.2.2 ∈ gws := gw5 23 ⟨rfl, rfl⟩
theorem dd_M_find : (Y_M_find.1.cls ≠ "java/lang/invoke/MethodHandle" ∧ Y_M_find.1.cls ≠ "java/lang/invoke/VarHandle" ∧ (parseMethodDescriptor Y_M_find.1.desc).map (fun d => d.parameters.length) = some 2) ∧ plainFor Y_M_find.1 = true ∧ Y_M_find.2.2.1 ≤ 20 := by decide +kernel
theorem ml_M_173 : MLv "CallGraphsModel" 173 Y_M_find 2 := ⟨gw5 20 ⟨rfl, rfl⟩, wi_1038, ws_26, wn_59, wc_1039, dd_M_find⟩
theorem wi_1042 : Cond.instanceMethod ⟨"CallGraphsModel", "findLeft", "(II)V"⟩ ∈ gws := gw5 26 ⟨rfl, rfl⟩
theorem ws_27 : Cond.selects "CallGraphsModel" ⟨"CallGraphsModel", "findLeft", "(II)V"⟩ ⟨"CallGraphsModel", "findLeft", "(II)V"⟩ ∈ gws := gw0 27 ⟨rfl, rfl⟩
theorem wc_1043 : Cond.code Y_M_findLeft.1 Y_M_findLeft.2.1 Y_M_findLeft.2.2.1 Y_M_findLeft.2.2.2 ∈ gws := gw5 27 ⟨rfl, rfl⟩
theorem dd_M_findLeft : (Y_M_findLeft.1.cls ≠ "java/lang/invoke/MethodHandle" ∧ Y_M_findLeft.1.cls ≠ "java/lang/invoke/VarHandle" ∧ (parseMethodDescriptor Y_M_findLeft.1.desc).map (fun d => d.parameters.length) = some 2) ∧ plainFor Y_M_findLeft.1 = true ∧ Y_M_findLeft.2.2.1 ≤ 20 := by decide +kernel
theorem ml_M_169 : MLv "CallGraphsModel" 169 Y_M_findLeft 2 := ⟨gw5 24 ⟨rfl, rfl⟩, wi_1042, ws_27, wn_59, wc_1043, dd_M_findLeft⟩
theorem wi_1045 : Cond.instanceMethod ⟨"CallGraphsModel", "chosen", "(III)I"⟩ ∈ gws := gw5 29 ⟨rfl, rfl⟩
theorem ws_1046 : Cond.selects "CallGraphsModel" ⟨"CallGraphsModel", "chosen", "(III)I"⟩ ⟨"CallGraphsModel", "chosen", "(III)I"⟩ ∈ gws := gw5 30 ⟨rfl, rfl⟩
theorem wc_1047 : Cond.code Y_M_chosen.1 Y_M_chosen.2.1 Y_M_chosen.2.2.1 Y_M_chosen.2.2.2 ∈ gws := gw5 31 ⟨rfl, rfl⟩
theorem dd_M_chosen : (Y_M_chosen.1.cls ≠ "java/lang/invoke/MethodHandle" ∧ Y_M_chosen.1.cls ≠ "java/lang/invoke/VarHandle" ∧ (parseMethodDescriptor Y_M_chosen.1.desc).map (fun d => d.parameters.length) = some 3) ∧ plainFor Y_M_chosen.1 = true ∧ Y_M_chosen.2.2.1 ≤ 20 := by decide +kernel
theorem ml_Law_53 : MLv "CallGraphsLaw" 53 Y_M_chosen 3 := ⟨gw5 28 ⟨rfl, rfl⟩, wi_1045, ws_1046, wn_59, wc_1047, dd_M_chosen⟩
theorem wi_1050 : Cond.instanceMethod ⟨"CallGraphsModel", "chosenOf", "(III)I"⟩ ∈ gws := gw5 34 ⟨rfl, rfl⟩
theorem ws_28 : Cond.selects "CallGraphsModel" ⟨"CallGraphsModel", "chosenOf", "(III)I"⟩ ⟨"CallGraphsModel", "chosenOf", "(III)I"⟩ ∈ gws := gw0 28 ⟨rfl, rfl⟩
theorem wc_1051 : Cond.code Y_M_chosenOf.1 Y_M_chosenOf.2.1 Y_M_chosenOf.2.2.1 Y_M_chosenOf.2.2.2 ∈ gws := gw5 35 ⟨rfl, rfl⟩
theorem dd_M_chosenOf : (Y_M_chosenOf.1.cls ≠ "java/lang/invoke/MethodHandle" ∧ Y_M_chosenOf.1.cls ≠ "java/lang/invoke/VarHandle" ∧ (parseMethodDescriptor Y_M_chosenOf.1.desc).map (fun d => d.parameters.length) = some 3) ∧ plainFor Y_M_chosenOf.1 = true ∧ Y_M_chosenOf.2.2.1 ≤ 20 := by decide +kernel
theorem ml_M_179 : MLv "CallGraphsModel" 179 Y_M_chosenOf 3 := ⟨gw5 32 ⟨rfl, rfl⟩, wi_1050, ws_28, wn_59, wc_1051, dd_M_chosenOf⟩
theorem wi_1054 : Cond.instanceMethod ⟨"CallGraphsModel", "choose", "(II)I"⟩ ∈ gws := gw5 38 ⟨rfl, rfl⟩
theorem ws_29 : Cond.selects "CallGraphsModel" ⟨"CallGraphsModel", "choose", "(II)I"⟩ ⟨"CallGraphsModel", "choose", "(II)I"⟩ ∈ gws := gw0 29 ⟨rfl, rfl⟩
theorem wc_1055 : Cond.code Y_M_choose.1 Y_M_choose.2.1 Y_M_choose.2.2.1 Y_M_choose.2.2.2 ∈ gws := gw5 39 ⟨rfl, rfl⟩
theorem dd_M_choose : (Y_M_choose.1.cls ≠ "java/lang/invoke/MethodHandle" ∧ Y_M_choose.1.cls ≠ "java/lang/invoke/VarHandle" ∧ (parseMethodDescriptor Y_M_choose.1.desc).map (fun d => d.parameters.length) = some 2) ∧ plainFor Y_M_choose.1 = true ∧ Y_M_choose.2.2.1 ≤ 20 := by decide +kernel
theorem ml_M_176 : MLv "CallGraphsModel" 176 Y_M_choose 2 := ⟨gw5 36 ⟨rfl, rfl⟩, wi_1054, ws_29, wn_59, wc_1055, dd_M_choose⟩
theorem wi_1057 : Cond.instanceMethod ⟨"CallGraphsModel", "count", "(I)I"⟩ ∈ gws := gw5 41 ⟨rfl, rfl⟩
theorem ws_1058 : Cond.selects "CallGraphsModel" ⟨"CallGraphsModel", "count", "(I)I"⟩ ⟨"CallGraphsModel", "count", "(I)I"⟩ ∈ gws := gw5 42 ⟨rfl, rfl⟩
theorem wc_1059 : Cond.code Y_M_count.1 Y_M_count.2.1 Y_M_count.2.2.1 Y_M_count.2.2.2 ∈ gws := gw5 43 ⟨rfl, rfl⟩
theorem dd_M_count : (Y_M_count.1.cls ≠ "java/lang/invoke/MethodHandle" ∧ Y_M_count.1.cls ≠ "java/lang/invoke/VarHandle" ∧ (parseMethodDescriptor Y_M_count.1.desc).map (fun d => d.parameters.length) = some 1) ∧ plainFor Y_M_count.1 = true ∧ Y_M_count.2.2.1 ≤ 20 := by decide +kernel
theorem ml_Law_41 : MLv "CallGraphsLaw" 41 Y_M_count 1 := ⟨gw5 40 ⟨rfl, rfl⟩, wi_1057, ws_1058, wn_59, wc_1059, dd_M_count⟩
theorem wi_1062 : Cond.instanceMethod ⟨"CallGraphsModel", "freshen", "()V"⟩ ∈ gws := gw5 46 ⟨rfl, rfl⟩
theorem ws_30 : Cond.selects "CallGraphsModel" ⟨"CallGraphsModel", "freshen", "()V"⟩ ⟨"CallGraphsModel", "freshen", "()V"⟩ ∈ gws := gw0 30 ⟨rfl, rfl⟩
theorem wc_1063 : Cond.code Y_M_freshen.1 Y_M_freshen.2.1 Y_M_freshen.2.2.1 Y_M_freshen.2.2.2 ∈ gws := gw5 47 ⟨rfl, rfl⟩
theorem dd_M_freshen : (Y_M_freshen.1.cls ≠ "java/lang/invoke/MethodHandle" ∧ Y_M_freshen.1.cls ≠ "java/lang/invoke/VarHandle" ∧ (parseMethodDescriptor Y_M_freshen.1.desc).map (fun d => d.parameters.length) = some 0) ∧ plainFor Y_M_freshen.1 = true ∧ Y_M_freshen.2.2.1 ≤ 20 := by decide +kernel
theorem ml_M_217 : MLv "CallGraphsModel" 217 Y_M_freshen 0 := ⟨gw5 44 ⟨rfl, rfl⟩, wi_1062, ws_30, wn_59, wc_1063, dd_M_freshen⟩
theorem wi_1066 : Cond.instanceMethod ⟨"CallGraphsModel", "follow", "(I)V"⟩ ∈ gws := gw5 50 ⟨rfl, rfl⟩
theorem ws_31 : Cond.selects "CallGraphsModel" ⟨"CallGraphsModel", "follow", "(I)V"⟩ ⟨"CallGraphsModel", "follow", "(I)V"⟩ ∈ gws := gw0 31 ⟨rfl, rfl⟩
theorem wc_1067 : Cond.code Y_M_follow.1 Y_M_follow.2.1 Y_M_follow.2.2.1 Y_M_follow.2.2.2 ∈ gws := gw5 51 ⟨rfl, rfl⟩
theorem dd_M_follow : (Y_M_follow.1.cls ≠ "java/lang/invoke/MethodHandle" ∧ Y_M_follow.1.cls ≠ "java/lang/invoke/VarHandle" ∧ (parseMethodDescriptor Y_M_follow.1.desc).map (fun d => d.parameters.length) = some 1) ∧ plainFor Y_M_follow.1 = true ∧ Y_M_follow.2.2.1 ≤ 20 := by decide +kernel
theorem ml_M_208 : MLv "CallGraphsModel" 208 Y_M_follow 1 := ⟨gw5 48 ⟨rfl, rfl⟩, wi_1066, ws_31, wn_59, wc_1067, dd_M_follow⟩
theorem wi_1070 : Cond.instanceMethod ⟨"CallGraphsModel", "beginBy", "(II)V"⟩ ∈ gws := gw5 54 ⟨rfl, rfl⟩
theorem ws_32 : Cond.selects "CallGraphsModel" ⟨"CallGraphsModel", "beginBy", "(II)V"⟩ ⟨"CallGraphsModel", "beginBy", "(II)V"⟩ ∈ gws := gw0 32 ⟨rfl, rfl⟩
theorem wc_1071 : Cond.code Y_M_beginBy.1 Y_M_beginBy.2.1 Y_M_beginBy.2.2.1 Y_M_beginBy.2.2.2 ∈ gws := gw5 55 ⟨rfl, rfl⟩
theorem dd_M_beginBy : (Y_M_beginBy.1.cls ≠ "java/lang/invoke/MethodHandle" ∧ Y_M_beginBy.1.cls ≠ "java/lang/invoke/VarHandle" ∧ (parseMethodDescriptor Y_M_beginBy.1.desc).map (fun d => d.parameters.length) = some 2) ∧ plainFor Y_M_beginBy.1 = true ∧ Y_M_beginBy.2.2.1 ≤ 20 := by decide +kernel
theorem ml_M_201 : MLv "CallGraphsModel" 201 Y_M_beginBy 2 := ⟨gw5 52 ⟨rfl, rfl⟩, wi_1070, ws_32, wn_59, wc_1071, dd_M_beginBy⟩
theorem wi_1074 : Cond.instanceMethod ⟨"CallGraphsModel", "findWith", "(I)V"⟩ ∈ gws := gw5 58 ⟨rfl, rfl⟩
theorem ws_33 : Cond.selects "CallGraphsModel" ⟨"CallGraphsModel", "findWith", "(I)V"⟩ ⟨"CallGraphsModel", "findWith", "(I)V"⟩ ∈ gws := gw0 33 ⟨rfl, rfl⟩
theorem wc_1075 : Cond.code Y_M_findWith.1 Y_M_findWith.2.1 Y_M_findWith.2.2.1 Y_M_findWith.2.2.2 ∈ gws := gw5 59 ⟨rfl, rfl⟩
theorem dd_M_findWith : (Y_M_findWith.1.cls ≠ "java/lang/invoke/MethodHandle" ∧ Y_M_findWith.1.cls ≠ "java/lang/invoke/VarHandle" ∧ (parseMethodDescriptor Y_M_findWith.1.desc).map (fun d => d.parameters.length) = some 1) ∧ plainFor Y_M_findWith.1 = true ∧ Y_M_findWith.2.2.1 ≤ 20 := by decide +kernel
theorem ml_M_192 : MLv "CallGraphsModel" 192 Y_M_findWith 1 := ⟨gw5 56 ⟨rfl, rfl⟩, wi_1074, ws_33, wn_59, wc_1075, dd_M_findWith⟩
theorem wi_1078 : Cond.instanceMethod ⟨"CallGraphsModel", "hasPlain", "(I)Z"⟩ ∈ gws := gw5 62 ⟨rfl, rfl⟩
theorem ws_34 : Cond.selects "CallGraphsModel" ⟨"CallGraphsModel", "hasPlain", "(I)Z"⟩ ⟨"CallGraphsModel", "hasPlain", "(I)Z"⟩ ∈ gws := gw0 34 ⟨rfl, rfl⟩
theorem wc_1079 : Cond.code Y_M_hasPlain.1 Y_M_hasPlain.2.1 Y_M_hasPlain.2.2.1 Y_M_hasPlain.2.2.2 ∈ gws := gw5 63 ⟨rfl, rfl⟩
theorem dd_M_hasPlain : (Y_M_hasPlain.1.cls ≠ "java/lang/invoke/MethodHandle" ∧ Y_M_hasPlain.1.cls ≠ "java/lang/invoke/VarHandle" ∧ (parseMethodDescriptor Y_M_hasPlain.1.desc).map (fun d => d.parameters.length) = some 1) ∧ plainFor Y_M_hasPlain.1 = true ∧ Y_M_hasPlain.2.2.1 ≤ 20 := by decide +kernel
theorem ml_M_183 : MLv "CallGraphsModel" 183 Y_M_hasPlain 1 := ⟨gw5 60 ⟨rfl, rfl⟩, wi_1078, ws_34, wn_59, wc_1079, dd_M_hasPlain⟩
theorem wi_1082 : Cond.instanceMethod ⟨"CallGraphsModel", "call", "(II)V"⟩ ∈ gws := gw5 66 ⟨rfl, rfl⟩
theorem ws_35 : Cond.selects "CallGraphsModel" ⟨"CallGraphsModel", "call", "(II)V"⟩ ⟨"CallGraphsModel", "call", "(II)V"⟩ ∈ gws := gw0 35 ⟨rfl, rfl⟩
theorem wc_1083 : Cond.code Y_M_call.1 Y_M_call.2.1 Y_M_call.2.2.1 Y_M_call.2.2.2 ∈ gws := gw5 67 ⟨rfl, rfl⟩
theorem dd_M_call : (Y_M_call.1.cls ≠ "java/lang/invoke/MethodHandle" ∧ Y_M_call.1.cls ≠ "java/lang/invoke/VarHandle" ∧ (parseMethodDescriptor Y_M_call.1.desc).map (fun d => d.parameters.length) = some 2) ∧ plainFor Y_M_call.1 = true ∧ Y_M_call.2.2.1 ≤ 20 := by decide +kernel
theorem ml_M_195 : MLv "CallGraphsModel" 195 Y_M_call 2 := ⟨gw5 64 ⟨rfl, rfl⟩, wi_1082, ws_35, wn_59, wc_1083, dd_M_call⟩
theorem wi_1086 : Cond.instanceMethod ⟨"CallGraphsModel", "reach", "(I)V"⟩ ∈ gws := gw5 70 ⟨rfl, rfl⟩
theorem ws_36 : Cond.selects "CallGraphsModel" ⟨"CallGraphsModel", "reach", "(I)V"⟩ ⟨"CallGraphsModel", "reach", "(I)V"⟩ ∈ gws := gw0 36 ⟨rfl, rfl⟩
theorem wc_1087 : Cond.code Y_M_reach.1 Y_M_reach.2.1 Y_M_reach.2.2.1 Y_M_reach.2.2.2 ∈ gws := gw5 71 ⟨rfl, rfl⟩
theorem dd_M_reach : (Y_M_reach.1.cls ≠ "java/lang/invoke/MethodHandle" ∧ Y_M_reach.1.cls ≠ "java/lang/invoke/VarHandle" ∧ (parseMethodDescriptor Y_M_reach.1.desc).map (fun d => d.parameters.length) = some 1) ∧ plainFor Y_M_reach.1 = true ∧ Y_M_reach.2.2.1 ≤ 20 := by decide +kernel
theorem ml_M_189 : MLv "CallGraphsModel" 189 Y_M_reach 1 := ⟨gw5 68 ⟨rfl, rfl⟩, wi_1086, ws_36, wn_59, wc_1087, dd_M_reach⟩
theorem wi_1090 : Cond.instanceMethod ⟨"CallGraphsModel", "callAll", "(III)V"⟩ ∈ gws := gw5 74 ⟨rfl, rfl⟩
theorem ws_37 : Cond.selects "CallGraphsModel" ⟨"CallGraphsModel", "callAll", "(III)V"⟩ ⟨"CallGraphsModel", "callAll", "(III)V"⟩ ∈ gws := gw0 37 ⟨rfl, rfl⟩
theorem wc_1091 : Cond.code Y_M_callAll.1 Y_M_callAll.2.1 Y_M_callAll.2.2.1 Y_M_callAll.2.2.2 ∈ gws := gw5 75 ⟨rfl, rfl⟩
theorem dd_M_callAll : (Y_M_callAll.1.cls ≠ "java/lang/invoke/MethodHandle" ∧ Y_M_callAll.1.cls ≠ "java/lang/invoke/VarHandle" ∧ (parseMethodDescriptor Y_M_callAll.1.desc).map (fun d => d.parameters.length) = some 3) ∧ plainFor Y_M_callAll.1 = true ∧ Y_M_callAll.2.2.1 ≤ 20 := by decide +kernel
theorem ml_M_204 : MLv "CallGraphsModel" 204 Y_M_callAll 3 := ⟨gw5 72 ⟨rfl, rfl⟩, wi_1090, ws_37, wn_59, wc_1091, dd_M_callAll⟩
theorem wi_1094 : Cond.instanceMethod ⟨"CallGraphsModel", "fault", "(II)V"⟩ ∈ gws := gw5 78 ⟨rfl, rfl⟩
theorem ws_38 : Cond.selects "CallGraphsModel" ⟨"CallGraphsModel", "fault", "(II)V"⟩ ⟨"CallGraphsModel", "fault", "(II)V"⟩ ∈ gws := gw0 38 ⟨rfl, rfl⟩
theorem wc_1095 : Cond.code Y_M_fault.1 Y_M_fault.2.1 Y_M_fault.2.2.1 Y_M_fault.2.2.2 ∈ gws := gw5 79 ⟨rfl, rfl⟩
theorem dd_M_fault : (Y_M_fault.1.cls ≠ "java/lang/invoke/MethodHandle" ∧ Y_M_fault.1.cls ≠ "java/lang/invoke/VarHandle" ∧ (parseMethodDescriptor Y_M_fault.1.desc).map (fun d => d.parameters.length) = some 2) ∧ plainFor Y_M_fault.1 = true ∧ Y_M_fault.2.2.1 ≤ 20 := by decide +kernel
theorem ml_M_198 : MLv "CallGraphsModel" 198 Y_M_fault 2 := ⟨gw5 76 ⟨rfl, rfl⟩, wi_1094, ws_38, wn_59, wc_1095, dd_M_fault⟩
theorem wi_1098 : Cond.instanceMethod ⟨"CallGraphsModel", "findComes", "()V"⟩ ∈ gws := gw5 82 ⟨rfl, rfl⟩
theorem ws_39 : Cond.selects "CallGraphsModel" ⟨"CallGraphsModel", "findComes", "()V"⟩ ⟨"CallGraphsModel", "findComes", "()V"⟩ ∈ gws := gw0 39 ⟨rfl, rfl⟩
theorem wc_1099 : Cond.code Y_M_findComes.1 Y_M_findComes.2.1 Y_M_findComes.2.2.1 Y_M_findComes.2.2.2 ∈ gws := gw5 83 ⟨rfl, rfl⟩
theorem dd_M_findComes : (Y_M_findComes.1.cls ≠ "java/lang/invoke/MethodHandle" ∧ Y_M_findComes.1.cls ≠ "java/lang/invoke/VarHandle" ∧ (parseMethodDescriptor Y_M_findComes.1.desc).map (fun d => d.parameters.length) = some 0) ∧ plainFor Y_M_findComes.1 = true ∧ Y_M_findComes.2.2.1 ≤ 20 := by decide +kernel
theorem ml_M_211 : MLv "CallGraphsModel" 211 Y_M_findComes 0 := ⟨gw5 80 ⟨rfl, rfl⟩, wi_1098, ws_39, wn_59, wc_1099, dd_M_findComes⟩
theorem wi_1102 : Cond.instanceMethod ⟨"CallGraphsModel", "countIn", "(I)I"⟩ ∈ gws := gw5 86 ⟨rfl, rfl⟩
theorem ws_40 : Cond.selects "CallGraphsModel" ⟨"CallGraphsModel", "countIn", "(I)I"⟩ ⟨"CallGraphsModel", "countIn", "(I)I"⟩ ∈ gws := gw0 40 ⟨rfl, rfl⟩
theorem wc_1103 : Cond.code Y_M_countIn.1 Y_M_countIn.2.1 Y_M_countIn.2.2.1 Y_M_countIn.2.2.2 ∈ gws := gw5 87 ⟨rfl, rfl⟩
theorem dd_M_countIn : (Y_M_countIn.1.cls ≠ "java/lang/invoke/MethodHandle" ∧ Y_M_countIn.1.cls ≠ "java/lang/invoke/VarHandle" ∧ (parseMethodDescriptor Y_M_countIn.1.desc).map (fun d => d.parameters.length) = some 1) ∧ plainFor Y_M_countIn.1 = true ∧ Y_M_countIn.2.2.1 ≤ 20 := by decide +kernel
theorem ml_M_220 : MLv "CallGraphsModel" 220 Y_M_countIn 1 := ⟨gw5 84 ⟨rfl, rfl⟩, wi_1102, ws_40, wn_59, wc_1103, dd_M_countIn⟩
theorem wi_1106 : Cond.instanceMethod ⟨"CallGraphsModel", "isRecursive", "(I)Z"⟩ ∈ gws := gw5 90 ⟨rfl, rfl⟩
theorem ws_41 : Cond.selects "CallGraphsModel" ⟨"CallGraphsModel", "isRecursive", "(I)Z"⟩ ⟨"CallGraphsModel", "isRecursive", "(I)Z"⟩ ∈ gws := gw0 41 ⟨rfl, rfl⟩
theorem wc_1107 : Cond.code Y_M_isRecursive.1 Y_M_isRecursive.2.1 Y_M_isRecursive.2.2.1 Y_M_isRecursive.2.2.2 ∈ gws := gw5 91 ⟨rfl, rfl⟩
theorem dd_M_isRecursive : (Y_M_isRecursive.1.cls ≠ "java/lang/invoke/MethodHandle" ∧ Y_M_isRecursive.1.cls ≠ "java/lang/invoke/VarHandle" ∧ (parseMethodDescriptor Y_M_isRecursive.1.desc).map (fun d => d.parameters.length) = some 1) ∧ plainFor Y_M_isRecursive.1 = true ∧ Y_M_isRecursive.2.2.1 ≤ 20 := by decide +kernel
theorem ml_M_214 : MLv "CallGraphsModel" 214 Y_M_isRecursive 1 := ⟨gw5 88 ⟨rfl, rfl⟩, wi_1106, ws_41, wn_59, wc_1107, dd_M_isRecursive⟩
theorem wi_1109 : Cond.instanceMethod ⟨"CallGraphsModel", "about", "(II)I"⟩ ∈ gws := gw5 93 ⟨rfl, rfl⟩
theorem ws_1110 : Cond.selects "CallGraphsModel" ⟨"CallGraphsModel", "about", "(II)I"⟩ ⟨"CallGraphsModel", "about", "(II)I"⟩ ∈ gws := gw5 94 ⟨rfl, rfl⟩
theorem wc_1111 : Cond.code Y_M_about.1 Y_M_about.2.1 Y_M_about.2.2.1 Y_M_about.2.2.2 ∈ gws := gw5 95 ⟨rfl, rfl⟩
theorem dd_M_about : (Y_M_about.1.cls ≠ "java/lang/invoke/MethodHandle" ∧ Y_M_about.1.cls ≠ "java/lang/invoke/VarHandle" ∧ (parseMethodDescriptor Y_M_about.1.desc).map (fun d => d.parameters.length) = some 2) ∧ plainFor Y_M_about.1 = true ∧ Y_M_about.2.2.1 ≤ 20 := by decide +kernel
theorem ml_Law_57 : MLv "CallGraphsLaw" 57 Y_M_about 2 := ⟨gw5 92 ⟨rfl, rfl⟩, wi_1109, ws_1110, wn_59, wc_1111, dd_M_about⟩
theorem wi_1114 : Cond.instanceMethod ⟨"CallGraphsModel", "isRing", "(II)Z"⟩ ∈ gws := gw5 98 ⟨rfl, rfl⟩
theorem ws_42 : Cond.selects "CallGraphsModel" ⟨"CallGraphsModel", "isRing", "(II)Z"⟩ ⟨"CallGraphsModel", "isRing", "(II)Z"⟩ ∈ gws := gw0 42 ⟨rfl, rfl⟩
theorem wc_1115 : Cond.code Y_M_isRing.1 Y_M_isRing.2.1 Y_M_isRing.2.2.1 Y_M_isRing.2.2.2 ∈ gws := gw5 99 ⟨rfl, rfl⟩
theorem dd_M_isRing : (Y_M_isRing.1.cls ≠ "java/lang/invoke/MethodHandle" ∧ Y_M_isRing.1.cls ≠ "java/lang/invoke/VarHandle" ∧ (parseMethodDescriptor Y_M_isRing.1.desc).map (fun d => d.parameters.length) = some 2) ∧ plainFor Y_M_isRing.1 = true ∧ Y_M_isRing.2.2.1 ≤ 20 := by decide +kernel
theorem ml_M_227 : MLv "CallGraphsModel" 227 Y_M_isRing 2 := ⟨gw5 96 ⟨rfl, rfl⟩, wi_1114, ws_42, wn_59, wc_1115, dd_M_isRing⟩
theorem wi_1118 : Cond.instanceMethod ⟨"CallGraphsModel", "callersOf", "(II)I"⟩ ∈ gws := gw5 102 ⟨rfl, rfl⟩
theorem ws_43 : Cond.selects "CallGraphsModel" ⟨"CallGraphsModel", "callersOf", "(II)I"⟩ ⟨"CallGraphsModel", "callersOf", "(II)I"⟩ ∈ gws := gw0 43 ⟨rfl, rfl⟩
theorem wc_1119 : Cond.code Y_M_callersOf.1 Y_M_callersOf.2.1 Y_M_callersOf.2.2.1 Y_M_callersOf.2.2.2 ∈ gws := gw5 103 ⟨rfl, rfl⟩
theorem dd_M_callersOf : (Y_M_callersOf.1.cls ≠ "java/lang/invoke/MethodHandle" ∧ Y_M_callersOf.1.cls ≠ "java/lang/invoke/VarHandle" ∧ (parseMethodDescriptor Y_M_callersOf.1.desc).map (fun d => d.parameters.length) = some 2) ∧ plainFor Y_M_callersOf.1 = true ∧ Y_M_callersOf.2.2.1 ≤ 20 := by decide +kernel
theorem ml_M_230 : MLv "CallGraphsModel" 230 Y_M_callersOf 2 := ⟨gw5 100 ⟨rfl, rfl⟩, wi_1118, ws_43, wn_59, wc_1119, dd_M_callersOf⟩
theorem wi_1122 : Cond.instanceMethod ⟨"CallGraphsModel", "isCallee", "(II)Z"⟩ ∈ gws := gw5 106 ⟨rfl, rfl⟩
theorem ws_44 : Cond.selects "CallGraphsModel" ⟨"CallGraphsModel", "isCallee", "(II)Z"⟩ ⟨"CallGraphsModel", "isCallee", "(II)Z"⟩ ∈ gws := gw0 44 ⟨rfl, rfl⟩
theorem wc_1123 : Cond.code Y_M_isCallee.1 Y_M_isCallee.2.1 Y_M_isCallee.2.2.1 Y_M_isCallee.2.2.2 ∈ gws := gw5 107 ⟨rfl, rfl⟩
theorem dd_M_isCallee : (Y_M_isCallee.1.cls ≠ "java/lang/invoke/MethodHandle" ∧ Y_M_isCallee.1.cls ≠ "java/lang/invoke/VarHandle" ∧ (parseMethodDescriptor Y_M_isCallee.1.desc).map (fun d => d.parameters.length) = some 2) ∧ plainFor Y_M_isCallee.1 = true ∧ Y_M_isCallee.2.2.1 ≤ 20 := by decide +kernel
theorem ml_M_224 : MLv "CallGraphsModel" 224 Y_M_isCallee 2 := ⟨gw5 104 ⟨rfl, rfl⟩, wi_1122, ws_44, wn_59, wc_1123, dd_M_isCallee⟩
theorem wi_1125 : Cond.instanceMethod ⟨"CallGraphsModel", "made", "(II)I"⟩ ∈ gws := gw5 109 ⟨rfl, rfl⟩
theorem ws_1126 : Cond.selects "CallGraphsModel" ⟨"CallGraphsModel", "made", "(II)I"⟩ ⟨"CallGraphsModel", "made", "(II)I"⟩ ∈ gws := gw5 110 ⟨rfl, rfl⟩
theorem wc_1127 : Cond.code Y_M_made.1 Y_M_made.2.1 Y_M_made.2.2.1 Y_M_made.2.2.2 ∈ gws := gw5 111 ⟨rfl, rfl⟩
theorem dd_M_made : (Y_M_made.1.cls ≠ "java/lang/invoke/MethodHandle" ∧ Y_M_made.1.cls ≠ "java/lang/invoke/VarHandle" ∧ (parseMethodDescriptor Y_M_made.1.desc).map (fun d => d.parameters.length) = some 2) ∧ plainFor Y_M_made.1 = true ∧ Y_M_made.2.2.1 ≤ 20 := by decide +kernel
theorem ml_Law_61 : MLv "CallGraphsLaw" 61 Y_M_made 2 := ⟨gw5 108 ⟨rfl, rfl⟩, wi_1125, ws_1126, wn_59, wc_1127, dd_M_made⟩
theorem wi_1129 : Cond.instanceMethod ⟨"CallGraphsModel", "callee", "(III)I"⟩ ∈ gws := gw5 113 ⟨rfl, rfl⟩
theorem ws_1130 : Cond.selects "CallGraphsModel" ⟨"CallGraphsModel", "callee", "(III)I"⟩ ⟨"CallGraphsModel", "callee", "(III)I"⟩ ∈ gws := gw5 114 ⟨rfl, rfl⟩
theorem wc_1131 : Cond.code Y_M_callee.1 Y_M_callee.2.1 Y_M_callee.2.2.1 Y_M_callee.2.2.2 ∈ gws := gw5 115 ⟨rfl, rfl⟩
theorem dd_M_callee : (Y_M_callee.1.cls ≠ "java/lang/invoke/MethodHandle" ∧ Y_M_callee.1.cls ≠ "java/lang/invoke/VarHandle" ∧ (parseMethodDescriptor Y_M_callee.1.desc).map (fun d => d.parameters.length) = some 3) ∧ plainFor Y_M_callee.1 = true ∧ Y_M_callee.2.2.1 ≤ 20 := by decide +kernel
theorem ml_Law_65 : MLv "CallGraphsLaw" 65 Y_M_callee 3 := ⟨gw5 112 ⟨rfl, rfl⟩, wi_1129, ws_1130, wn_59, wc_1131, dd_M_callee⟩
theorem wi_1134 : Cond.instanceMethod ⟨"CallGraphsModel", "isOp", "(II)Z"⟩ ∈ gws := gw5 118 ⟨rfl, rfl⟩
theorem ws_45 : Cond.selects "CallGraphsModel" ⟨"CallGraphsModel", "isOp", "(II)Z"⟩ ⟨"CallGraphsModel", "isOp", "(II)Z"⟩ ∈ gws := gw0 45 ⟨rfl, rfl⟩
theorem wc_1135 : Cond.code Y_M_isOp.1 Y_M_isOp.2.1 Y_M_isOp.2.2.1 Y_M_isOp.2.2.2 ∈ gws := gw5 119 ⟨rfl, rfl⟩
theorem dd_M_isOp : (Y_M_isOp.1.cls ≠ "java/lang/invoke/MethodHandle" ∧ Y_M_isOp.1.cls ≠ "java/lang/invoke/VarHandle" ∧ (parseMethodDescriptor Y_M_isOp.1.desc).map (fun d => d.parameters.length) = some 2) ∧ plainFor Y_M_isOp.1 = true ∧ Y_M_isOp.2.2.1 ≤ 20 := by decide +kernel
theorem ml_M_233 : MLv "CallGraphsModel" 233 Y_M_isOp 2 := ⟨gw5 116 ⟨rfl, rfl⟩, wi_1134, ws_45, wn_59, wc_1135, dd_M_isOp⟩
theorem wi_1137 : Cond.instanceMethod ⟨"CallGraphsModel", "faults", "(III)I"⟩ ∈ gws := gw5 121 ⟨rfl, rfl⟩
theorem ws_1138 : Cond.selects "CallGraphsModel" ⟨"CallGraphsModel", "faults", "(III)I"⟩ ⟨"CallGraphsModel", "faults", "(III)I"⟩ ∈ gws := gw5 122 ⟨rfl, rfl⟩
theorem wc_1139 : Cond.code Y_M_faults.1 Y_M_faults.2.1 Y_M_faults.2.2.1 Y_M_faults.2.2.2 ∈ gws := gw5 123 ⟨rfl, rfl⟩
theorem dd_M_faults : (Y_M_faults.1.cls ≠ "java/lang/invoke/MethodHandle" ∧ Y_M_faults.1.cls ≠ "java/lang/invoke/VarHandle" ∧ (parseMethodDescriptor Y_M_faults.1.desc).map (fun d => d.parameters.length) = some 3) ∧ plainFor Y_M_faults.1 = true ∧ Y_M_faults.2.2.1 ≤ 20 := by decide +kernel
theorem ml_Law_69 : MLv "CallGraphsLaw" 69 Y_M_faults 3 := ⟨gw5 120 ⟨rfl, rfl⟩, wi_1137, ws_1138, wn_59, wc_1139, dd_M_faults⟩
theorem wi_1141 : Cond.instanceMethod ⟨"CallGraphsModel", "caller", "(II)I"⟩ ∈ gws := gw5 125 ⟨rfl, rfl⟩
theorem ws_1142 : Cond.selects "CallGraphsModel" ⟨"CallGraphsModel", "caller", "(II)I"⟩ ⟨"CallGraphsModel", "caller", "(II)I"⟩ ∈ gws := gw5 126 ⟨rfl, rfl⟩
theorem wc_1143 : Cond.code Y_M_caller.1 Y_M_caller.2.1 Y_M_caller.2.2.1 Y_M_caller.2.2.2 ∈ gws := gw5 127 ⟨rfl, rfl⟩
theorem dd_M_caller : (Y_M_caller.1.cls ≠ "java/lang/invoke/MethodHandle" ∧ Y_M_caller.1.cls ≠ "java/lang/invoke/VarHandle" ∧ (parseMethodDescriptor Y_M_caller.1.desc).map (fun d => d.parameters.length) = some 2) ∧ plainFor Y_M_caller.1 = true ∧ Y_M_caller.2.2.1 ≤ 20 := by decide +kernel
theorem ml_Law_73 : MLv "CallGraphsLaw" 73 Y_M_caller 2 := ⟨gw5 124 ⟨rfl, rfl⟩, wi_1141, ws_1142, wn_59, wc_1143, dd_M_caller⟩
theorem wi_1145 : Cond.instanceMethod ⟨"CallGraphsModel", "way", "(II)I"⟩ ∈ gws := gw5 129 ⟨rfl, rfl⟩
theorem ws_1146 : Cond.selects "CallGraphsModel" ⟨"CallGraphsModel", "way", "(II)I"⟩ ⟨"CallGraphsModel", "way", "(II)I"⟩ ∈ gws := gw5 130 ⟨rfl, rfl⟩
theorem wc_1147 : Cond.code Y_M_way.1 Y_M_way.2.1 Y_M_way.2.2.1 Y_M_way.2.2.2 ∈ gws := gw5 131 ⟨rfl, rfl⟩
theorem dd_M_way : (Y_M_way.1.cls ≠ "java/lang/invoke/MethodHandle" ∧ Y_M_way.1.cls ≠ "java/lang/invoke/VarHandle" ∧ (parseMethodDescriptor Y_M_way.1.desc).map (fun d => d.parameters.length) = some 2) ∧ plainFor Y_M_way.1 = true ∧ Y_M_way.2.2.1 ≤ 20 := by decide +kernel
theorem ml_Law_77 : MLv "CallGraphsLaw" 77 Y_M_way 2 := ⟨gw5 128 ⟨rfl, rfl⟩, wi_1145, ws_1146, wn_59, wc_1147, dd_M_way⟩
theorem wi_1150 : Cond.instanceMethod ⟨"CallGraphsModel", "findFar", "(I)V"⟩ ∈ gws := gw5 134 ⟨rfl, rfl⟩
theorem ws_46 : Cond.selects "CallGraphsModel" ⟨"CallGraphsModel", "findFar", "(I)V"⟩ ⟨"CallGraphsModel", "findFar", "(I)V"⟩ ∈ gws := gw0 46 ⟨rfl, rfl⟩
theorem wc_1151 : Cond.code Y_M_findFar.1 Y_M_findFar.2.1 Y_M_findFar.2.2.1 Y_M_findFar.2.2.2 ∈ gws := gw5 135 ⟨rfl, rfl⟩
theorem dd_M_findFar : (Y_M_findFar.1.cls ≠ "java/lang/invoke/MethodHandle" ∧ Y_M_findFar.1.cls ≠ "java/lang/invoke/VarHandle" ∧ (parseMethodDescriptor Y_M_findFar.1.desc).map (fun d => d.parameters.length) = some 1) ∧ plainFor Y_M_findFar.1 = true ∧ Y_M_findFar.2.2.1 ≤ 20 := by decide +kernel
theorem ml_M_236 : MLv "CallGraphsModel" 236 Y_M_findFar 1 := ⟨gw5 132 ⟨rfl, rfl⟩, wi_1150, ws_46, wn_59, wc_1151, dd_M_findFar⟩
theorem wi_1153 : Cond.instanceMethod ⟨"CallGraphsModel", "run", "(JI)I"⟩ ∈ gws := gw5 137 ⟨rfl, rfl⟩
theorem ws_1154 : Cond.selects "CallGraphsModel" ⟨"CallGraphsModel", "run", "(JI)I"⟩ ⟨"CallGraphsModel", "run", "(JI)I"⟩ ∈ gws := gw5 138 ⟨rfl, rfl⟩
theorem wc_1155 : Cond.code Y_M_run.1 Y_M_run.2.1 Y_M_run.2.2.1 Y_M_run.2.2.2 ∈ gws := gw5 139 ⟨rfl, rfl⟩
theorem dd_M_run : (Y_M_run.1.cls ≠ "java/lang/invoke/MethodHandle" ∧ Y_M_run.1.cls ≠ "java/lang/invoke/VarHandle" ∧ (parseMethodDescriptor Y_M_run.1.desc).map (fun d => d.parameters.length) = some 2) ∧ plainFor Y_M_run.1 = true ∧ Y_M_run.2.2.1 ≤ 20 := by decide +kernel
theorem ml_Law_84 : MLv "CallGraphsLaw" 84 Y_M_run 2 := ⟨gw5 136 ⟨rfl, rfl⟩, wi_1153, ws_1154, wn_59, wc_1155, dd_M_run⟩
theorem wi_1158 : Cond.instanceMethod ⟨"CallGraphsModel", "runAll", "(J)V"⟩ ∈ gws := gw5 142 ⟨rfl, rfl⟩
theorem ws_47 : Cond.selects "CallGraphsModel" ⟨"CallGraphsModel", "runAll", "(J)V"⟩ ⟨"CallGraphsModel", "runAll", "(J)V"⟩ ∈ gws := gw0 47 ⟨rfl, rfl⟩
theorem wc_1159 : Cond.code Y_M_runAll.1 Y_M_runAll.2.1 Y_M_runAll.2.2.1 Y_M_runAll.2.2.2 ∈ gws := gw5 143 ⟨rfl, rfl⟩
theorem dd_M_runAll : (Y_M_runAll.1.cls ≠ "java/lang/invoke/MethodHandle" ∧ Y_M_runAll.1.cls ≠ "java/lang/invoke/VarHandle" ∧ (parseMethodDescriptor Y_M_runAll.1.desc).map (fun d => d.parameters.length) = some 1) ∧ plainFor Y_M_runAll.1 = true ∧ Y_M_runAll.2.2.1 ≤ 20 := by decide +kernel
theorem ml_M_292 : MLv "CallGraphsModel" 292 Y_M_runAll 1 := ⟨gw5 140 ⟨rfl, rfl⟩, wi_1158, ws_47, wn_59, wc_1159, dd_M_runAll⟩
theorem wi_1162 : Cond.instanceMethod ⟨"CallGraphsModel", "push", "(III)V"⟩ ∈ gws := gw5 146 ⟨rfl, rfl⟩
theorem ws_48 : Cond.selects "CallGraphsModel" ⟨"CallGraphsModel", "push", "(III)V"⟩ ⟨"CallGraphsModel", "push", "(III)V"⟩ ∈ gws := gw0 48 ⟨rfl, rfl⟩
theorem wc_1163 : Cond.code Y_M_push.1 Y_M_push.2.1 Y_M_push.2.2.1 Y_M_push.2.2.2 ∈ gws := gw5 147 ⟨rfl, rfl⟩
theorem dd_M_push : (Y_M_push.1.cls ≠ "java/lang/invoke/MethodHandle" ∧ Y_M_push.1.cls ≠ "java/lang/invoke/VarHandle" ∧ (parseMethodDescriptor Y_M_push.1.desc).map (fun d => d.parameters.length) = some 3) ∧ plainFor Y_M_push.1 = true ∧ Y_M_push.2.2.1 ≤ 20 := by decide +kernel
theorem ml_M_265 : MLv "CallGraphsModel" 265 Y_M_push 3 := ⟨gw5 144 ⟨rfl, rfl⟩, wi_1162, ws_48, wn_59, wc_1163, dd_M_push⟩
theorem wi_1166 : Cond.instanceMethod ⟨"CallGraphsModel", "doNext", "()V"⟩ ∈ gws := gw5 150 ⟨rfl, rfl⟩
theorem ws_49 : Cond.selects "CallGraphsModel" ⟨"CallGraphsModel", "doNext", "()V"⟩ ⟨"CallGraphsModel", "doNext", "()V"⟩ ∈ gws := gw0 49 ⟨rfl, rfl⟩
theorem wc_1167 : Cond.code Y_M_doNext.1 Y_M_doNext.2.1 Y_M_doNext.2.2.1 Y_M_doNext.2.2.2 ∈ gws := gw5 151 ⟨rfl, rfl⟩
theorem dd_M_doNext : (Y_M_doNext.1.cls ≠ "java/lang/invoke/MethodHandle" ∧ Y_M_doNext.1.cls ≠ "java/lang/invoke/VarHandle" ∧ (parseMethodDescriptor Y_M_doNext.1.desc).map (fun d => d.parameters.length) = some 0) ∧ plainFor Y_M_doNext.1 = true ∧ Y_M_doNext.2.2.1 ≤ 20 := by decide +kernel
theorem ml_M_289 : MLv "CallGraphsModel" 289 Y_M_doNext 0 := ⟨gw5 148 ⟨rfl, rfl⟩, wi_1166, ws_49, wn_59, wc_1167, dd_M_doNext⟩
theorem wi_1170 : Cond.instanceMethod ⟨"CallGraphsModel", "draw", "(I)I"⟩ ∈ gws := gw5 154 ⟨rfl, rfl⟩
theorem ws_50 : Cond.selects "CallGraphsModel" ⟨"CallGraphsModel", "draw", "(I)I"⟩ ⟨"CallGraphsModel", "draw", "(I)I"⟩ ∈ gws := gw0 50 ⟨rfl, rfl⟩
theorem wc_1171 : Cond.code Y_M_draw.1 Y_M_draw.2.1 Y_M_draw.2.2.1 Y_M_draw.2.2.2 ∈ gws := gw5 155 ⟨rfl, rfl⟩
theorem dd_M_draw : (Y_M_draw.1.cls ≠ "java/lang/invoke/MethodHandle" ∧ Y_M_draw.1.cls ≠ "java/lang/invoke/VarHandle" ∧ (parseMethodDescriptor Y_M_draw.1.desc).map (fun d => d.parameters.length) = some 1) ∧ plainFor Y_M_draw.1 = true ∧ Y_M_draw.2.2.1 ≤ 20 := by decide +kernel
theorem ml_M_271 : MLv "CallGraphsModel" 271 Y_M_draw 1 := ⟨gw5 152 ⟨rfl, rfl⟩, wi_1170, ws_50, wn_59, wc_1171, dd_M_draw⟩
theorem wi_1176 : Cond.instanceMethod ⟨"CallGraphsModel", "runOp", "(I)V"⟩ ∈ gws := gw5 160 ⟨rfl, rfl⟩
theorem ws_51 : Cond.selects "CallGraphsModel" ⟨"CallGraphsModel", "runOp", "(I)V"⟩ ⟨"CallGraphsModel", "runOp", "(I)V"⟩ ∈ gws := gw0 51 ⟨rfl, rfl⟩
theorem wc_1177 : Cond.code Y_M_runOp.1 Y_M_runOp.2.1 Y_M_runOp.2.2.1 Y_M_runOp.2.2.2 ∈ gws := gw5 161 ⟨rfl, rfl⟩
theorem dd_M_runOp : (Y_M_runOp.1.cls ≠ "java/lang/invoke/MethodHandle" ∧ Y_M_runOp.1.cls ≠ "java/lang/invoke/VarHandle" ∧ (parseMethodDescriptor Y_M_runOp.1.desc).map (fun d => d.parameters.length) = some 1) ∧ plainFor Y_M_runOp.1 = true ∧ Y_M_runOp.2.2.1 ≤ 20 := by decide +kernel
theorem ml_M_280 : MLv "CallGraphsModel" 280 Y_M_runOp 1 := ⟨gw5 158 ⟨rfl, rfl⟩, wi_1176, ws_51, wn_59, wc_1177, dd_M_runOp⟩
theorem wi_1180 : Cond.instanceMethod ⟨"CallGraphsModel", "runAny", "(I)V"⟩ ∈ gws := gw5 164 ⟨rfl, rfl⟩
theorem ws_52 : Cond.selects "CallGraphsModel" ⟨"CallGraphsModel", "runAny", "(I)V"⟩ ⟨"CallGraphsModel", "runAny", "(I)V"⟩ ∈ gws := gw0 52 ⟨rfl, rfl⟩
theorem wc_1181 : Cond.code Y_M_runAny.1 Y_M_runAny.2.1 Y_M_runAny.2.2.1 Y_M_runAny.2.2.2 ∈ gws := gw5 165 ⟨rfl, rfl⟩
theorem dd_M_runAny : (Y_M_runAny.1.cls ≠ "java/lang/invoke/MethodHandle" ∧ Y_M_runAny.1.cls ≠ "java/lang/invoke/VarHandle" ∧ (parseMethodDescriptor Y_M_runAny.1.desc).map (fun d => d.parameters.length) = some 1) ∧ plainFor Y_M_runAny.1 = true ∧ Y_M_runAny.2.2.1 ≤ 20 := by decide +kernel
theorem ml_M_274 : MLv "CallGraphsModel" 274 Y_M_runAny 1 := ⟨gw5 162 ⟨rfl, rfl⟩, wi_1180, ws_52, wn_59, wc_1181, dd_M_runAny⟩
theorem wi_1184 : Cond.instanceMethod ⟨"CallGraphsModel", "runCall", "(I)V"⟩ ∈ gws := gw5 168 ⟨rfl, rfl⟩
theorem ws_53 : Cond.selects "CallGraphsModel" ⟨"CallGraphsModel", "runCall", "(I)V"⟩ ⟨"CallGraphsModel", "runCall", "(I)V"⟩ ∈ gws := gw0 53 ⟨rfl, rfl⟩
theorem wc_1185 : Cond.code Y_M_runCall.1 Y_M_runCall.2.1 Y_M_runCall.2.2.1 Y_M_runCall.2.2.2 ∈ gws := gw5 169 ⟨rfl, rfl⟩
theorem dd_M_runCall : (Y_M_runCall.1.cls ≠ "java/lang/invoke/MethodHandle" ∧ Y_M_runCall.1.cls ≠ "java/lang/invoke/VarHandle" ∧ (parseMethodDescriptor Y_M_runCall.1.desc).map (fun d => d.parameters.length) = some 1) ∧ plainFor Y_M_runCall.1 = true ∧ Y_M_runCall.2.2.1 ≤ 20 := by decide +kernel
theorem ml_M_277 : MLv "CallGraphsModel" 277 Y_M_runCall 1 := ⟨gw5 166 ⟨rfl, rfl⟩, wi_1184, ws_53, wn_59, wc_1185, dd_M_runCall⟩
theorem wi_1188 : Cond.instanceMethod ⟨"CallGraphsModel", "runNow", "(II)V"⟩ ∈ gws := gw5 172 ⟨rfl, rfl⟩
theorem ws_54 : Cond.selects "CallGraphsModel" ⟨"CallGraphsModel", "runNow", "(II)V"⟩ ⟨"CallGraphsModel", "runNow", "(II)V"⟩ ∈ gws := gw0 54 ⟨rfl, rfl⟩
theorem wc_1189 : Cond.code Y_M_runNow.1 Y_M_runNow.2.1 Y_M_runNow.2.2.1 Y_M_runNow.2.2.2 ∈ gws := gw5 173 ⟨rfl, rfl⟩
theorem dd_M_runNow : (Y_M_runNow.1.cls ≠ "java/lang/invoke/MethodHandle" ∧ Y_M_runNow.1.cls ≠ "java/lang/invoke/VarHandle" ∧ (parseMethodDescriptor Y_M_runNow.1.desc).map (fun d => d.parameters.length) = some 2) ∧ plainFor Y_M_runNow.1 = true ∧ Y_M_runNow.2.2.1 ≤ 20 := by decide +kernel
theorem ml_M_283 : MLv "CallGraphsModel" 283 Y_M_runNow 2 := ⟨gw5 170 ⟨rfl, rfl⟩, wi_1188, ws_54, wn_59, wc_1189, dd_M_runNow⟩
theorem wi_1192 : Cond.instanceMethod ⟨"CallGraphsModel", "beginNow", "(II)V"⟩ ∈ gws := gw5 176 ⟨rfl, rfl⟩
theorem ws_55 : Cond.selects "CallGraphsModel" ⟨"CallGraphsModel", "beginNow", "(II)V"⟩ ⟨"CallGraphsModel", "beginNow", "(II)V"⟩ ∈ gws := gw0 55 ⟨rfl, rfl⟩
theorem wc_1193 : Cond.code Y_M_beginNow.1 Y_M_beginNow.2.1 Y_M_beginNow.2.2.1 Y_M_beginNow.2.2.2 ∈ gws := gw5 177 ⟨rfl, rfl⟩
theorem dd_M_beginNow : (Y_M_beginNow.1.cls ≠ "java/lang/invoke/MethodHandle" ∧ Y_M_beginNow.1.cls ≠ "java/lang/invoke/VarHandle" ∧ (parseMethodDescriptor Y_M_beginNow.1.desc).map (fun d => d.parameters.length) = some 2) ∧ plainFor Y_M_beginNow.1 = true ∧ Y_M_beginNow.2.2.1 ≤ 20 := by decide +kernel
theorem ml_M_286 : MLv "CallGraphsModel" 286 Y_M_beginNow 2 := ⟨gw5 174 ⟨rfl, rfl⟩, wi_1192, ws_55, wn_59, wc_1193, dd_M_beginNow⟩
theorem wi_1195 : Cond.instanceMethod ⟨"CallGraphsModel", "holds", "(J)Z"⟩ ∈ gws := gw5 179 ⟨rfl, rfl⟩
theorem ws_1196 : Cond.selects "CallGraphsModel" ⟨"CallGraphsModel", "holds", "(J)Z"⟩ ⟨"CallGraphsModel", "holds", "(J)Z"⟩ ∈ gws := gw5 180 ⟨rfl, rfl⟩
theorem wc_1197 : Cond.code Y_M_holds.1 Y_M_holds.2.1 Y_M_holds.2.2.1 Y_M_holds.2.2.2 ∈ gws := gw5 181 ⟨rfl, rfl⟩
theorem dd_M_holds : (Y_M_holds.1.cls ≠ "java/lang/invoke/MethodHandle" ∧ Y_M_holds.1.cls ≠ "java/lang/invoke/VarHandle" ∧ (parseMethodDescriptor Y_M_holds.1.desc).map (fun d => d.parameters.length) = some 1) ∧ plainFor Y_M_holds.1 = true ∧ Y_M_holds.2.2.1 ≤ 20 := by decide +kernel
theorem ml_Law_89 : MLv "CallGraphsLaw" 89 Y_M_holds 1 := ⟨gw5 178 ⟨rfl, rfl⟩, wi_1195, ws_1196, wn_59, wc_1197, dd_M_holds⟩
theorem oi_inst : Cond.instanceMethod Lib.objectInit ∈ gws := gw1 24 ⟨rfl, rfl⟩
theorem oi_code : Cond.code Lib.objectInit ⟨#[0xb1]⟩ 1 none ∈ gws := gw1 25 ⟨rfl, rfl⟩
theorem cl_Law_7 : Cond.classLink "CallGraphsLaw" 7 "CallGraphs" ∈ gws := gw1 18 ⟨rfl, rfl⟩
theorem cl_G_9 : Cond.classLink "CallGraphs" 9 "CallGraphs$Type" ∈ gws := gw1 26 ⟨rfl, rfl⟩
theorem cl_G_15 : Cond.classLink "CallGraphs" 15 "CallGraphs$Member" ∈ gws := gw1 28 ⟨rfl, rfl⟩
theorem cl_G_28 : Cond.classLink "CallGraphs" 28 "[[Z" ∈ gws := gw1 30 ⟨rfl, rfl⟩
theorem cl_G_36 : Cond.classLink "CallGraphs" 36 "CallGraphs$Run" ∈ gws := gw1 32 ⟨rfl, rfl⟩
theorem cl_Run_9 : Cond.classLink "CallGraphs$Run" 9 "CallGraphs$Type" ∈ gws := gw1 38 ⟨rfl, rfl⟩
theorem cl_Run_21 : Cond.classLink "CallGraphs$Run" 21 "CallGraphs$Member" ∈ gws := gw1 39 ⟨rfl, rfl⟩
theorem cl_Kind_18 : Cond.classLink "CallGraphs$Kind" 18 "[LCallGraphs$Kind;" ∈ gws := gw1 188 ⟨rfl, rfl⟩
theorem cl_Type_9 : Cond.classLink "CallGraphs$Type" 9 "CallGraphs$Type" ∈ gws := gw1 193 ⟨rfl, rfl⟩
theorem cl_Type_19 : Cond.classLink "CallGraphs$Type" 19 "CallGraphs$Member" ∈ gws := gw1 194 ⟨rfl, rfl⟩
theorem cl_Sort_24 : Cond.classLink "CallGraphs$Sort" 24 "[LCallGraphs$Sort;" ∈ gws := gw2 27 ⟨rfl, rfl⟩
theorem cl_Member_9 : Cond.classLink "CallGraphs$Member" 9 "CallGraphs$Op" ∈ gws := gw2 32 ⟨rfl, rfl⟩
theorem cl_G_217 : Cond.classLink "CallGraphs" 217 "CallGraphs$New" ∈ gws := gw2 105 ⟨rfl, rfl⟩
theorem cl_G_222 : Cond.classLink "CallGraphs" 222 "CallGraphs$Call" ∈ gws := gw2 133 ⟨rfl, rfl⟩
theorem cl_G_227 : Cond.classLink "CallGraphs" 227 "CallGraphs$Up" ∈ gws := gw2 150 ⟨rfl, rfl⟩
theorem cl_G_230 : Cond.classLink "CallGraphs" 230 "CallGraphs$Static" ∈ gws := gw2 167 ⟨rfl, rfl⟩
theorem cl_G_233 : Cond.classLink "CallGraphs" 233 "CallGraphs$Put" ∈ gws := gw2 184 ⟨rfl, rfl⟩
theorem cl_G_238 : Cond.classLink "CallGraphs" 238 "CallGraphs$Out" ∈ gws := gw2 201 ⟨rfl, rfl⟩
theorem cl_G_243 : Cond.classLink "CallGraphs" 243 "CallGraphs$Any" ∈ gws := gw2 215 ⟨rfl, rfl⟩
theorem cl_Law_10 : Cond.classLink "CallGraphsLaw" 10 "CallGraphsModel" ∈ gws := gw4 41 ⟨rfl, rfl⟩
theorem sl_Type_41 : Cond.fieldLink "CallGraphs$Type" 41 "CallGraphs$Kind" "FACE" "LCallGraphs$Kind;" ∈ gws := gw1 173 ⟨rfl, rfl⟩
theorem sl_Kind_13 : Cond.fieldLink "CallGraphs$Kind" 13 "CallGraphs$Kind" "$VALUES" "[LCallGraphs$Kind;" ∈ gws := gw1 179 ⟨rfl, rfl⟩
theorem sl_G_202 : Cond.fieldLink "CallGraphs" 202 "CallGraphs$Kind" "CLASS" "LCallGraphs$Kind;" ∈ gws := gw2 14 ⟨rfl, rfl⟩
theorem sl_Sort_19 : Cond.fieldLink "CallGraphs$Sort" 19 "CallGraphs$Sort" "$VALUES" "[LCallGraphs$Sort;" ∈ gws := gw2 20 ⟨rfl, rfl⟩
theorem sl_Sort_3 : Cond.fieldLink "CallGraphs$Sort" 3 "CallGraphs$Sort" "PLAIN" "LCallGraphs$Sort;" ∈ gws := gw2 93 ⟨rfl, rfl⟩
theorem sl_Sort_10 : Cond.fieldLink "CallGraphs$Sort" 10 "CallGraphs$Sort" "STATIC" "LCallGraphs$Sort;" ∈ gws := gw2 95 ⟨rfl, rfl⟩
theorem sl_Sort_13 : Cond.fieldLink "CallGraphs$Sort" 13 "CallGraphs$Sort" "PRIVATE" "LCallGraphs$Sort;" ∈ gws := gw2 97 ⟨rfl, rfl⟩
theorem sl_G_253 : Cond.fieldLink "CallGraphs" 253 "CallGraphs$Sort" "NO_BODY" "LCallGraphs$Sort;" ∈ gws := gw2 99 ⟨rfl, rfl⟩
theorem sl_Sort_7 : Cond.fieldLink "CallGraphs$Sort" 7 "CallGraphs$Sort" "NO_BODY" "LCallGraphs$Sort;" ∈ gws := gw3 58 ⟨rfl, rfl⟩
theorem sl_G_72 : Cond.fieldLink "CallGraphs" 72 "CallGraphs$Sort" "PLAIN" "LCallGraphs$Sort;" ∈ gws := gw3 59 ⟨rfl, rfl⟩
theorem sl_G_99 : Cond.fieldLink "CallGraphs" 99 "CallGraphs$Sort" "STATIC" "LCallGraphs$Sort;" ∈ gws := gw3 65 ⟨rfl, rfl⟩
theorem sl_G_102 : Cond.fieldLink "CallGraphs" 102 "CallGraphs$Sort" "PRIVATE" "LCallGraphs$Sort;" ∈ gws := gw3 66 ⟨rfl, rfl⟩
theorem sl_Type_53 : Cond.fieldLink "CallGraphs$Type" 53 "CallGraphs$Sort" "PLAIN" "LCallGraphs$Sort;" ∈ gws := gw3 81 ⟨rfl, rfl⟩
theorem sl_Static_29 : Cond.fieldLink "CallGraphs$Static" 29 "CallGraphs$Sort" "STATIC" "LCallGraphs$Sort;" ∈ gws := gw3 100 ⟨rfl, rfl⟩
theorem lc_Run_84 : Cond.constantLong "CallGraphs$Run" 84 (6364136223846793005 : Int64) ∈ gws := gw3 223 ⟨rfl, rfl⟩
theorem lc_Run_86 : Cond.constantLong "CallGraphs$Run" 86 (1442695040888963407 : Int64) ∈ gws := gw3 224 ⟨rfl, rfl⟩
theorem lc_M_243 : Cond.constantLong "CallGraphsModel" 243 (6364136223846793005 : Int64) ∈ gws := gw5 156 ⟨rfl, rfl⟩
theorem lc_M_245 : Cond.constantLong "CallGraphsModel" 245 (1442695040888963407 : Int64) ∈ gws := gw5 157 ⟨rfl, rfl⟩
theorem lc_Law_78 : Cond.constantLong "CallGraphsLaw" 78 (4294967295 : Int64) ∈ gws := gw5 182 ⟨rfl, rfl⟩
theorem ao_Type : Cond.arrayOver (.object "CallGraphs$Type") ∈ lw_tbl := lw1 27 rfl
theorem ao_Member : Cond.arrayOver (.object "CallGraphs$Member") ∈ lw_tbl := lw1 29 rfl
theorem ac_boolean : Cond.arrayClass .boolean ∈ gws := gw1 89 ⟨rfl, rfl⟩
theorem ac_int : Cond.arrayClass .int ∈ gws := gw1 90 ⟨rfl, rfl⟩
theorem ao_Kind : Cond.arrayOver (.object "CallGraphs$Kind") ∈ lw_tbl := lw1 187 rfl
theorem ao_Sort : Cond.arrayOver (.object "CallGraphs$Sort") ∈ lw_tbl := lw2 26 rfl
theorem ao_Op : Cond.arrayOver (.object "CallGraphs$Op") ∈ lw_tbl := lw2 33 rfl
def ki (P : Int → Hp → Prop) : Option AV → Hp → Prop := fun v h => match v with | some (.inl x) => P x h | _ => False
def kr (P : Nat → Hp → Prop) : Option AV → Hp → Prop := fun v h => match v with | some (.inr (.inl x)) => P x h | _ => False
def kv (P : Hp → Prop) : Option AV → Hp → Prop := fun v h => match v with | none => P h | _ => False
theorem ki_el {P : Int → Hp → Prop} {v : Option AV} {h : Hp} (q : ki P v h) : ∃ x, v = some (vi x) ∧ P x h := by
  unfold ki at q
  split at q
  · exact ⟨_, rfl, q⟩
  · exact q.elim
theorem kr_el {P : Nat → Hp → Prop} {v : Option AV} {h : Hp} (q : kr P v h) : ∃ x, v = some (vr x) ∧ P x h := by
  unfold kr at q
  split at q
  · exact ⟨_, rfl, q⟩
  · exact q.elim
theorem kv_el {P : Hp → Prop} {v : Option AV} {h : Hp} (q : kv P v h) : v = none ∧ P h := by
  unfold kv at q
  split at q
  · exact ⟨rfl, q⟩
  · exact q.elim
section WR
variable {l : Launch} {D : DD} {Y Y' : Meth} {d d' kc ks pc kc1 ks1 kc2 ks2 idx n kd b : Nat} {L L0 : List (Option AV)} {st as stk : List AV} {h : Hp} {Φ : Option AV → Hp → Prop}
theorem b_callV (M : MLv Y.1.cls idx Y' n) (hst : stk = as.reverse ++ vr b :: st) (hd : decode Y.2.1 pc = .ok (.invokevirtual idx, 3)) (hn : as.length = n) (h8 : st8 st = true) (hfl : (flA (vr b :: as)).length ≤ Y'.2.2.1) (hc : cn kd = Y'.1.cls ∧ ((1 ≤ kd ∧ kd ≤ 12) ∨ kd = 30 ∨ kd = 31)) (hL0 : enL Y'.2.2.1 (vr b :: as) = L0) (hdd : d' + 1 ≤ d) (h1 : kc1 + kc2 ≤ kc) (h2 : ks1 + ks2 ≤ ks) (hk : xK h b = kd) (k1 : Ev l D Y' d' kc1 ks1 0 L0 [] h (fun v h' => Ev l D Y d kc2 ks2 (pc + 3) L (v.toList ++ st) h' Φ)) : Ev l D Y d kc ks pc L stk h Φ := by rw [hst]; exact a_callV M hd hn h8 hfl hc hL0 hdd h1 h2 hk k1
theorem b_callN (M : MLn Y.1.cls idx Y' n) (hst : stk = as.reverse ++ vr b :: st) (hd : decode Y.2.1 pc = .ok (.invokevirtual idx, 3)) (hn : as.length = n) (h8 : st8 st = true) (hfl : (flA (vr b :: as)).length ≤ Y'.2.2.1) (hc : cn kd = Y'.1.cls ∧ ((1 ≤ kd ∧ kd ≤ 12) ∨ kd = 30 ∨ kd = 31)) (hL0 : enL Y'.2.2.1 (vr b :: as) = L0) (hdd : d' + 1 ≤ d) (h1 : kc1 + kc2 ≤ kc) (h2 : ks1 + ks2 ≤ ks) (hk : xK h b = kd) (k1 : Ev l D Y' d' kc1 ks1 0 L0 [] h (fun v h' => Ev l D Y d kc2 ks2 (pc + 3) L (v.toList ++ st) h' Φ)) : Ev l D Y d kc ks pc L stk h Φ := by rw [hst]; exact a_callN M hd hn h8 hfl hc hL0 hdd h1 h2 hk k1
theorem b_callI (M : MLi Y.1.cls idx Y' n) (hst : stk = as.reverse ++ vr b :: st) (hd : decode Y.2.1 pc = .ok (.invokespecial idx, 3)) (hn : as.length = n) (h8 : st8 st = true) (hfl : (flA (vr b :: as)).length ≤ Y'.2.2.1) (hL0 : enL Y'.2.2.1 (vr b :: as) = L0) (hdd : d' + 1 ≤ d) (h1 : kc1 + kc2 ≤ kc) (h2 : ks1 + ks2 ≤ ks) (hk : xK h b ≠ 0) (k1 : Ev l D Y' d' kc1 ks1 0 L0 [] h (fun v h' => Ev l D Y d kc2 ks2 (pc + 3) L (v.toList ++ st) h' Φ)) : Ev l D Y d kc ks pc L stk h Φ := by rw [hst]; exact a_callI M hd hn h8 hfl hL0 hdd h1 h2 hk k1
theorem b_callJ (M : MLj Y.1.cls idx Y' n) (hst : stk = as.reverse ++ vr b :: st) (hd : decode Y.2.1 pc = .ok (.invokespecial idx, 3)) (hn : as.length = n) (h8 : st8 st = true) (hfl : (flA (vr b :: as)).length ≤ Y'.2.2.1) (hL0 : enL Y'.2.2.1 (vr b :: as) = L0) (hdd : d' + 1 ≤ d) (h1 : kc1 + kc2 ≤ kc) (h2 : ks1 + ks2 ≤ ks) (hk : xK h b ≠ 0) (k1 : Ev l D Y' d' kc1 ks1 0 L0 [] h (fun v h' => Ev l D Y d kc2 ks2 (pc + 3) L (v.toList ++ st) h' Φ)) : Ev l D Y d kc ks pc L stk h Φ := by rw [hst]; exact a_callJ M hd hn h8 hfl hL0 hdd h1 h2 hk k1
theorem b_callS (M : MLs Y.1.cls idx Y' n) (hst : stk = as.reverse ++ st) (hd : decode Y.2.1 pc = .ok (.invokestatic idx, 3)) (hn : as.length = n) (h8 : st8 st = true) (hfl : (flA as).length ≤ Y'.2.2.1) (hL0 : enL Y'.2.2.1 as = L0) (hdd : d' + 1 ≤ d) (h1 : kc1 + kc2 ≤ kc) (h2 : ks1 + ks2 ≤ ks) (k1 : Ev l D Y' d' kc1 ks1 0 L0 [] h (fun v h' => Ev l D Y d kc2 ks2 (pc + 3) L (v.toList ++ st) h' Φ)) : Ev l D Y d kc ks pc L stk h Φ := by rw [hst]; exact a_callS M hd hn h8 hfl hL0 hdd h1 h2 k1
theorem b_callU {x : MethodName} {owner : String} {S : Nat → Bool} {Yf : Nat → Meth} (M : MLu Y.1.cls idx x owner n) (t : ∀ kd, S kd = true → MLt x kd (Yf kd)) (hst : stk = as.reverse ++ vr b :: st) (hd : decode Y.2.1 pc = .ok (.invokevirtual idx, 3)) (hn : as.length = n) (h8 : st8 st = true) (hfl : ∀ kd, S kd = true → (flA (vr b :: as)).length ≤ (Yf kd).2.2.1) (hdd : d' + 1 ≤ d) (h1 : kc1 + kc2 ≤ kc) (h2 : ks1 + ks2 ≤ ks) (hk : S (xK h b) = true) (k1 : Ev l D (Yf (xK h b)) d' kc1 ks1 0 (enL (Yf (xK h b)).2.2.1 (vr b :: as)) [] h (fun v h' => Ev l D Y d kc2 ks2 (pc + 3) L (v.toList ++ st) h' Φ)) : Ev l D Y d kc ks pc L stk h Φ := by rw [hst]; exact a_callU M t hd hn h8 (hfl _ hk) rfl hdd h1 h2 hk k1
end WR
