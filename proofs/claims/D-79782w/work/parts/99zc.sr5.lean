/-! SR 5 (printed by gen3.py): the law, from its loop on -/
set_option maxRecDepth 100000
def I_L_law : qh_I := (x, code, 7, ret, [])
theorem E_L_law : I_L_law.2.1 = code := rfl
def T_L_law (g : qh_G) (L : Nat) (xs : Nat → Int32) (a1 a2 a3 : Nat) (hp : qc_H) (c : Nat) (K : Int32 → qc_H → Prop) (KX : String → qc_H → Prop) : Prop := ∀ X1 : Int32 → qc_H → Nat → Prop, (∀ (x2 : Int32) (h3 : qc_H) (c4 : Nat), (eSl L (fun v5 => ((v5 - 7) < x2 → K 1 h3) ∧ (¬ (v5 - 7) < x2 → eSx L xs x2 (fun v7 => ((v7 &&& 63) = 0 → eSx L xs (x2 + 1) (fun v8 => eSx L xs (x2 + 2) (fun v9 => eSx L xs (x2 + 3) (fun v10 => eSx L xs (x2 + 4) (fun v11 => eSx L xs (x2 + 5) (fun v12 => eK c4 (fun c14 k13 => T_X0_add g a1 v8 v9 v10 v11 v12 a3 h3 k13 (fun r15 h16 => eSx L xs (x2 + 1) (fun v18 => eSx L xs (x2 + 2) (fun v19 => eSx L xs (x2 + 3) (fun v20 => eSx L xs (x2 + 4) (fun v21 => eSx L xs (x2 + 5) (fun v22 => eC h16 a2 7 (T8_add g a2 v18 v19 v20 v21 v22 h16 (fun r23 h24 => eC h24 a2 7 (T8_thrown g a2 h24 (fun r25 h26 => (r25 = r15 → (¬ r15 = 0 → X1 (x2 + 7) h26 c14) ∧ (r15 = 0 → eLL g.2.2.2.1 h26 a3 0 (fun v29 => ((lg_cmp v29 (Int32.toInt64 r23)) = 0 → X1 (x2 + 7) h26 c14) ∧ (¬ (lg_cmp v29 (Int32.toInt64 r23)) = 0 → K 0 h26)))) ∧ (¬ r25 = r15 → K 0 h26))))))))))) (fun Ez h17 => KX Ez h17)))))))) ∧ ((v7 &&& 63) = 1 → eSx L xs (x2 + 1) (fun v31 => eSx L xs (x2 + 2) (fun v32 => eSx L xs (x2 + 3) (fun v33 => eSx L xs (x2 + 4) (fun v34 => eK c4 (fun c36 k35 => T_X0_change g a1 v31 v32 v33 v34 a3 h3 k35 (fun r37 h38 => eSx L xs (x2 + 1) (fun v40 => eSx L xs (x2 + 2) (fun v41 => eSx L xs (x2 + 3) (fun v42 => eSx L xs (x2 + 4) (fun v43 => eC h38 a2 7 (T8_change g a2 v40 v41 v42 v43 h38 (fun r44 h45 => eC h45 a2 7 (T8_thrown g a2 h45 (fun r46 h47 => (r46 = r37 → (¬ r37 = 0 → X1 (x2 + 7) h47 c36) ∧ (r37 = 0 → eLL g.2.2.2.1 h47 a3 0 (fun v50 => ((lg_cmp v50 (Int32.toInt64 r44)) = 0 → X1 (x2 + 7) h47 c36) ∧ (¬ (lg_cmp v50 (Int32.toInt64 r44)) = 0 → K 0 h47)))) ∧ (¬ r46 = r37 → K 0 h47)))))))))) (fun Ez h39 => KX Ez h39))))))) ∧ ((v7 &&& 63) = 2 → eSx L xs (x2 + 1) (fun v52 => eSx L xs (x2 + 2) (fun v53 => eK c4 (fun c55 k54 => T_X0_remove g a1 v52 v53 a3 h3 k54 (fun r56 h57 => eSx L xs (x2 + 1) (fun v59 => eSx L xs (x2 + 2) (fun v60 => eC h57 a2 7 (T8_remove g a2 v59 v60 h57 (fun r61 h62 => eC h62 a2 7 (T8_thrown g a2 h62 (fun r63 h64 => (r63 = r56 → (¬ r56 = 0 → X1 (x2 + 7) h64 c55) ∧ (r56 = 0 → eLL g.2.2.2.1 h64 a3 0 (fun v67 => ((lg_cmp v67 (Int32.toInt64 r61)) = 0 → X1 (x2 + 7) h64 c55) ∧ (¬ (lg_cmp v67 (Int32.toInt64 r61)) = 0 → K 0 h64)))) ∧ (¬ r63 = r56 → K 0 h64)))))))) (fun Ez h58 => KX Ez h58))))) ∧ ((v7 &&& 63) = 3 → eSx L xs (x2 + 1) (fun v69 => eK c4 (fun c71 k70 => T_X0_count g a1 v69 a3 h3 k70 (fun r72 h73 => eSx L xs (x2 + 1) (fun v75 => eC h73 a2 7 (T8_count g a2 v75 h73 (fun r76 h77 => eC h77 a2 7 (T8_thrown g a2 h77 (fun r78 h79 => (r78 = r72 → (¬ r72 = 0 → X1 (x2 + 7) h79 c71) ∧ (r72 = 0 → eLL g.2.2.2.1 h79 a3 0 (fun v82 => ((lg_cmp v82 (Int32.toInt64 r76)) = 0 → X1 (x2 + 7) h79 c71) ∧ (¬ (lg_cmp v82 (Int32.toInt64 r76)) = 0 → K 0 h79)))) ∧ (¬ r78 = r72 → K 0 h79))))))) (fun Ez h74 => KX Ez h74)))) ∧ ((v7 &&& 63) = 4 → eSx L xs (x2 + 1) (fun v84 => eSx L xs (x2 + 2) (fun v85 => eSx L xs (x2 + 3) (fun v86 => eK c4 (fun c88 k87 => T_X0_cell g a1 v84 v85 v86 a3 h3 k87 (fun r89 h90 => eSx L xs (x2 + 1) (fun v92 => eSx L xs (x2 + 2) (fun v93 => eSx L xs (x2 + 3) (fun v94 => eC h90 a2 7 (T8_cell g a2 v92 v93 v94 h90 (fun r95 h96 => eC h96 a2 7 (T8_thrown g a2 h96 (fun r97 h98 => (r97 = r89 → (¬ r89 = 0 → X1 (x2 + 7) h98 c88) ∧ (r89 = 0 → eLL g.2.2.2.1 h98 a3 0 (fun v101 => ((lg_cmp v101 (Int32.toInt64 r95)) = 0 → X1 (x2 + 7) h98 c88) ∧ (¬ (lg_cmp v101 (Int32.toInt64 r95)) = 0 → K 0 h98)))) ∧ (¬ r97 = r89 → K 0 h98))))))))) (fun Ez h91 => KX Ez h91)))))) ∧ ((v7 &&& 63) = 5 → eC h3 a1 0 (T_X1_losses g a1 h3 (fun r103 => eC h3 a2 7 (T8_losses g a2 h3 (fun r104 h105 => (r103 = r104 → X1 (x2 + 7) h105 c4) ∧ (¬ r103 = r104 → K 0 h105)))))) ∧ ((v7 &&& 63) = 6 → eC h3 a1 0 (T_X1_moment g a1 h3 (fun r107 => eC h3 a2 7 (T8_moment g a2 h3 (fun r108 h109 => (r107 = r108 → X1 (x2 + 7) h109 c4) ∧ (¬ r107 = r108 → K 0 h109)))))) ∧ ((v7 &&& 63) = 7 → eSx L xs (x2 + 1) (fun v111 => eSx L xs (x2 + 2) (fun v112 => eSx L xs (x2 + 3) (fun v113 => eK c4 (fun c115 k114 => T_X0_setPace g a1 v111 v112 v113 a3 h3 k114 (fun r116 h117 => eSx L xs (x2 + 1) (fun v119 => eSx L xs (x2 + 2) (fun v120 => eSx L xs (x2 + 3) (fun v121 => eC h117 a2 7 (T8_setPace g a2 v119 v120 v121 h117 (fun r122 h123 => eC h123 a2 7 (T8_thrown g a2 h123 (fun r124 h125 => (r124 = r116 → (¬ r116 = 0 → X1 (x2 + 7) h125 c115) ∧ (r116 = 0 → eLL g.2.2.2.1 h125 a3 0 (fun v128 => ((lg_cmp v128 (Int32.toInt64 r122)) = 0 → X1 (x2 + 7) h125 c115) ∧ (¬ (lg_cmp v128 (Int32.toInt64 r122)) = 0 → K 0 h125)))) ∧ (¬ r124 = r116 → K 0 h125))))))))) (fun Ez h118 => KX Ez h118)))))) ∧ ((v7 &&& 63) = 8 → eSx L xs (x2 + 1) (fun v130 => eSx L xs (x2 + 2) (fun v131 => eSx L xs (x2 + 3) (fun v132 => eK c4 (fun c134 k133 => T_X0_setBounds g a1 v130 v131 v132 a3 h3 k133 (fun r135 h136 => eSx L xs (x2 + 1) (fun v138 => eSx L xs (x2 + 2) (fun v139 => eSx L xs (x2 + 3) (fun v140 => eC h136 a2 7 (T8_setBounds g a2 v138 v139 v140 h136 (fun r141 h142 => eC h142 a2 7 (T8_thrown g a2 h142 (fun r143 h144 => (r143 = r135 → (¬ r135 = 0 → X1 (x2 + 7) h144 c134) ∧ (r135 = 0 → eLL g.2.2.2.1 h144 a3 0 (fun v147 => ((lg_cmp v147 (Int32.toInt64 r141)) = 0 → X1 (x2 + 7) h144 c134) ∧ (¬ (lg_cmp v147 (Int32.toInt64 r141)) = 0 → K 0 h144)))) ∧ (¬ r143 = r135 → K 0 h144))))))))) (fun Ez h137 => KX Ez h137)))))) ∧ ((v7 &&& 63) = 9 → eSx L xs (x2 + 1) (fun v149 => eSx L xs (x2 + 2) (fun v150 => eK c4 (fun c152 k151 => T_X0_setLease g a1 v149 v150 a3 h3 k151 (fun r153 h154 => eSx L xs (x2 + 1) (fun v156 => eSx L xs (x2 + 2) (fun v157 => eC h154 a2 7 (T8_setLease g a2 v156 v157 h154 (fun r158 h159 => eC h159 a2 7 (T8_thrown g a2 h159 (fun r160 h161 => (r160 = r153 → (¬ r153 = 0 → X1 (x2 + 7) h161 c152) ∧ (r153 = 0 → eLL g.2.2.2.1 h161 a3 0 (fun v164 => ((lg_cmp v164 (Int32.toInt64 r158)) = 0 → X1 (x2 + 7) h161 c152) ∧ (¬ (lg_cmp v164 (Int32.toInt64 r158)) = 0 → K 0 h161)))) ∧ (¬ r160 = r153 → K 0 h161)))))))) (fun Ez h155 => KX Ez h155))))) ∧ ((v7 &&& 63) = 10 → eSx L xs (x2 + 1) (fun v166 => eSx L xs (x2 + 2) (fun v167 => eSx L xs (x2 + 3) (fun v168 => ∀ J170 : Int32 → Prop, (∀ (x171 : Int32), (eK c4 (fun c173 k172 => T_X0_fail g a1 v166 v167 x171 a3 h3 k172 (fun r174 h175 => eSx L xs (x2 + 1) (fun v177 => eSx L xs (x2 + 2) (fun v178 => eSx L xs (x2 + 3) (fun v179 => ∀ J181 : Int32 → Prop, (∀ (x182 : Int32), (eC h175 a2 7 (T8_fail g a2 v177 v178 x182 h175 (fun r183 h184 => eC h184 a2 7 (T8_thrown g a2 h184 (fun r185 h186 => (r185 = r174 → (¬ r174 = 0 → X1 (x2 + 7) h186 c173) ∧ (r174 = 0 → eLL g.2.2.2.1 h186 a3 0 (fun v189 => ((lg_cmp v189 (Int32.toInt64 r183)) = 0 → X1 (x2 + 7) h186 c173) ∧ (¬ (lg_cmp v189 (Int32.toInt64 r183)) = 0 → K 0 h186)))) ∧ (¬ r185 = r174 → K 0 h186)))))) → J181 x182) → (v179 = 0 → J181 0) ∧ (¬ v179 = 0 → J181 1))))) (fun Ez h176 => KX Ez h176))) → J170 x171) → (v168 = 0 → J170 0) ∧ (¬ v168 = 0 → J170 1))))) ∧ ((v7 &&& 63) = 11 → eSx L xs (x2 + 1) (fun v191 => eSx L xs (x2 + 2) (fun v192 => eSx L xs (x2 + 3) (fun v193 => ∀ J195 : Int32 → Prop, (∀ (x196 : Int32), (eK c4 (fun c198 k197 => T_X0_forbid g a1 v191 v192 x196 a3 h3 k197 (fun r199 h200 => eSx L xs (x2 + 1) (fun v202 => eSx L xs (x2 + 2) (fun v203 => eSx L xs (x2 + 3) (fun v204 => ∀ J206 : Int32 → Prop, (∀ (x207 : Int32), (eC h200 a2 7 (T8_forbid g a2 v202 v203 x207 h200 (fun r208 h210 => eC h210 a2 7 (T8_thrown g a2 h210 (fun r211 h212 => (r211 = r199 → (¬ r199 = 0 → X1 (x2 + 7) h212 c198) ∧ (r199 = 0 → eLL g.2.2.2.1 h212 a3 0 (fun v215 => ∀ J217 : Int64 → Prop, (∀ (x218 : Int64), (((lg_cmp v215 x218) = 0 → X1 (x2 + 7) h212 c198) ∧ (¬ (lg_cmp v215 x218) = 0 → K 0 h212)) → J217 x218) → (r208 = 0 → J217 ((0 : Int64))) ∧ (¬ r208 = 0 → J217 ((1 : Int64)))))) ∧ (¬ r211 = r199 → K 0 h212)))))) → J206 x207) → (v204 = 0 → J206 0) ∧ (¬ v204 = 0 → J206 1))))) (fun Ez h201 => KX Ez h201))) → J195 x196) → (v193 = 0 → J195 0) ∧ (¬ v193 = 0 → J195 1))))) ∧ ((v7 &&& 63) = 12 → eSx L xs (x2 + 1) (fun v220 => eK c4 (fun c222 k221 => T_X0_pass g a1 v220 a3 h3 k221 (fun r223 h224 => eSx L xs (x2 + 1) (fun v226 => eC h224 a2 7 (T8_pass g a2 v226 h224 (fun r227 h228 => eC h228 a2 7 (T8_thrown g a2 h228 (fun r229 h230 => (r229 = r223 → (¬ r223 = 0 → X1 (x2 + 7) h230 c222) ∧ (r223 = 0 → eLL g.2.2.2.1 h230 a3 0 (fun v233 => ((lg_cmp v233 (Int32.toInt64 r227)) = 0 → X1 (x2 + 7) h230 c222) ∧ (¬ (lg_cmp v233 (Int32.toInt64 r227)) = 0 → K 0 h230)))) ∧ (¬ r229 = r223 → K 0 h230))))))) (fun Ez h225 => KX Ez h225)))) ∧ ((v7 &&& 63) = 13 → eC h3 a1 0 (T_X1_now g a1 h3 (fun r235 => eC h3 a2 7 (T8_now g a2 h3 (fun r236 h237 => (r235 = r236 → X1 (x2 + 7) h237 c4) ∧ (¬ r235 = r236 → K 0 h237)))))) ∧ ((v7 &&& 63) = 14 → eSx L xs (x2 + 1) (fun v239 => eK c4 (fun c241 k240 => T_X0_seat g a1 v239 a3 h3 k240 (fun r242 h243 => eSx L xs (x2 + 1) (fun v245 => eC h243 a2 7 (T8_seat g a2 v245 h243 (fun r246 h247 => eC h247 a2 7 (T8_thrown g a2 h247 (fun r248 h249 => (r248 = r242 → (¬ r242 = 0 → X1 (x2 + 7) h249 c241) ∧ (r242 = 0 → eLL g.2.2.2.1 h249 a3 0 (fun v252 => ((lg_cmp v252 (Int32.toInt64 r246)) = 0 → X1 (x2 + 7) h249 c241) ∧ (¬ (lg_cmp v252 (Int32.toInt64 r246)) = 0 → K 0 h249)))) ∧ (¬ r248 = r242 → K 0 h249))))))) (fun Ez h244 => KX Ez h244)))) ∧ ((v7 &&& 63) = 15 → eSx L xs (x2 + 1) (fun v254 => eSx L xs (x2 + 2) (fun v255 => eSx L xs (x2 + 3) (fun v256 => eSx L xs (x2 + 4) (fun v257 => eK c4 (fun c259 k258 => T_X0_link g a1 v254 v255 v256 v257 a3 h3 k258 (fun r260 h261 => eSx L xs (x2 + 1) (fun v263 => eSx L xs (x2 + 2) (fun v264 => eSx L xs (x2 + 3) (fun v265 => eSx L xs (x2 + 4) (fun v266 => eC h261 a2 7 (T8_link g a2 v263 v264 v265 v266 h261 (fun r267 h268 => eC h268 a2 7 (T8_thrown g a2 h268 (fun r269 h270 => (r269 = r260 → (¬ r260 = 0 → X1 (x2 + 7) h270 c259) ∧ (r260 = 0 → eLL g.2.2.2.1 h270 a3 0 (fun v273 => ((lg_cmp v273 (Int32.toInt64 r267)) = 0 → X1 (x2 + 7) h270 c259) ∧ (¬ (lg_cmp v273 (Int32.toInt64 r267)) = 0 → K 0 h270)))) ∧ (¬ r269 = r260 → K 0 h270)))))))))) (fun Ez h262 => KX Ez h262))))))) ∧ ((v7 &&& 63) = 16 → eSx L xs (x2 + 1) (fun v275 => eSx L xs (x2 + 2) (fun v276 => eSx L xs (x2 + 3) (fun v277 => eSx L xs (x2 + 4) (fun v278 => eK c4 (fun c280 k279 => T_X0_where g a1 v275 v276 v277 v278 a3 h3 k279 (fun r281 h282 => eSx L xs (x2 + 1) (fun v284 => eSx L xs (x2 + 2) (fun v285 => eSx L xs (x2 + 3) (fun v286 => eSx L xs (x2 + 4) (fun v287 => eC h282 a2 7 (T8_where g a2 v284 v285 v286 v287 h282 (fun r288 h289 => eC h289 a2 7 (T8_thrown g a2 h289 (fun r290 h291 => (r290 = r281 → (¬ r281 = 0 → X1 (x2 + 7) h291 c280) ∧ (r281 = 0 → eLL g.2.2.2.1 h291 a3 0 (fun v294 => ((lg_cmp v294 (Int32.toInt64 r288)) = 0 → X1 (x2 + 7) h291 c280) ∧ (¬ (lg_cmp v294 (Int32.toInt64 r288)) = 0 → K 0 h291)))) ∧ (¬ r290 = r281 → K 0 h291)))))))))) (fun Ez h283 => KX Ez h283))))))) ∧ ((v7 &&& 63) = 17 → eSx L xs (x2 + 1) (fun v296 => eSx L xs (x2 + 2) (fun v297 => eK c4 (fun c299 k298 => T_X0_out g a1 v296 v297 a3 h3 k298 (fun r300 h301 => eSx L xs (x2 + 1) (fun v303 => eSx L xs (x2 + 2) (fun v304 => eC h301 a2 7 (T8_out g a2 v303 v304 h301 (fun r305 h306 => eC h306 a2 7 (T8_thrown g a2 h306 (fun r307 h308 => (r307 = r300 → (¬ r300 = 0 → X1 (x2 + 7) h308 c299) ∧ (r300 = 0 → eLL g.2.2.2.1 h308 a3 0 (fun v311 => ((lg_cmp v311 (Int32.toInt64 r305)) = 0 → X1 (x2 + 7) h308 c299) ∧ (¬ (lg_cmp v311 (Int32.toInt64 r305)) = 0 → K 0 h308)))) ∧ (¬ r307 = r300 → K 0 h308)))))))) (fun Ez h302 => KX Ez h302))))) ∧ ((v7 &&& 63) = 18 → eSx L xs (x2 + 1) (fun v313 => eSx L xs (x2 + 2) (fun v314 => ∀ J316 : Int32 → Prop, (∀ (x317 : Int32), (eK c4 (fun c319 k318 => T_X0_shape g a1 v313 x317 h3 k318 (fun r320 h321 => eSx L xs (x2 + 1) (fun v323 => eSx L xs (x2 + 2) (fun v324 => ∀ J326 : Int32 → Prop, (∀ (x327 : Int32), (eC h321 a2 7 (T8_shape g a2 v323 x327 h321 (fun h328 => eC h328 a2 7 (T8_thrown g a2 h328 (fun r329 h330 => (r329 = r320 → X1 (x2 + 7) h330 c319) ∧ (¬ r329 = r320 → K 0 h330)))))) → J326 x327) → (v324 = 0 → J326 0) ∧ (¬ v324 = 0 → J326 1)))) (fun Ez h322 => KX Ez h322))) → J316 x317) → (v314 = 0 → J316 0) ∧ (¬ v314 = 0 → J316 1)))) ∧ ((v7 &&& 63) = 19 → eC h3 a1 0 (T_X1_clear g a1 h3 (fun r332 h333 => eC h333 a2 7 (T8_clear g a2 h333 (fun r334 h335 => (r332 = r334 → X1 (x2 + 7) h335 c4) ∧ (¬ r332 = r334 → K 0 h335)))))) ∧ ((v7 &&& 63) = 20 → eSx L xs (x2 + 1) (fun v337 => eSx L xs (x2 + 2) (fun v338 => eK c4 (fun c340 k339 => T_X0_ask g a1 v337 v338 a3 h3 k339 (fun r341 h342 => eSx L xs (x2 + 1) (fun v344 => eSx L xs (x2 + 2) (fun v345 => eC h342 a2 7 (T8_ask g a2 v344 v345 h342 (fun r346 h347 => eC h347 a2 7 (T8_thrown g a2 h347 (fun r348 h349 => (r348 = r341 → (¬ r341 = 0 → X1 (x2 + 7) h349 c340) ∧ (r341 = 0 → eLL g.2.2.2.1 h349 a3 0 (fun v352 => ((lg_cmp v352 (Int32.toInt64 r346)) = 0 → X1 (x2 + 7) h349 c340) ∧ (¬ (lg_cmp v352 (Int32.toInt64 r346)) = 0 → K 0 h349)))) ∧ (¬ r348 = r341 → K 0 h349)))))))) (fun Ez h343 => KX Ez h343))))) ∧ ((v7 &&& 63) = 21 → eC h3 a1 0 (T_X1_answers g a1 h3 (fun r354 => eC h3 a2 7 (T8_answers g a2 h3 (fun r355 h356 => (r354 = r355 → X1 (x2 + 7) h356 c4) ∧ (¬ r354 = r355 → K 0 h356)))))) ∧ ((v7 &&& 63) = 22 → eSx L xs (x2 + 1) (fun v358 => eSx L xs (x2 + 2) (fun v359 => eK c4 (fun c361 k360 => T_X0_answer g a1 v358 v359 a3 h3 k360 (fun r362 h363 => eSx L xs (x2 + 1) (fun v365 => eSx L xs (x2 + 2) (fun v366 => eC h363 a2 7 (T8_answer g a2 v365 v366 h363 (fun r367 h368 => eC h368 a2 7 (T8_thrown g a2 h368 (fun r369 h370 => (r369 = r362 → (¬ r362 = 0 → X1 (x2 + 7) h370 c361) ∧ (r362 = 0 → eLL g.2.2.2.1 h370 a3 0 (fun v373 => ((lg_cmp v373 (Int32.toInt64 r367)) = 0 → X1 (x2 + 7) h370 c361) ∧ (¬ (lg_cmp v373 (Int32.toInt64 r367)) = 0 → K 0 h370)))) ∧ (¬ r369 = r362 → K 0 h370)))))))) (fun Ez h364 => KX Ez h364))))) ∧ ((v7 &&& 63) = 23 → eC h3 a1 0 (T_X1_missing g a1 h3 (fun r375 => eC h3 a2 7 (T8_missing g a2 h3 (fun r376 h377 => (r375 = r376 → X1 (x2 + 7) h377 c4) ∧ (¬ r375 = r376 → K 0 h377)))))) ∧ ((v7 &&& 63) = 24 → eC h3 a1 0 (T_X1_claims g a1 h3 (fun r379 => eC h3 a2 7 (T8_claims g a2 h3 (fun r380 h381 => (r379 = r380 → X1 (x2 + 7) h381 c4) ∧ (¬ r379 = r380 → K 0 h381)))))) ∧ ((v7 &&& 63) = 25 → eC h3 a1 0 (T_X1_cost g a1 h3 (fun r383 => eC h3 a2 7 (T8_cost g a2 h3 (fun r384 h385 => (r383 = r384 → X1 (x2 + 7) h385 c4) ∧ (¬ r383 = r384 → K 0 h385)))))) ∧ ((v7 &&& 63) = 26 → eC h3 a1 0 (T_X1_attempts g a1 h3 (fun r387 => eC h3 a2 7 (T8_attempts g a2 h3 (fun r388 h389 => (r387 = r388 → X1 (x2 + 7) h389 c4) ∧ (¬ r387 = r388 → K 0 h389)))))) ∧ ((v7 &&& 63) = 27 → eC h3 a1 0 (T_X1_shipped g a1 h3 (fun r391 => eC h3 a2 7 (T8_shipped g a2 h3 (fun r392 h393 => (r391 = r392 → X1 (x2 + 7) h393 c4) ∧ (¬ r391 = r392 → K 0 h393)))))) ∧ ((v7 &&& 63) = 28 → eSx L xs (x2 + 1) (fun v395 => eK c4 (fun c397 k396 => T_X0_taken g a1 v395 a3 h3 k396 (fun r398 h399 => eSx L xs (x2 + 1) (fun v401 => eC h399 a2 7 (T8_taken g a2 v401 h399 (fun r402 h403 => eC h403 a2 7 (T8_thrown g a2 h403 (fun r404 h405 => (r404 = r398 → (¬ r398 = 0 → X1 (x2 + 7) h405 c397) ∧ (r398 = 0 → eLL g.2.2.2.1 h405 a3 0 (fun v408 => ((lg_cmp v408 (Int32.toInt64 r402)) = 0 → X1 (x2 + 7) h405 c397) ∧ (¬ (lg_cmp v408 (Int32.toInt64 r402)) = 0 → K 0 h405)))) ∧ (¬ r404 = r398 → K 0 h405))))))) (fun Ez h400 => KX Ez h400)))) ∧ ((v7 &&& 63) = 29 → eSx L xs (x2 + 1) (fun v410 => eK c4 (fun c412 k411 => T_X0_size g a1 v410 a3 h3 k411 (fun r413 h414 => eSx L xs (x2 + 1) (fun v416 => eC h414 a2 7 (T8_size g a2 v416 h414 (fun r417 h418 => eC h418 a2 7 (T8_thrown g a2 h418 (fun r419 h420 => (r419 = r413 → (¬ r413 = 0 → X1 (x2 + 7) h420 c412) ∧ (r413 = 0 → eLL g.2.2.2.1 h420 a3 0 (fun v423 => ((lg_cmp v423 (Int32.toInt64 r417)) = 0 → X1 (x2 + 7) h420 c412) ∧ (¬ (lg_cmp v423 (Int32.toInt64 r417)) = 0 → K 0 h420)))) ∧ (¬ r419 = r413 → K 0 h420))))))) (fun Ez h415 => KX Ez h415)))) ∧ ((v7 &&& 63) = 30 → eC h3 a1 0 (T_X1_entries g a1 h3 (fun r425 => eC h3 a2 7 (T8_entries g a2 h3 (fun r426 h427 => (r425 = r426 → X1 (x2 + 7) h427 c4) ∧ (¬ r425 = r426 → K 0 h427)))))) ∧ ((v7 &&& 63) = 31 → eK c4 (fun c430 k429 => T_X0_answersAnew g a1 a3 h3 k429 (fun r431 h432 => eC h432 a2 7 (T8_answersAnew g a2 h432 (fun r434 h435 => eC h435 a2 7 (T8_thrown g a2 h435 (fun r436 h437 => (r436 = r431 → (¬ r431 = 0 → X1 (x2 + 7) h437 c430) ∧ (r431 = 0 → eLL g.2.2.2.1 h437 a3 0 (fun v440 => ((lg_cmp v440 (Int32.toInt64 r434)) = 0 → X1 (x2 + 7) h437 c430) ∧ (¬ (lg_cmp v440 (Int32.toInt64 r434)) = 0 → K 0 h437)))) ∧ (¬ r436 = r431 → K 0 h437)))))) (fun Ez h433 => KX Ez h433))) ∧ ((v7 &&& 63) = 32 → eSx L xs (x2 + 1) (fun v442 => eSx L xs (x2 + 2) (fun v443 => eK c4 (fun c445 k444 => T_X0_answerAnew g a1 v442 v443 a3 h3 k444 (fun r446 h447 => eSx L xs (x2 + 1) (fun v449 => eSx L xs (x2 + 2) (fun v450 => eC h447 a2 7 (T8_answerAnew g a2 v449 v450 h447 (fun r451 h452 => eC h452 a2 7 (T8_thrown g a2 h452 (fun r453 h454 => (r453 = r446 → (¬ r446 = 0 → X1 (x2 + 7) h454 c445) ∧ (r446 = 0 → eLL g.2.2.2.1 h454 a3 0 (fun v457 => ((lg_cmp v457 (Int32.toInt64 r451)) = 0 → X1 (x2 + 7) h454 c445) ∧ (¬ (lg_cmp v457 (Int32.toInt64 r451)) = 0 → K 0 h454)))) ∧ (¬ r453 = r446 → K 0 h454)))))))) (fun Ez h448 => KX Ez h448))))) ∧ ((v7 &&& 63) = 33 → eSx L xs (x2 + 1) (fun v459 => eSx L xs (x2 + 2) (fun v460 => eSx L xs (x2 + 3) (fun v461 => eSx L xs (x2 + 4) (fun v462 => eSx L xs (x2 + 5) (fun v463 => eSx L xs (x2 + 6) (fun v464 => eK c4 (fun c466 k465 => T_X0_step g a1 v459 v460 v461 v462 v463 v464 a3 h3 k465 (fun r467 h468 => eSx L xs (x2 + 1) (fun v470 => eSx L xs (x2 + 2) (fun v471 => eSx L xs (x2 + 3) (fun v472 => eSx L xs (x2 + 4) (fun v473 => eSx L xs (x2 + 5) (fun v474 => eSx L xs (x2 + 6) (fun v475 => eC h468 a2 7 (T8_step g a2 v470 v471 v472 v473 v474 v475 h468 (fun r476 h477 => eC h477 a2 7 (T8_thrown g a2 h477 (fun r478 h479 => (r478 = r467 → (¬ r467 = 0 → X1 (x2 + 7) h479 c466) ∧ (r467 = 0 → eLL g.2.2.2.1 h479 a3 0 (fun v482 => ((lg_cmp v482 (Int32.toInt64 r476)) = 0 → X1 (x2 + 7) h479 c466) ∧ (¬ (lg_cmp v482 (Int32.toInt64 r476)) = 0 → K 0 h479)))) ∧ (¬ r478 = r467 → K 0 h479)))))))))))) (fun Ez h469 => KX Ez h469))))))))) ∧ ((v7 &&& 63) = 34 → eK c4 (fun c485 k484 => T_X0_run g a1 a3 h3 k484 (fun r486 h487 => eC h487 a2 7 (T8_run g a2 h487 (fun r489 h490 => eC h490 a2 7 (T8_thrown g a2 h490 (fun r491 h492 => (r491 = r486 → (¬ r486 = 0 → X1 (x2 + 7) h492 c485) ∧ (r486 = 0 → eLL g.2.2.2.1 h492 a3 0 (fun v495 => ((lg_cmp v495 (Int32.toInt64 r489)) = 0 → X1 (x2 + 7) h492 c485) ∧ (¬ (lg_cmp v495 (Int32.toInt64 r489)) = 0 → K 0 h492)))) ∧ (¬ r491 = r486 → K 0 h492)))))) (fun Ez h488 => KX Ez h488))) ∧ (¬ (v7 &&& 63) = 0 → ¬ (v7 &&& 63) = 1 → ¬ (v7 &&& 63) = 2 → ¬ (v7 &&& 63) = 3 → ¬ (v7 &&& 63) = 4 → ¬ (v7 &&& 63) = 5 → ¬ (v7 &&& 63) = 6 → ¬ (v7 &&& 63) = 7 → ¬ (v7 &&& 63) = 8 → ¬ (v7 &&& 63) = 9 → ¬ (v7 &&& 63) = 10 → ¬ (v7 &&& 63) = 11 → ¬ (v7 &&& 63) = 12 → ¬ (v7 &&& 63) = 13 → ¬ (v7 &&& 63) = 14 → ¬ (v7 &&& 63) = 15 → ¬ (v7 &&& 63) = 16 → ¬ (v7 &&& 63) = 17 → ¬ (v7 &&& 63) = 18 → ¬ (v7 &&& 63) = 19 → ¬ (v7 &&& 63) = 20 → ¬ (v7 &&& 63) = 21 → ¬ (v7 &&& 63) = 22 → ¬ (v7 &&& 63) = 23 → ¬ (v7 &&& 63) = 24 → ¬ (v7 &&& 63) = 25 → ¬ (v7 &&& 63) = 26 → ¬ (v7 &&& 63) = 27 → ¬ (v7 &&& 63) = 28 → ¬ (v7 &&& 63) = 29 → ¬ (v7 &&& 63) = 30 → ¬ (v7 &&& 63) = 31 → ¬ (v7 &&& 63) = 32 → ¬ (v7 &&& 63) = 33 → ¬ (v7 &&& 63) = 34 → X1 (x2 + 7) h3 c4))))) → X1 x2 h3 c4) → X1 0 hp c
set_option maxHeartbeats 16000000 in
theorem C_L_law {g : qh_G} {x9 : qc_X} {d : Nat} {sd : String → Nat → Nat} (hO : qc_O g x9) (hP : qc_P g qp_ts sd) (hX : qw_X g) {a0 L : Nat} {xs : Nat → Int32} (hS : qw_S g a0 L xs) (a1 a2 a3 : Nat) (hp : qc_H) (c : Nat) (K : Int32 → qc_H → Prop) (KX : String → qc_H → Prop) (h : T_L_law g L xs a1 a2 a3 hp c K KX) : qc_wp g x9 (d + 17) c I_L_law 20 [some (.ref a0), some (.ref a1), some (.ref a2), some (.ref a3), none, none, none] [] hp (oX (oZ K) KX) := by
  unfold T_L_law at h
  refine qc_iconst E_L_law 0 (by decide) dL_law_20 ?_
  refine qc_istore E_L_law (by decide) dL_law_21 ?_
  refine h (fun (x2 : Int32) (h3 : qc_H) (c4 : Nat) => qc_wp g x9 (d + 17) c4 I_L_law 23 [some (.ref a0), some (.ref a1), some (.ref a2), some (.ref a3), some (.int x2), none, none] [] h3 (oX (oZ K) KX)) ?_
  clear h
  intro x2 h3 c4 h
  refine qc_iload E_L_law (by rfl) dL_law_23 ?_
  refine qc_aload_n E_L_law (by rfl) dL_law_25 ?_
  refine re_slen E_L_law hS dL_law_26 h ?_
  clear h
  intro v5 h
  refine qc_bipush E_L_law 7 (by decide) dL_law_27 ?_
  refine qc_isub E_L_law dL_law_29 ?_
  refine qc_icmp_gt E_L_law 2122 dL_law_30 (by decide) (fun (c6 : (v5 - 7) < x2) => ?_) (fun (c6 : ¬ (v5 - 7) < x2) => ?_)
  · replace h := h.1 c6
    refine qc_iconst E_L_law 1 (by decide) dL_law_2122 ?_
    exact qc_zret E_L_law rfl (qm_nb (Or.inr rfl)) dL_law_2123 (Or.inl (⟨_, rfl, (Or.inr rfl), h⟩))
  · replace h := h.2 c6
    refine qc_aload_n E_L_law (by rfl) dL_law_33 ?_
    refine qc_iload E_L_law (by rfl) dL_law_34 ?_
    refine re_sald E_L_law hS dL_law_36 h ?_
    clear h
    intro v7 h
    refine qc_bipush E_L_law 63 (by decide) dL_law_37 ?_
    refine qc_iand E_L_law dL_law_39 ?_
    by_cases s0_ : (v7 &&& 63) = 0
    · replace h := h.1 s0_
      refine qc_tableIn E_L_law 196 dL_law_40 (by rw [s0_]; decide) (by rw [s0_]; decide) (by rw [s0_]; rfl) (by decide) ?_
      refine qc_aload_n E_L_law (by rfl) dL_law_196 ?_
      refine qc_aload_n E_L_law (by rfl) dL_law_197 ?_
      refine qc_iload E_L_law (by rfl) dL_law_198 ?_
      refine qc_iconst E_L_law 1 (by decide) dL_law_200 ?_
      refine qc_iadd E_L_law dL_law_201 ?_
      refine re_sald E_L_law hS dL_law_202 h ?_
      clear h
      intro v8 h
      refine qc_aload_n E_L_law (by rfl) dL_law_203 ?_
      refine qc_iload E_L_law (by rfl) dL_law_204 ?_
      refine qc_iconst E_L_law 2 (by decide) dL_law_206 ?_
      refine qc_iadd E_L_law dL_law_207 ?_
      refine re_sald E_L_law hS dL_law_208 h ?_
      clear h
      intro v9 h
      refine qc_aload_n E_L_law (by rfl) dL_law_209 ?_
      refine qc_iload E_L_law (by rfl) dL_law_210 ?_
      refine qc_iconst E_L_law 3 (by decide) dL_law_212 ?_
      refine qc_iadd E_L_law dL_law_213 ?_
      refine re_sald E_L_law hS dL_law_214 h ?_
      clear h
      intro v10 h
      refine qc_aload_n E_L_law (by rfl) dL_law_215 ?_
      refine qc_iload E_L_law (by rfl) dL_law_216 ?_
      refine qc_iconst E_L_law 4 (by decide) dL_law_218 ?_
      refine qc_iadd E_L_law dL_law_219 ?_
      refine re_sald E_L_law hS dL_law_220 h ?_
      clear h
      intro v11 h
      refine qc_aload_n E_L_law (by rfl) dL_law_221 ?_
      refine qc_iload E_L_law (by rfl) dL_law_222 ?_
      refine qc_iconst E_L_law 5 (by decide) dL_law_224 ?_
      refine qc_iadd E_L_law dL_law_225 ?_
      refine re_sald E_L_law hS dL_law_226 h ?_
      clear h
      intro v12 h
      refine qc_aload_n E_L_law (by rfl) dL_law_227 ?_
      obtain ⟨c14, k13, rfl, h⟩ := h
      refine qc_callSX (c := c14) (k := k13) (As := [.ref a1, .int v8, .int v9, .int v10, .int v11, .int v12, .ref a3]) (rest := []) E_L_law rfl M_X0_add rfl q402 q403 rfl rfl (Nat.le_of_ble_eq_true rfl) dL_law_228 (qc_S.mono ?_ (C_X0_add (d := d + 6) hO hP hX a1 v8 v9 v10 v11 v12 a3 h3 k13 _ _ h))
      clear h
      rintro _ tz (hz | hz)
      · revert tz; rintro h16 ⟨r15, rfl, h⟩
        refine K1_i ?_
        refine qc_istore E_L_law (by decide) dL_law_231 ?_
        refine qc_aload_n E_L_law (by rfl) dL_law_233 ?_
        refine qc_aload_n E_L_law (by rfl) dL_law_234 ?_
        refine qc_iload E_L_law (by rfl) dL_law_235 ?_
        refine qc_iconst E_L_law 1 (by decide) dL_law_237 ?_
        refine qc_iadd E_L_law dL_law_238 ?_
        refine re_sald E_L_law hS dL_law_239 h ?_
        clear h
        intro v18 h
        refine qc_aload_n E_L_law (by rfl) dL_law_240 ?_
        refine qc_iload E_L_law (by rfl) dL_law_241 ?_
        refine qc_iconst E_L_law 2 (by decide) dL_law_243 ?_
        refine qc_iadd E_L_law dL_law_244 ?_
        refine re_sald E_L_law hS dL_law_245 h ?_
        clear h
        intro v19 h
        refine qc_aload_n E_L_law (by rfl) dL_law_246 ?_
        refine qc_iload E_L_law (by rfl) dL_law_247 ?_
        refine qc_iconst E_L_law 3 (by decide) dL_law_249 ?_
        refine qc_iadd E_L_law dL_law_250 ?_
        refine re_sald E_L_law hS dL_law_251 h ?_
        clear h
        intro v20 h
        refine qc_aload_n E_L_law (by rfl) dL_law_252 ?_
        refine qc_iload E_L_law (by rfl) dL_law_253 ?_
        refine qc_iconst E_L_law 4 (by decide) dL_law_255 ?_
        refine qc_iadd E_L_law dL_law_256 ?_
        refine re_sald E_L_law hS dL_law_257 h ?_
        clear h
        intro v21 h
        refine qc_aload_n E_L_law (by rfl) dL_law_258 ?_
        refine qc_iload E_L_law (by rfl) dL_law_259 ?_
        refine qc_iconst E_L_law 5 (by decide) dL_law_261 ?_
        refine qc_iadd E_L_law dL_law_262 ?_
        refine re_sald E_L_law hS dL_law_263 h ?_
        clear h
        intro v22 h
        obtain ⟨⟨fz, hb⟩, h⟩ := h
        refine qc_callV (c := c14) (k := 0) (As := [.int v18, .int v19, .int v20, .int v21, .int v22]) (rest := []) hO E_L_law rfl M_X8_add rfl q1944 q1945 q1946 (ci := 7) rfl rfl hb rfl rfl (Nat.le_of_ble_eq_true rfl) dL_law_264 (qc_S.mono ?_ (C8_add (d := d + 11) hO hP a2 v18 v19 v20 v21 v22 h16 _ h))
        clear h
        clear hb
        rintro _ h24 ⟨r23, rfl, h⟩
        refine K1_i ?_
        refine qc_istore E_L_law (by decide) dL_law_267 ?_
        refine qc_aload_n E_L_law (by rfl) dL_law_269 ?_
        obtain ⟨⟨fz, hb⟩, h⟩ := h
        refine qc_callV (c := c14) (k := 0) (As := []) (rest := []) hO E_L_law rfl M_X8_thrown rfl q1940 q1941 q1942 (ci := 7) rfl rfl hb rfl rfl (Nat.le_of_ble_eq_true rfl) dL_law_270 (qc_S.mono ?_ (C8_thrown (d := d + 16) hO hP a2 h24 _ h))
        clear h
        clear hb
        rintro _ h26 ⟨r25, rfl, h⟩
        refine K1_i ?_
        refine qc_iload E_L_law (by rfl) dL_law_273 ?_
        refine qc_icmp_eq E_L_law 280 dL_law_275 (by decide) (fun (c27 : r25 = r15) => ?_) (fun (c27 : ¬ r25 = r15) => ?_)
        · replace h := h.1 c27
          refine qc_iload E_L_law (by rfl) dL_law_280 ?_
          refine qc_if_ne E_L_law 297 dL_law_282 (by decide) (fun (c28 : ¬ r15 = 0) => ?_) (fun (c28 : r15 = 0) => ?_)
          · replace h := h.1 c28
            refine qc_goto E_L_law 2116 dL_law_297 (by decide) ?_
            refine qc_iinc E_L_law 7 rfl (by decide) (by decide) dL_law_2116 ?_
            refine qc_goto E_L_law 23 dL_law_2119 (by decide) ?_
            refine qc_drop 5 ?_
            refine qc_drop 6 ?_
            exact h
          · replace h := h.2 c28
            refine qc_aload_n E_L_law (by rfl) dL_law_285 ?_
            refine qc_iconst E_L_law 0 (by decide) dL_law_286 ?_
            refine re_lald E_L_law dL_law_287 h ?_
            clear h
            intro v29 h
            refine qc_iload E_L_law (by rfl) dL_law_288 ?_
            refine qc_i2l E_L_law dL_law_290 ?_
            refine qc_lcmp E_L_law dL_law_291 ?_
            refine qc_if_eq E_L_law 297 dL_law_292 (by decide) (fun (c30 : (lg_cmp v29 (Int32.toInt64 r23)) = 0) => ?_) (fun (c30 : ¬ (lg_cmp v29 (Int32.toInt64 r23)) = 0) => ?_)
            · replace h := h.1 c30
              refine qc_goto E_L_law 2116 dL_law_297 (by decide) ?_
              refine qc_iinc E_L_law 7 rfl (by decide) (by decide) dL_law_2116 ?_
              refine qc_goto E_L_law 23 dL_law_2119 (by decide) ?_
              refine qc_drop 5 ?_
              refine qc_drop 6 ?_
              exact h
            · replace h := h.2 c30
              refine qc_iconst E_L_law 0 (by decide) dL_law_295 ?_
              exact qc_zret E_L_law rfl (qm_nb (Or.inl rfl)) dL_law_296 (Or.inl (⟨_, rfl, (Or.inl rfl), h⟩))
        · replace h := h.2 c27
          refine qc_iconst E_L_law 0 (by decide) dL_law_278 ?_
          exact qc_zret E_L_law rfl (qm_nb (Or.inl rfl)) dL_law_279 (Or.inl (⟨_, rfl, (Or.inl rfl), h⟩))
      · revert tz; rintro h17 ⟨Ez, rfl, h⟩
        refine K1_x ?_
        exact qc_out (by decide) (Or.inr ⟨_, rfl, h⟩)
    by_cases s1_ : (v7 &&& 63) = 1
    · replace h := h.2.1 s1_
      refine qc_tableIn E_L_law 300 dL_law_40 (by rw [s1_]; decide) (by rw [s1_]; decide) (by rw [s1_]; rfl) (by decide) ?_
      refine qc_aload_n E_L_law (by rfl) dL_law_300 ?_
      refine qc_aload_n E_L_law (by rfl) dL_law_301 ?_
      refine qc_iload E_L_law (by rfl) dL_law_302 ?_
      refine qc_iconst E_L_law 1 (by decide) dL_law_304 ?_
      refine qc_iadd E_L_law dL_law_305 ?_
      refine re_sald E_L_law hS dL_law_306 h ?_
      clear h
      intro v31 h
      refine qc_aload_n E_L_law (by rfl) dL_law_307 ?_
      refine qc_iload E_L_law (by rfl) dL_law_308 ?_
      refine qc_iconst E_L_law 2 (by decide) dL_law_310 ?_
      refine qc_iadd E_L_law dL_law_311 ?_
      refine re_sald E_L_law hS dL_law_312 h ?_
      clear h
      intro v32 h
      refine qc_aload_n E_L_law (by rfl) dL_law_313 ?_
      refine qc_iload E_L_law (by rfl) dL_law_314 ?_
      refine qc_iconst E_L_law 3 (by decide) dL_law_316 ?_
      refine qc_iadd E_L_law dL_law_317 ?_
      refine re_sald E_L_law hS dL_law_318 h ?_
      clear h
      intro v33 h
      refine qc_aload_n E_L_law (by rfl) dL_law_319 ?_
      refine qc_iload E_L_law (by rfl) dL_law_320 ?_
      refine qc_iconst E_L_law 4 (by decide) dL_law_322 ?_
      refine qc_iadd E_L_law dL_law_323 ?_
      refine re_sald E_L_law hS dL_law_324 h ?_
      clear h
      intro v34 h
      refine qc_aload_n E_L_law (by rfl) dL_law_325 ?_
      obtain ⟨c36, k35, rfl, h⟩ := h
      refine qc_callSX (c := c36) (k := k35) (As := [.ref a1, .int v31, .int v32, .int v33, .int v34, .ref a3]) (rest := []) E_L_law rfl M_X0_change rfl q1027 q1028 rfl rfl (Nat.le_of_ble_eq_true rfl) dL_law_326 (qc_S.mono ?_ (C_X0_change (d := d + 5) hO hP hX a1 v31 v32 v33 v34 a3 h3 k35 _ _ h))
      clear h
      rintro _ tz (hz | hz)
      · revert tz; rintro h38 ⟨r37, rfl, h⟩
        refine K1_i ?_
        refine qc_istore E_L_law (by decide) dL_law_329 ?_
        refine qc_aload_n E_L_law (by rfl) dL_law_331 ?_
        refine qc_aload_n E_L_law (by rfl) dL_law_332 ?_
        refine qc_iload E_L_law (by rfl) dL_law_333 ?_
        refine qc_iconst E_L_law 1 (by decide) dL_law_335 ?_
        refine qc_iadd E_L_law dL_law_336 ?_
        refine re_sald E_L_law hS dL_law_337 h ?_
        clear h
        intro v40 h
        refine qc_aload_n E_L_law (by rfl) dL_law_338 ?_
        refine qc_iload E_L_law (by rfl) dL_law_339 ?_
        refine qc_iconst E_L_law 2 (by decide) dL_law_341 ?_
        refine qc_iadd E_L_law dL_law_342 ?_
        refine re_sald E_L_law hS dL_law_343 h ?_
        clear h
        intro v41 h
        refine qc_aload_n E_L_law (by rfl) dL_law_344 ?_
        refine qc_iload E_L_law (by rfl) dL_law_345 ?_
        refine qc_iconst E_L_law 3 (by decide) dL_law_347 ?_
        refine qc_iadd E_L_law dL_law_348 ?_
        refine re_sald E_L_law hS dL_law_349 h ?_
        clear h
        intro v42 h
        refine qc_aload_n E_L_law (by rfl) dL_law_350 ?_
        refine qc_iload E_L_law (by rfl) dL_law_351 ?_
        refine qc_iconst E_L_law 4 (by decide) dL_law_353 ?_
        refine qc_iadd E_L_law dL_law_354 ?_
        refine re_sald E_L_law hS dL_law_355 h ?_
        clear h
        intro v43 h
        obtain ⟨⟨fz, hb⟩, h⟩ := h
        refine qc_callV (c := c36) (k := 0) (As := [.int v40, .int v41, .int v42, .int v43]) (rest := []) hO E_L_law rfl M_X8_change rfl q1998 q1999 q2000 (ci := 7) rfl rfl hb rfl rfl (Nat.le_of_ble_eq_true rfl) dL_law_356 (qc_S.mono ?_ (C8_change (d := d + 12) hO hP a2 v40 v41 v42 v43 h38 _ h))
        clear h
        clear hb
        rintro _ h45 ⟨r44, rfl, h⟩
        refine K1_i ?_
        refine qc_istore E_L_law (by decide) dL_law_359 ?_
        refine qc_aload_n E_L_law (by rfl) dL_law_361 ?_
        obtain ⟨⟨fz, hb⟩, h⟩ := h
        refine qc_callV (c := c36) (k := 0) (As := []) (rest := []) hO E_L_law rfl M_X8_thrown rfl q1940 q1941 q1942 (ci := 7) rfl rfl hb rfl rfl (Nat.le_of_ble_eq_true rfl) dL_law_362 (qc_S.mono ?_ (C8_thrown (d := d + 16) hO hP a2 h45 _ h))
        clear h
        clear hb
        rintro _ h47 ⟨r46, rfl, h⟩
        refine K1_i ?_
        refine qc_iload E_L_law (by rfl) dL_law_365 ?_
        refine qc_icmp_eq E_L_law 372 dL_law_367 (by decide) (fun (c48 : r46 = r37) => ?_) (fun (c48 : ¬ r46 = r37) => ?_)
        · replace h := h.1 c48
          refine qc_iload E_L_law (by rfl) dL_law_372 ?_
          refine qc_if_ne E_L_law 389 dL_law_374 (by decide) (fun (c49 : ¬ r37 = 0) => ?_) (fun (c49 : r37 = 0) => ?_)
          · replace h := h.1 c49
            refine qc_goto E_L_law 2116 dL_law_389 (by decide) ?_
            refine qc_iinc E_L_law 7 rfl (by decide) (by decide) dL_law_2116 ?_
            refine qc_goto E_L_law 23 dL_law_2119 (by decide) ?_
            refine qc_drop 5 ?_
            refine qc_drop 6 ?_
            exact h
          · replace h := h.2 c49
            refine qc_aload_n E_L_law (by rfl) dL_law_377 ?_
            refine qc_iconst E_L_law 0 (by decide) dL_law_378 ?_
            refine re_lald E_L_law dL_law_379 h ?_
            clear h
            intro v50 h
            refine qc_iload E_L_law (by rfl) dL_law_380 ?_
            refine qc_i2l E_L_law dL_law_382 ?_
            refine qc_lcmp E_L_law dL_law_383 ?_
            refine qc_if_eq E_L_law 389 dL_law_384 (by decide) (fun (c51 : (lg_cmp v50 (Int32.toInt64 r44)) = 0) => ?_) (fun (c51 : ¬ (lg_cmp v50 (Int32.toInt64 r44)) = 0) => ?_)
            · replace h := h.1 c51
              refine qc_goto E_L_law 2116 dL_law_389 (by decide) ?_
              refine qc_iinc E_L_law 7 rfl (by decide) (by decide) dL_law_2116 ?_
              refine qc_goto E_L_law 23 dL_law_2119 (by decide) ?_
              refine qc_drop 5 ?_
              refine qc_drop 6 ?_
              exact h
            · replace h := h.2 c51
              refine qc_iconst E_L_law 0 (by decide) dL_law_387 ?_
              exact qc_zret E_L_law rfl (qm_nb (Or.inl rfl)) dL_law_388 (Or.inl (⟨_, rfl, (Or.inl rfl), h⟩))
        · replace h := h.2 c48
          refine qc_iconst E_L_law 0 (by decide) dL_law_370 ?_
          exact qc_zret E_L_law rfl (qm_nb (Or.inl rfl)) dL_law_371 (Or.inl (⟨_, rfl, (Or.inl rfl), h⟩))
      · revert tz; rintro h39 ⟨Ez, rfl, h⟩
        refine K1_x ?_
        exact qc_out (by decide) (Or.inr ⟨_, rfl, h⟩)
    by_cases s2_ : (v7 &&& 63) = 2
    · replace h := h.2.2.1 s2_
      refine qc_tableIn E_L_law 392 dL_law_40 (by rw [s2_]; decide) (by rw [s2_]; decide) (by rw [s2_]; rfl) (by decide) ?_
      refine qc_aload_n E_L_law (by rfl) dL_law_392 ?_
      refine qc_aload_n E_L_law (by rfl) dL_law_393 ?_
      refine qc_iload E_L_law (by rfl) dL_law_394 ?_
      refine qc_iconst E_L_law 1 (by decide) dL_law_396 ?_
      refine qc_iadd E_L_law dL_law_397 ?_
      refine re_sald E_L_law hS dL_law_398 h ?_
      clear h
      intro v52 h
      refine qc_aload_n E_L_law (by rfl) dL_law_399 ?_
      refine qc_iload E_L_law (by rfl) dL_law_400 ?_
      refine qc_iconst E_L_law 2 (by decide) dL_law_402 ?_
      refine qc_iadd E_L_law dL_law_403 ?_
      refine re_sald E_L_law hS dL_law_404 h ?_
      clear h
      intro v53 h
      refine qc_aload_n E_L_law (by rfl) dL_law_405 ?_
      obtain ⟨c55, k54, rfl, h⟩ := h
      refine qc_callSX (c := c55) (k := k54) (As := [.ref a1, .int v52, .int v53, .ref a3]) (rest := []) E_L_law rfl M_X0_remove rfl q1066 q1067 rfl rfl (Nat.le_of_ble_eq_true rfl) dL_law_406 (qc_S.mono ?_ (C_X0_remove (d := d + 6) hO hP hX a1 v52 v53 a3 h3 k54 _ _ h))
      clear h
      rintro _ tz (hz | hz)
      · revert tz; rintro h57 ⟨r56, rfl, h⟩
        refine K1_i ?_
        refine qc_istore E_L_law (by decide) dL_law_409 ?_
        refine qc_aload_n E_L_law (by rfl) dL_law_411 ?_
        refine qc_aload_n E_L_law (by rfl) dL_law_412 ?_
        refine qc_iload E_L_law (by rfl) dL_law_413 ?_
        refine qc_iconst E_L_law 1 (by decide) dL_law_415 ?_
        refine qc_iadd E_L_law dL_law_416 ?_
        refine re_sald E_L_law hS dL_law_417 h ?_
        clear h
        intro v59 h
        refine qc_aload_n E_L_law (by rfl) dL_law_418 ?_
        refine qc_iload E_L_law (by rfl) dL_law_419 ?_
        refine qc_iconst E_L_law 2 (by decide) dL_law_421 ?_
        refine qc_iadd E_L_law dL_law_422 ?_
        refine re_sald E_L_law hS dL_law_423 h ?_
        clear h
        intro v60 h
        obtain ⟨⟨fz, hb⟩, h⟩ := h
        refine qc_callV (c := c55) (k := 0) (As := [.int v59, .int v60]) (rest := []) hO E_L_law rfl M_X8_remove rfl q2010 q2011 q2012 (ci := 7) rfl rfl hb rfl rfl (Nat.le_of_ble_eq_true rfl) dL_law_424 (qc_S.mono ?_ (C8_remove (d := d + 12) hO hP a2 v59 v60 h57 _ h))
        clear h
        clear hb
        rintro _ h62 ⟨r61, rfl, h⟩
        refine K1_i ?_
        refine qc_istore E_L_law (by decide) dL_law_427 ?_
        refine qc_aload_n E_L_law (by rfl) dL_law_429 ?_
        obtain ⟨⟨fz, hb⟩, h⟩ := h
        refine qc_callV (c := c55) (k := 0) (As := []) (rest := []) hO E_L_law rfl M_X8_thrown rfl q1940 q1941 q1942 (ci := 7) rfl rfl hb rfl rfl (Nat.le_of_ble_eq_true rfl) dL_law_430 (qc_S.mono ?_ (C8_thrown (d := d + 16) hO hP a2 h62 _ h))
        clear h
        clear hb
        rintro _ h64 ⟨r63, rfl, h⟩
        refine K1_i ?_
        refine qc_iload E_L_law (by rfl) dL_law_433 ?_
        refine qc_icmp_eq E_L_law 440 dL_law_435 (by decide) (fun (c65 : r63 = r56) => ?_) (fun (c65 : ¬ r63 = r56) => ?_)
        · replace h := h.1 c65
          refine qc_iload E_L_law (by rfl) dL_law_440 ?_
          refine qc_if_ne E_L_law 457 dL_law_442 (by decide) (fun (c66 : ¬ r56 = 0) => ?_) (fun (c66 : r56 = 0) => ?_)
          · replace h := h.1 c66
            refine qc_goto E_L_law 2116 dL_law_457 (by decide) ?_
            refine qc_iinc E_L_law 7 rfl (by decide) (by decide) dL_law_2116 ?_
            refine qc_goto E_L_law 23 dL_law_2119 (by decide) ?_
            refine qc_drop 5 ?_
            refine qc_drop 6 ?_
            exact h
          · replace h := h.2 c66
            refine qc_aload_n E_L_law (by rfl) dL_law_445 ?_
            refine qc_iconst E_L_law 0 (by decide) dL_law_446 ?_
            refine re_lald E_L_law dL_law_447 h ?_
            clear h
            intro v67 h
            refine qc_iload E_L_law (by rfl) dL_law_448 ?_
            refine qc_i2l E_L_law dL_law_450 ?_
            refine qc_lcmp E_L_law dL_law_451 ?_
            refine qc_if_eq E_L_law 457 dL_law_452 (by decide) (fun (c68 : (lg_cmp v67 (Int32.toInt64 r61)) = 0) => ?_) (fun (c68 : ¬ (lg_cmp v67 (Int32.toInt64 r61)) = 0) => ?_)
            · replace h := h.1 c68
              refine qc_goto E_L_law 2116 dL_law_457 (by decide) ?_
              refine qc_iinc E_L_law 7 rfl (by decide) (by decide) dL_law_2116 ?_
              refine qc_goto E_L_law 23 dL_law_2119 (by decide) ?_
              refine qc_drop 5 ?_
              refine qc_drop 6 ?_
              exact h
            · replace h := h.2 c68
              refine qc_iconst E_L_law 0 (by decide) dL_law_455 ?_
              exact qc_zret E_L_law rfl (qm_nb (Or.inl rfl)) dL_law_456 (Or.inl (⟨_, rfl, (Or.inl rfl), h⟩))
        · replace h := h.2 c65
          refine qc_iconst E_L_law 0 (by decide) dL_law_438 ?_
          exact qc_zret E_L_law rfl (qm_nb (Or.inl rfl)) dL_law_439 (Or.inl (⟨_, rfl, (Or.inl rfl), h⟩))
      · revert tz; rintro h58 ⟨Ez, rfl, h⟩
        refine K1_x ?_
        exact qc_out (by decide) (Or.inr ⟨_, rfl, h⟩)
    by_cases s3_ : (v7 &&& 63) = 3
    · replace h := h.2.2.2.1 s3_
      refine qc_tableIn E_L_law 460 dL_law_40 (by rw [s3_]; decide) (by rw [s3_]; decide) (by rw [s3_]; rfl) (by decide) ?_
      refine qc_aload_n E_L_law (by rfl) dL_law_460 ?_
      refine qc_aload_n E_L_law (by rfl) dL_law_461 ?_
      refine qc_iload E_L_law (by rfl) dL_law_462 ?_
      refine qc_iconst E_L_law 1 (by decide) dL_law_464 ?_
      refine qc_iadd E_L_law dL_law_465 ?_
      refine re_sald E_L_law hS dL_law_466 h ?_
      clear h
      intro v69 h
      refine qc_aload_n E_L_law (by rfl) dL_law_467 ?_
      obtain ⟨c71, k70, rfl, h⟩ := h
      refine qc_callSX (c := c71) (k := k70) (As := [.ref a1, .int v69, .ref a3]) (rest := []) E_L_law rfl M_X0_count rfl q1073 q1074 rfl rfl (Nat.le_of_ble_eq_true rfl) dL_law_468 (qc_S.mono ?_ (C_X0_count (d := d + 9) hO hP hX a1 v69 a3 h3 k70 _ _ h))
      clear h
      rintro _ tz (hz | hz)
      · revert tz; rintro h73 ⟨r72, rfl, h⟩
        refine K1_i ?_
        refine qc_istore E_L_law (by decide) dL_law_471 ?_
        refine qc_aload_n E_L_law (by rfl) dL_law_473 ?_
        refine qc_aload_n E_L_law (by rfl) dL_law_474 ?_
        refine qc_iload E_L_law (by rfl) dL_law_475 ?_
        refine qc_iconst E_L_law 1 (by decide) dL_law_477 ?_
        refine qc_iadd E_L_law dL_law_478 ?_
        refine re_sald E_L_law hS dL_law_479 h ?_
        clear h
        intro v75 h
        obtain ⟨⟨fz, hb⟩, h⟩ := h
        refine qc_callV (c := c71) (k := 0) (As := [.int v75]) (rest := []) hO E_L_law rfl M_X8_count rfl q2018 q2019 q2020 (ci := 7) rfl rfl hb rfl rfl (Nat.le_of_ble_eq_true rfl) dL_law_480 (qc_S.mono ?_ (C8_count (d := d + 14) hO hP a2 v75 h73 _ h))
        clear h
        clear hb
        rintro _ h77 ⟨r76, rfl, h⟩
        refine K1_i ?_
        refine qc_istore E_L_law (by decide) dL_law_483 ?_
        refine qc_aload_n E_L_law (by rfl) dL_law_485 ?_
        obtain ⟨⟨fz, hb⟩, h⟩ := h
        refine qc_callV (c := c71) (k := 0) (As := []) (rest := []) hO E_L_law rfl M_X8_thrown rfl q1940 q1941 q1942 (ci := 7) rfl rfl hb rfl rfl (Nat.le_of_ble_eq_true rfl) dL_law_486 (qc_S.mono ?_ (C8_thrown (d := d + 16) hO hP a2 h77 _ h))
        clear h
        clear hb
        rintro _ h79 ⟨r78, rfl, h⟩
        refine K1_i ?_
        refine qc_iload E_L_law (by rfl) dL_law_489 ?_
        refine qc_icmp_eq E_L_law 496 dL_law_491 (by decide) (fun (c80 : r78 = r72) => ?_) (fun (c80 : ¬ r78 = r72) => ?_)
        · replace h := h.1 c80
          refine qc_iload E_L_law (by rfl) dL_law_496 ?_
          refine qc_if_ne E_L_law 513 dL_law_498 (by decide) (fun (c81 : ¬ r72 = 0) => ?_) (fun (c81 : r72 = 0) => ?_)
          · replace h := h.1 c81
            refine qc_goto E_L_law 2116 dL_law_513 (by decide) ?_
            refine qc_iinc E_L_law 7 rfl (by decide) (by decide) dL_law_2116 ?_
            refine qc_goto E_L_law 23 dL_law_2119 (by decide) ?_
            refine qc_drop 5 ?_
            refine qc_drop 6 ?_
            exact h
          · replace h := h.2 c81
            refine qc_aload_n E_L_law (by rfl) dL_law_501 ?_
            refine qc_iconst E_L_law 0 (by decide) dL_law_502 ?_
            refine re_lald E_L_law dL_law_503 h ?_
            clear h
            intro v82 h
            refine qc_iload E_L_law (by rfl) dL_law_504 ?_
            refine qc_i2l E_L_law dL_law_506 ?_
            refine qc_lcmp E_L_law dL_law_507 ?_
            refine qc_if_eq E_L_law 513 dL_law_508 (by decide) (fun (c83 : (lg_cmp v82 (Int32.toInt64 r76)) = 0) => ?_) (fun (c83 : ¬ (lg_cmp v82 (Int32.toInt64 r76)) = 0) => ?_)
            · replace h := h.1 c83
              refine qc_goto E_L_law 2116 dL_law_513 (by decide) ?_
              refine qc_iinc E_L_law 7 rfl (by decide) (by decide) dL_law_2116 ?_
              refine qc_goto E_L_law 23 dL_law_2119 (by decide) ?_
              refine qc_drop 5 ?_
              refine qc_drop 6 ?_
              exact h
            · replace h := h.2 c83
              refine qc_iconst E_L_law 0 (by decide) dL_law_511 ?_
              exact qc_zret E_L_law rfl (qm_nb (Or.inl rfl)) dL_law_512 (Or.inl (⟨_, rfl, (Or.inl rfl), h⟩))
        · replace h := h.2 c80
          refine qc_iconst E_L_law 0 (by decide) dL_law_494 ?_
          exact qc_zret E_L_law rfl (qm_nb (Or.inl rfl)) dL_law_495 (Or.inl (⟨_, rfl, (Or.inl rfl), h⟩))
      · revert tz; rintro h74 ⟨Ez, rfl, h⟩
        refine K1_x ?_
        exact qc_out (by decide) (Or.inr ⟨_, rfl, h⟩)
    by_cases s4_ : (v7 &&& 63) = 4
    · replace h := h.2.2.2.2.1 s4_
      refine qc_tableIn E_L_law 516 dL_law_40 (by rw [s4_]; decide) (by rw [s4_]; decide) (by rw [s4_]; rfl) (by decide) ?_
      refine qc_aload_n E_L_law (by rfl) dL_law_516 ?_
      refine qc_aload_n E_L_law (by rfl) dL_law_517 ?_
      refine qc_iload E_L_law (by rfl) dL_law_518 ?_
      refine qc_iconst E_L_law 1 (by decide) dL_law_520 ?_
      refine qc_iadd E_L_law dL_law_521 ?_
      refine re_sald E_L_law hS dL_law_522 h ?_
      clear h
      intro v84 h
      refine qc_aload_n E_L_law (by rfl) dL_law_523 ?_
      refine qc_iload E_L_law (by rfl) dL_law_524 ?_
      refine qc_iconst E_L_law 2 (by decide) dL_law_526 ?_
      refine qc_iadd E_L_law dL_law_527 ?_
      refine re_sald E_L_law hS dL_law_528 h ?_
      clear h
      intro v85 h
      refine qc_aload_n E_L_law (by rfl) dL_law_529 ?_
      refine qc_iload E_L_law (by rfl) dL_law_530 ?_
      refine qc_iconst E_L_law 3 (by decide) dL_law_532 ?_
      refine qc_iadd E_L_law dL_law_533 ?_
      refine re_sald E_L_law hS dL_law_534 h ?_
      clear h
      intro v86 h
      refine qc_aload_n E_L_law (by rfl) dL_law_535 ?_
      obtain ⟨c88, k87, rfl, h⟩ := h
      refine qc_callSX (c := c88) (k := k87) (As := [.ref a1, .int v84, .int v85, .int v86, .ref a3]) (rest := []) E_L_law rfl M_X0_cell rfl q1080 q1081 rfl rfl (Nat.le_of_ble_eq_true rfl) dL_law_536 (qc_S.mono ?_ (C_X0_cell (d := d + 7) hO hP hX a1 v84 v85 v86 a3 h3 k87 _ _ h))
      clear h
      rintro _ tz (hz | hz)
      · revert tz; rintro h90 ⟨r89, rfl, h⟩
        refine K1_i ?_
        refine qc_istore E_L_law (by decide) dL_law_539 ?_
        refine qc_aload_n E_L_law (by rfl) dL_law_541 ?_
        refine qc_aload_n E_L_law (by rfl) dL_law_542 ?_
        refine qc_iload E_L_law (by rfl) dL_law_543 ?_
        refine qc_iconst E_L_law 1 (by decide) dL_law_545 ?_
        refine qc_iadd E_L_law dL_law_546 ?_
        refine re_sald E_L_law hS dL_law_547 h ?_
        clear h
        intro v92 h
        refine qc_aload_n E_L_law (by rfl) dL_law_548 ?_
        refine qc_iload E_L_law (by rfl) dL_law_549 ?_
        refine qc_iconst E_L_law 2 (by decide) dL_law_551 ?_
        refine qc_iadd E_L_law dL_law_552 ?_
        refine re_sald E_L_law hS dL_law_553 h ?_
        clear h
        intro v93 h
        refine qc_aload_n E_L_law (by rfl) dL_law_554 ?_
        refine qc_iload E_L_law (by rfl) dL_law_555 ?_
        refine qc_iconst E_L_law 3 (by decide) dL_law_557 ?_
        refine qc_iadd E_L_law dL_law_558 ?_
        refine re_sald E_L_law hS dL_law_559 h ?_
        clear h
        intro v94 h
        obtain ⟨⟨fz, hb⟩, h⟩ := h
        refine qc_callV (c := c88) (k := 0) (As := [.int v92, .int v93, .int v94]) (rest := []) hO E_L_law rfl M_X8_cell rfl q2022 q2023 q2024 (ci := 7) rfl rfl hb rfl rfl (Nat.le_of_ble_eq_true rfl) dL_law_560 (qc_S.mono ?_ (C8_cell (d := d + 14) hO hP a2 v92 v93 v94 h90 _ h))
        clear h
        clear hb
        rintro _ h96 ⟨r95, rfl, h⟩
        refine K1_i ?_
        refine qc_istore E_L_law (by decide) dL_law_563 ?_
        refine qc_aload_n E_L_law (by rfl) dL_law_565 ?_
        obtain ⟨⟨fz, hb⟩, h⟩ := h
        refine qc_callV (c := c88) (k := 0) (As := []) (rest := []) hO E_L_law rfl M_X8_thrown rfl q1940 q1941 q1942 (ci := 7) rfl rfl hb rfl rfl (Nat.le_of_ble_eq_true rfl) dL_law_566 (qc_S.mono ?_ (C8_thrown (d := d + 16) hO hP a2 h96 _ h))
        clear h
        clear hb
        rintro _ h98 ⟨r97, rfl, h⟩
        refine K1_i ?_
        refine qc_iload E_L_law (by rfl) dL_law_569 ?_
        refine qc_icmp_eq E_L_law 576 dL_law_571 (by decide) (fun (c99 : r97 = r89) => ?_) (fun (c99 : ¬ r97 = r89) => ?_)
        · replace h := h.1 c99
          refine qc_iload E_L_law (by rfl) dL_law_576 ?_
          refine qc_if_ne E_L_law 593 dL_law_578 (by decide) (fun (c100 : ¬ r89 = 0) => ?_) (fun (c100 : r89 = 0) => ?_)
          · replace h := h.1 c100
            refine qc_goto E_L_law 2116 dL_law_593 (by decide) ?_
            refine qc_iinc E_L_law 7 rfl (by decide) (by decide) dL_law_2116 ?_
            refine qc_goto E_L_law 23 dL_law_2119 (by decide) ?_
            refine qc_drop 5 ?_
            refine qc_drop 6 ?_
            exact h
          · replace h := h.2 c100
            refine qc_aload_n E_L_law (by rfl) dL_law_581 ?_
            refine qc_iconst E_L_law 0 (by decide) dL_law_582 ?_
            refine re_lald E_L_law dL_law_583 h ?_
            clear h
            intro v101 h
            refine qc_iload E_L_law (by rfl) dL_law_584 ?_
            refine qc_i2l E_L_law dL_law_586 ?_
            refine qc_lcmp E_L_law dL_law_587 ?_
            refine qc_if_eq E_L_law 593 dL_law_588 (by decide) (fun (c102 : (lg_cmp v101 (Int32.toInt64 r95)) = 0) => ?_) (fun (c102 : ¬ (lg_cmp v101 (Int32.toInt64 r95)) = 0) => ?_)
            · replace h := h.1 c102
              refine qc_goto E_L_law 2116 dL_law_593 (by decide) ?_
              refine qc_iinc E_L_law 7 rfl (by decide) (by decide) dL_law_2116 ?_
              refine qc_goto E_L_law 23 dL_law_2119 (by decide) ?_
              refine qc_drop 5 ?_
              refine qc_drop 6 ?_
              exact h
            · replace h := h.2 c102
              refine qc_iconst E_L_law 0 (by decide) dL_law_591 ?_
              exact qc_zret E_L_law rfl (qm_nb (Or.inl rfl)) dL_law_592 (Or.inl (⟨_, rfl, (Or.inl rfl), h⟩))
        · replace h := h.2 c99
          refine qc_iconst E_L_law 0 (by decide) dL_law_574 ?_
          exact qc_zret E_L_law rfl (qm_nb (Or.inl rfl)) dL_law_575 (Or.inl (⟨_, rfl, (Or.inl rfl), h⟩))
      · revert tz; rintro h91 ⟨Ez, rfl, h⟩
        refine K1_x ?_
        exact qc_out (by decide) (Or.inr ⟨_, rfl, h⟩)
    by_cases s5_ : (v7 &&& 63) = 5
    · replace h := h.2.2.2.2.2.1 s5_
      refine qc_tableIn E_L_law 596 dL_law_40 (by rw [s5_]; decide) (by rw [s5_]; decide) (by rw [s5_]; rfl) (by decide) ?_
      refine qc_aload_n E_L_law (by rfl) dL_law_596 ?_
      obtain ⟨⟨fz, hb⟩, h⟩ := h
      refine qc_callV (c := c4) (k := 0) (As := []) (rest := []) hO E_L_law rfl M_X1_losses rfl q350 q351 q352 (ci := 0) rfl rfl hb rfl rfl (Nat.le_of_ble_eq_true rfl) dL_law_597 (qc_S.mono ?_ (C_X1_losses (d := d + 16) hO hP a1 h3 _ h))
      clear h
      clear hb
      rintro _ _ ⟨r103, rfl, rfl, h⟩
      refine K1_i ?_
      refine qc_aload_n E_L_law (by rfl) dL_law_600 ?_
      obtain ⟨⟨fz, hb⟩, h⟩ := h
      refine qc_callV (c := c4) (k := 0) (As := []) (rest := [.int r103]) hO E_L_law rfl M_X8_losses rfl q2026 q2027 q2028 (ci := 7) rfl rfl hb rfl rfl (Nat.le_of_ble_eq_true rfl) dL_law_601 (qc_S.mono ?_ (C8_losses (d := d + 16) hO hP a2 h3 _ h))
      clear h
      clear hb
      rintro _ h105 ⟨r104, rfl, h⟩
      refine K1_i ?_
      refine qc_icmp_eq E_L_law 2116 dL_law_604 (by decide) (fun (c106 : r103 = r104) => ?_) (fun (c106 : ¬ r103 = r104) => ?_)
      · replace h := h.1 c106
        refine qc_iinc E_L_law 7 rfl (by decide) (by decide) dL_law_2116 ?_
        refine qc_goto E_L_law 23 dL_law_2119 (by decide) ?_
        exact h
      · replace h := h.2 c106
        refine qc_iconst E_L_law 0 (by decide) dL_law_607 ?_
        exact qc_zret E_L_law rfl (qm_nb (Or.inl rfl)) dL_law_608 (Or.inl (⟨_, rfl, (Or.inl rfl), h⟩))
    by_cases s6_ : (v7 &&& 63) = 6
    · replace h := h.2.2.2.2.2.2.1 s6_
      refine qc_tableIn E_L_law 609 dL_law_40 (by rw [s6_]; decide) (by rw [s6_]; decide) (by rw [s6_]; rfl) (by decide) ?_
      refine qc_aload_n E_L_law (by rfl) dL_law_609 ?_
      obtain ⟨⟨fz, hb⟩, h⟩ := h
      refine qc_callV (c := c4) (k := 0) (As := []) (rest := []) hO E_L_law rfl M_X1_moment rfl q354 q355 q356 (ci := 0) rfl rfl hb rfl rfl (Nat.le_of_ble_eq_true rfl) dL_law_610 (qc_S.mono ?_ (C_X1_moment (d := d + 16) hO hP a1 h3 _ h))
      clear h
      clear hb
      rintro _ _ ⟨r107, rfl, rfl, h⟩
      refine K1_i ?_
      refine qc_aload_n E_L_law (by rfl) dL_law_613 ?_
      obtain ⟨⟨fz, hb⟩, h⟩ := h
      refine qc_callV (c := c4) (k := 0) (As := []) (rest := [.int r107]) hO E_L_law rfl M_X8_moment rfl q2030 q2031 q2032 (ci := 7) rfl rfl hb rfl rfl (Nat.le_of_ble_eq_true rfl) dL_law_614 (qc_S.mono ?_ (C8_moment (d := d + 16) hO hP a2 h3 _ h))
      clear h
      clear hb
      rintro _ h109 ⟨r108, rfl, h⟩
      refine K1_i ?_
      refine qc_icmp_eq E_L_law 2116 dL_law_617 (by decide) (fun (c110 : r107 = r108) => ?_) (fun (c110 : ¬ r107 = r108) => ?_)
      · replace h := h.1 c110
        refine qc_iinc E_L_law 7 rfl (by decide) (by decide) dL_law_2116 ?_
        refine qc_goto E_L_law 23 dL_law_2119 (by decide) ?_
        exact h
      · replace h := h.2 c110
        refine qc_iconst E_L_law 0 (by decide) dL_law_620 ?_
        exact qc_zret E_L_law rfl (qm_nb (Or.inl rfl)) dL_law_621 (Or.inl (⟨_, rfl, (Or.inl rfl), h⟩))
    by_cases s7_ : (v7 &&& 63) = 7
    · replace h := h.2.2.2.2.2.2.2.1 s7_
      refine qc_tableIn E_L_law 622 dL_law_40 (by rw [s7_]; decide) (by rw [s7_]; decide) (by rw [s7_]; rfl) (by decide) ?_
      refine qc_aload_n E_L_law (by rfl) dL_law_622 ?_
      refine qc_aload_n E_L_law (by rfl) dL_law_623 ?_
      refine qc_iload E_L_law (by rfl) dL_law_624 ?_
      refine qc_iconst E_L_law 1 (by decide) dL_law_626 ?_
      refine qc_iadd E_L_law dL_law_627 ?_
      refine re_sald E_L_law hS dL_law_628 h ?_
      clear h
      intro v111 h
      refine qc_aload_n E_L_law (by rfl) dL_law_629 ?_
      refine qc_iload E_L_law (by rfl) dL_law_630 ?_
      refine qc_iconst E_L_law 2 (by decide) dL_law_632 ?_
      refine qc_iadd E_L_law dL_law_633 ?_
      refine re_sald E_L_law hS dL_law_634 h ?_
      clear h
      intro v112 h
      refine qc_aload_n E_L_law (by rfl) dL_law_635 ?_
      refine qc_iload E_L_law (by rfl) dL_law_636 ?_
      refine qc_iconst E_L_law 3 (by decide) dL_law_638 ?_
      refine qc_iadd E_L_law dL_law_639 ?_
      refine re_sald E_L_law hS dL_law_640 h ?_
      clear h
      intro v113 h
      refine qc_aload_n E_L_law (by rfl) dL_law_641 ?_
      obtain ⟨c115, k114, rfl, h⟩ := h
      refine qc_callSX (c := c115) (k := k114) (As := [.ref a1, .int v111, .int v112, .int v113, .ref a3]) (rest := []) E_L_law rfl M_X0_setPace rfl q1087 q1088 rfl rfl (Nat.le_of_ble_eq_true rfl) dL_law_642 (qc_S.mono ?_ (C_X0_setPace (d := d + 13) hO hP hX a1 v111 v112 v113 a3 h3 k114 _ _ h))
      clear h
      rintro _ tz (hz | hz)
      · revert tz; rintro h117 ⟨r116, rfl, h⟩
        refine K1_i ?_
        refine qc_istore E_L_law (by decide) dL_law_645 ?_
        refine qc_aload_n E_L_law (by rfl) dL_law_647 ?_
        refine qc_aload_n E_L_law (by rfl) dL_law_648 ?_
        refine qc_iload E_L_law (by rfl) dL_law_649 ?_
        refine qc_iconst E_L_law 1 (by decide) dL_law_651 ?_
        refine qc_iadd E_L_law dL_law_652 ?_
        refine re_sald E_L_law hS dL_law_653 h ?_
        clear h
        intro v119 h
        refine qc_aload_n E_L_law (by rfl) dL_law_654 ?_
        refine qc_iload E_L_law (by rfl) dL_law_655 ?_
        refine qc_iconst E_L_law 2 (by decide) dL_law_657 ?_
        refine qc_iadd E_L_law dL_law_658 ?_
        refine re_sald E_L_law hS dL_law_659 h ?_
        clear h
        intro v120 h
        refine qc_aload_n E_L_law (by rfl) dL_law_660 ?_
        refine qc_iload E_L_law (by rfl) dL_law_661 ?_
        refine qc_iconst E_L_law 3 (by decide) dL_law_663 ?_
        refine qc_iadd E_L_law dL_law_664 ?_
        refine re_sald E_L_law hS dL_law_665 h ?_
        clear h
        intro v121 h
        obtain ⟨⟨fz, hb⟩, h⟩ := h
        refine qc_callV (c := c115) (k := 0) (As := [.int v119, .int v120, .int v121]) (rest := []) hO E_L_law rfl M_X8_setPace rfl q2034 q2035 q2036 (ci := 7) rfl rfl hb rfl rfl (Nat.le_of_ble_eq_true rfl) dL_law_666 (qc_S.mono ?_ (C8_setPace (d := d + 14) hO hP a2 v119 v120 v121 h117 _ h))
        clear h
        clear hb
        rintro _ h123 ⟨r122, rfl, h⟩
        refine K1_i ?_
        refine qc_istore E_L_law (by decide) dL_law_669 ?_
        refine qc_aload_n E_L_law (by rfl) dL_law_671 ?_
        obtain ⟨⟨fz, hb⟩, h⟩ := h
        refine qc_callV (c := c115) (k := 0) (As := []) (rest := []) hO E_L_law rfl M_X8_thrown rfl q1940 q1941 q1942 (ci := 7) rfl rfl hb rfl rfl (Nat.le_of_ble_eq_true rfl) dL_law_672 (qc_S.mono ?_ (C8_thrown (d := d + 16) hO hP a2 h123 _ h))
        clear h
        clear hb
        rintro _ h125 ⟨r124, rfl, h⟩
        refine K1_i ?_
        refine qc_iload E_L_law (by rfl) dL_law_675 ?_
        refine qc_icmp_eq E_L_law 682 dL_law_677 (by decide) (fun (c126 : r124 = r116) => ?_) (fun (c126 : ¬ r124 = r116) => ?_)
        · replace h := h.1 c126
          refine qc_iload E_L_law (by rfl) dL_law_682 ?_
          refine qc_if_ne E_L_law 699 dL_law_684 (by decide) (fun (c127 : ¬ r116 = 0) => ?_) (fun (c127 : r116 = 0) => ?_)
          · replace h := h.1 c127
            refine qc_goto E_L_law 2116 dL_law_699 (by decide) ?_
            refine qc_iinc E_L_law 7 rfl (by decide) (by decide) dL_law_2116 ?_
            refine qc_goto E_L_law 23 dL_law_2119 (by decide) ?_
            refine qc_drop 5 ?_
            refine qc_drop 6 ?_
            exact h
          · replace h := h.2 c127
            refine qc_aload_n E_L_law (by rfl) dL_law_687 ?_
            refine qc_iconst E_L_law 0 (by decide) dL_law_688 ?_
            refine re_lald E_L_law dL_law_689 h ?_
            clear h
            intro v128 h
            refine qc_iload E_L_law (by rfl) dL_law_690 ?_
            refine qc_i2l E_L_law dL_law_692 ?_
            refine qc_lcmp E_L_law dL_law_693 ?_
            refine qc_if_eq E_L_law 699 dL_law_694 (by decide) (fun (c129 : (lg_cmp v128 (Int32.toInt64 r122)) = 0) => ?_) (fun (c129 : ¬ (lg_cmp v128 (Int32.toInt64 r122)) = 0) => ?_)
            · replace h := h.1 c129
              refine qc_goto E_L_law 2116 dL_law_699 (by decide) ?_
              refine qc_iinc E_L_law 7 rfl (by decide) (by decide) dL_law_2116 ?_
              refine qc_goto E_L_law 23 dL_law_2119 (by decide) ?_
              refine qc_drop 5 ?_
              refine qc_drop 6 ?_
              exact h
            · replace h := h.2 c129
              refine qc_iconst E_L_law 0 (by decide) dL_law_697 ?_
              exact qc_zret E_L_law rfl (qm_nb (Or.inl rfl)) dL_law_698 (Or.inl (⟨_, rfl, (Or.inl rfl), h⟩))
        · replace h := h.2 c126
          refine qc_iconst E_L_law 0 (by decide) dL_law_680 ?_
          exact qc_zret E_L_law rfl (qm_nb (Or.inl rfl)) dL_law_681 (Or.inl (⟨_, rfl, (Or.inl rfl), h⟩))
      · revert tz; rintro h118 ⟨Ez, rfl, h⟩
        refine K1_x ?_
        exact qc_out (by decide) (Or.inr ⟨_, rfl, h⟩)
    by_cases s8_ : (v7 &&& 63) = 8
    · replace h := h.2.2.2.2.2.2.2.2.1 s8_
      refine qc_tableIn E_L_law 702 dL_law_40 (by rw [s8_]; decide) (by rw [s8_]; decide) (by rw [s8_]; rfl) (by decide) ?_
      refine qc_aload_n E_L_law (by rfl) dL_law_702 ?_
      refine qc_aload_n E_L_law (by rfl) dL_law_703 ?_
      refine qc_iload E_L_law (by rfl) dL_law_704 ?_
      refine qc_iconst E_L_law 1 (by decide) dL_law_706 ?_
      refine qc_iadd E_L_law dL_law_707 ?_
      refine re_sald E_L_law hS dL_law_708 h ?_
      clear h
      intro v130 h
      refine qc_aload_n E_L_law (by rfl) dL_law_709 ?_
      refine qc_iload E_L_law (by rfl) dL_law_710 ?_
      refine qc_iconst E_L_law 2 (by decide) dL_law_712 ?_
      refine qc_iadd E_L_law dL_law_713 ?_
      refine re_sald E_L_law hS dL_law_714 h ?_
      clear h
      intro v131 h
      refine qc_aload_n E_L_law (by rfl) dL_law_715 ?_
      refine qc_iload E_L_law (by rfl) dL_law_716 ?_
      refine qc_iconst E_L_law 3 (by decide) dL_law_718 ?_
      refine qc_iadd E_L_law dL_law_719 ?_
      refine re_sald E_L_law hS dL_law_720 h ?_
      clear h
      intro v132 h
      refine qc_aload_n E_L_law (by rfl) dL_law_721 ?_
      obtain ⟨c134, k133, rfl, h⟩ := h
      refine qc_callSX (c := c134) (k := k133) (As := [.ref a1, .int v130, .int v131, .int v132, .ref a3]) (rest := []) E_L_law rfl M_X0_setBounds rfl q1101 q1102 rfl rfl (Nat.le_of_ble_eq_true rfl) dL_law_722 (qc_S.mono ?_ (C_X0_setBounds (d := d + 13) hO hP hX a1 v130 v131 v132 a3 h3 k133 _ _ h))
      clear h
      rintro _ tz (hz | hz)
      · revert tz; rintro h136 ⟨r135, rfl, h⟩
        refine K1_i ?_
        refine qc_istore E_L_law (by decide) dL_law_725 ?_
        refine qc_aload_n E_L_law (by rfl) dL_law_727 ?_
        refine qc_aload_n E_L_law (by rfl) dL_law_728 ?_
        refine qc_iload E_L_law (by rfl) dL_law_729 ?_
        refine qc_iconst E_L_law 1 (by decide) dL_law_731 ?_
        refine qc_iadd E_L_law dL_law_732 ?_
        refine re_sald E_L_law hS dL_law_733 h ?_
        clear h
        intro v138 h
        refine qc_aload_n E_L_law (by rfl) dL_law_734 ?_
        refine qc_iload E_L_law (by rfl) dL_law_735 ?_
        refine qc_iconst E_L_law 2 (by decide) dL_law_737 ?_
        refine qc_iadd E_L_law dL_law_738 ?_
        refine re_sald E_L_law hS dL_law_739 h ?_
        clear h
        intro v139 h
        refine qc_aload_n E_L_law (by rfl) dL_law_740 ?_
        refine qc_iload E_L_law (by rfl) dL_law_741 ?_
        refine qc_iconst E_L_law 3 (by decide) dL_law_743 ?_
        refine qc_iadd E_L_law dL_law_744 ?_
        refine re_sald E_L_law hS dL_law_745 h ?_
        clear h
        intro v140 h
        obtain ⟨⟨fz, hb⟩, h⟩ := h
        refine qc_callV (c := c134) (k := 0) (As := [.int v138, .int v139, .int v140]) (rest := []) hO E_L_law rfl M_X8_setBounds rfl q2041 q2042 q2043 (ci := 7) rfl rfl hb rfl rfl (Nat.le_of_ble_eq_true rfl) dL_law_746 (qc_S.mono ?_ (C8_setBounds (d := d + 14) hO hP a2 v138 v139 v140 h136 _ h))
        clear h
        clear hb
        rintro _ h142 ⟨r141, rfl, h⟩
        refine K1_i ?_
        refine qc_istore E_L_law (by decide) dL_law_749 ?_
        refine qc_aload_n E_L_law (by rfl) dL_law_751 ?_
        obtain ⟨⟨fz, hb⟩, h⟩ := h
        refine qc_callV (c := c134) (k := 0) (As := []) (rest := []) hO E_L_law rfl M_X8_thrown rfl q1940 q1941 q1942 (ci := 7) rfl rfl hb rfl rfl (Nat.le_of_ble_eq_true rfl) dL_law_752 (qc_S.mono ?_ (C8_thrown (d := d + 16) hO hP a2 h142 _ h))
        clear h
        clear hb
        rintro _ h144 ⟨r143, rfl, h⟩
        refine K1_i ?_
        refine qc_iload E_L_law (by rfl) dL_law_755 ?_
        refine qc_icmp_eq E_L_law 762 dL_law_757 (by decide) (fun (c145 : r143 = r135) => ?_) (fun (c145 : ¬ r143 = r135) => ?_)
        · replace h := h.1 c145
          refine qc_iload E_L_law (by rfl) dL_law_762 ?_
          refine qc_if_ne E_L_law 779 dL_law_764 (by decide) (fun (c146 : ¬ r135 = 0) => ?_) (fun (c146 : r135 = 0) => ?_)
          · replace h := h.1 c146
            refine qc_goto E_L_law 2116 dL_law_779 (by decide) ?_
            refine qc_iinc E_L_law 7 rfl (by decide) (by decide) dL_law_2116 ?_
            refine qc_goto E_L_law 23 dL_law_2119 (by decide) ?_
            refine qc_drop 5 ?_
            refine qc_drop 6 ?_
            exact h
          · replace h := h.2 c146
            refine qc_aload_n E_L_law (by rfl) dL_law_767 ?_
            refine qc_iconst E_L_law 0 (by decide) dL_law_768 ?_
            refine re_lald E_L_law dL_law_769 h ?_
            clear h
            intro v147 h
            refine qc_iload E_L_law (by rfl) dL_law_770 ?_
            refine qc_i2l E_L_law dL_law_772 ?_
            refine qc_lcmp E_L_law dL_law_773 ?_
            refine qc_if_eq E_L_law 779 dL_law_774 (by decide) (fun (c148 : (lg_cmp v147 (Int32.toInt64 r141)) = 0) => ?_) (fun (c148 : ¬ (lg_cmp v147 (Int32.toInt64 r141)) = 0) => ?_)
            · replace h := h.1 c148
              refine qc_goto E_L_law 2116 dL_law_779 (by decide) ?_
              refine qc_iinc E_L_law 7 rfl (by decide) (by decide) dL_law_2116 ?_
              refine qc_goto E_L_law 23 dL_law_2119 (by decide) ?_
              refine qc_drop 5 ?_
              refine qc_drop 6 ?_
              exact h
            · replace h := h.2 c148
              refine qc_iconst E_L_law 0 (by decide) dL_law_777 ?_
              exact qc_zret E_L_law rfl (qm_nb (Or.inl rfl)) dL_law_778 (Or.inl (⟨_, rfl, (Or.inl rfl), h⟩))
        · replace h := h.2 c145
          refine qc_iconst E_L_law 0 (by decide) dL_law_760 ?_
          exact qc_zret E_L_law rfl (qm_nb (Or.inl rfl)) dL_law_761 (Or.inl (⟨_, rfl, (Or.inl rfl), h⟩))
      · revert tz; rintro h137 ⟨Ez, rfl, h⟩
        refine K1_x ?_
        exact qc_out (by decide) (Or.inr ⟨_, rfl, h⟩)
    by_cases s9_ : (v7 &&& 63) = 9
    · replace h := h.2.2.2.2.2.2.2.2.2.1 s9_
      refine qc_tableIn E_L_law 782 dL_law_40 (by rw [s9_]; decide) (by rw [s9_]; decide) (by rw [s9_]; rfl) (by decide) ?_
      refine qc_aload_n E_L_law (by rfl) dL_law_782 ?_
      refine qc_aload_n E_L_law (by rfl) dL_law_783 ?_
      refine qc_iload E_L_law (by rfl) dL_law_784 ?_
      refine qc_iconst E_L_law 1 (by decide) dL_law_786 ?_
      refine qc_iadd E_L_law dL_law_787 ?_
      refine re_sald E_L_law hS dL_law_788 h ?_
      clear h
      intro v149 h
      refine qc_aload_n E_L_law (by rfl) dL_law_789 ?_
      refine qc_iload E_L_law (by rfl) dL_law_790 ?_
      refine qc_iconst E_L_law 2 (by decide) dL_law_792 ?_
      refine qc_iadd E_L_law dL_law_793 ?_
      refine re_sald E_L_law hS dL_law_794 h ?_
      clear h
      intro v150 h
      refine qc_aload_n E_L_law (by rfl) dL_law_795 ?_
      obtain ⟨c152, k151, rfl, h⟩ := h
      refine qc_callSX (c := c152) (k := k151) (As := [.ref a1, .int v149, .int v150, .ref a3]) (rest := []) E_L_law rfl M_X0_setLease rfl q1108 q1109 rfl rfl (Nat.le_of_ble_eq_true rfl) dL_law_796 (qc_S.mono ?_ (C_X0_setLease (d := d + 7) hO hP hX a1 v149 v150 a3 h3 k151 _ _ h))
      clear h
      rintro _ tz (hz | hz)
      · revert tz; rintro h154 ⟨r153, rfl, h⟩
        refine K1_i ?_
        refine qc_istore E_L_law (by decide) dL_law_799 ?_
        refine qc_aload_n E_L_law (by rfl) dL_law_801 ?_
        refine qc_aload_n E_L_law (by rfl) dL_law_802 ?_
        refine qc_iload E_L_law (by rfl) dL_law_803 ?_
        refine qc_iconst E_L_law 1 (by decide) dL_law_805 ?_
        refine qc_iadd E_L_law dL_law_806 ?_
        refine re_sald E_L_law hS dL_law_807 h ?_
        clear h
        intro v156 h
        refine qc_aload_n E_L_law (by rfl) dL_law_808 ?_
        refine qc_iload E_L_law (by rfl) dL_law_809 ?_
        refine qc_iconst E_L_law 2 (by decide) dL_law_811 ?_
        refine qc_iadd E_L_law dL_law_812 ?_
        refine re_sald E_L_law hS dL_law_813 h ?_
        clear h
        intro v157 h
        obtain ⟨⟨fz, hb⟩, h⟩ := h
        refine qc_callV (c := c152) (k := 0) (As := [.int v156, .int v157]) (rest := []) hO E_L_law rfl M_X8_setLease rfl q2045 q2046 q2047 (ci := 7) rfl rfl hb rfl rfl (Nat.le_of_ble_eq_true rfl) dL_law_814 (qc_S.mono ?_ (C8_setLease (d := d + 14) hO hP a2 v156 v157 h154 _ h))
        clear h
        clear hb
        rintro _ h159 ⟨r158, rfl, h⟩
        refine K1_i ?_
        refine qc_istore E_L_law (by decide) dL_law_817 ?_
        refine qc_aload_n E_L_law (by rfl) dL_law_819 ?_
        obtain ⟨⟨fz, hb⟩, h⟩ := h
        refine qc_callV (c := c152) (k := 0) (As := []) (rest := []) hO E_L_law rfl M_X8_thrown rfl q1940 q1941 q1942 (ci := 7) rfl rfl hb rfl rfl (Nat.le_of_ble_eq_true rfl) dL_law_820 (qc_S.mono ?_ (C8_thrown (d := d + 16) hO hP a2 h159 _ h))
        clear h
        clear hb
        rintro _ h161 ⟨r160, rfl, h⟩
        refine K1_i ?_
        refine qc_iload E_L_law (by rfl) dL_law_823 ?_
        refine qc_icmp_eq E_L_law 830 dL_law_825 (by decide) (fun (c162 : r160 = r153) => ?_) (fun (c162 : ¬ r160 = r153) => ?_)
        · replace h := h.1 c162
          refine qc_iload E_L_law (by rfl) dL_law_830 ?_
          refine qc_if_ne E_L_law 847 dL_law_832 (by decide) (fun (c163 : ¬ r153 = 0) => ?_) (fun (c163 : r153 = 0) => ?_)
          · replace h := h.1 c163
            refine qc_goto E_L_law 2116 dL_law_847 (by decide) ?_
            refine qc_iinc E_L_law 7 rfl (by decide) (by decide) dL_law_2116 ?_
            refine qc_goto E_L_law 23 dL_law_2119 (by decide) ?_
            refine qc_drop 5 ?_
            refine qc_drop 6 ?_
            exact h
          · replace h := h.2 c163
            refine qc_aload_n E_L_law (by rfl) dL_law_835 ?_
            refine qc_iconst E_L_law 0 (by decide) dL_law_836 ?_
            refine re_lald E_L_law dL_law_837 h ?_
            clear h
            intro v164 h
            refine qc_iload E_L_law (by rfl) dL_law_838 ?_
            refine qc_i2l E_L_law dL_law_840 ?_
            refine qc_lcmp E_L_law dL_law_841 ?_
            refine qc_if_eq E_L_law 847 dL_law_842 (by decide) (fun (c165 : (lg_cmp v164 (Int32.toInt64 r158)) = 0) => ?_) (fun (c165 : ¬ (lg_cmp v164 (Int32.toInt64 r158)) = 0) => ?_)
            · replace h := h.1 c165
              refine qc_goto E_L_law 2116 dL_law_847 (by decide) ?_
              refine qc_iinc E_L_law 7 rfl (by decide) (by decide) dL_law_2116 ?_
              refine qc_goto E_L_law 23 dL_law_2119 (by decide) ?_
              refine qc_drop 5 ?_
              refine qc_drop 6 ?_
              exact h
            · replace h := h.2 c165
              refine qc_iconst E_L_law 0 (by decide) dL_law_845 ?_
              exact qc_zret E_L_law rfl (qm_nb (Or.inl rfl)) dL_law_846 (Or.inl (⟨_, rfl, (Or.inl rfl), h⟩))
        · replace h := h.2 c162
          refine qc_iconst E_L_law 0 (by decide) dL_law_828 ?_
          exact qc_zret E_L_law rfl (qm_nb (Or.inl rfl)) dL_law_829 (Or.inl (⟨_, rfl, (Or.inl rfl), h⟩))
      · revert tz; rintro h155 ⟨Ez, rfl, h⟩
        refine K1_x ?_
        exact qc_out (by decide) (Or.inr ⟨_, rfl, h⟩)
    by_cases s10_ : (v7 &&& 63) = 10
    · replace h := h.2.2.2.2.2.2.2.2.2.2.1 s10_
      refine qc_tableIn E_L_law 850 dL_law_40 (by rw [s10_]; decide) (by rw [s10_]; decide) (by rw [s10_]; rfl) (by decide) ?_
      refine qc_aload_n E_L_law (by rfl) dL_law_850 ?_
      refine qc_aload_n E_L_law (by rfl) dL_law_851 ?_
      refine qc_iload E_L_law (by rfl) dL_law_852 ?_
      refine qc_iconst E_L_law 1 (by decide) dL_law_854 ?_
      refine qc_iadd E_L_law dL_law_855 ?_
      refine re_sald E_L_law hS dL_law_856 h ?_
      clear h
      intro v166 h
      refine qc_aload_n E_L_law (by rfl) dL_law_857 ?_
      refine qc_iload E_L_law (by rfl) dL_law_858 ?_
      refine qc_iconst E_L_law 2 (by decide) dL_law_860 ?_
      refine qc_iadd E_L_law dL_law_861 ?_
      refine re_sald E_L_law hS dL_law_862 h ?_
      clear h
      intro v167 h
      refine qc_aload_n E_L_law (by rfl) dL_law_863 ?_
      refine qc_iload E_L_law (by rfl) dL_law_864 ?_
      refine qc_iconst E_L_law 3 (by decide) dL_law_866 ?_
      refine qc_iadd E_L_law dL_law_867 ?_
      refine re_sald E_L_law hS dL_law_868 h ?_
      clear h
      intro v168 h
      have jz := h (fun (x171 : Int32) => qc_wp g x9 (d + 17) c4 I_L_law 877 [some (.ref a0), some (.ref a1), some (.ref a2), some (.ref a3), some (.int x2), none, none] [.int x171, .int v167, .int v166, .ref a1] h3 (oX (oZ K) KX))
      clear h
      have h := jz (by
        intro x171 h
        refine qc_aload_n E_L_law (by rfl) dL_law_877 ?_
        obtain ⟨c173, k172, rfl, h⟩ := h
        refine qc_callSX (c := c173) (k := k172) (As := [.ref a1, .int v166, .int v167, .int x171, .ref a3]) (rest := []) E_L_law rfl M_X0_fail rfl q1115 q1116 rfl rfl (Nat.le_of_ble_eq_true rfl) dL_law_878 (qc_S.mono ?_ (C_X0_fail (d := d + 13) hO hP hX a1 v166 v167 x171 a3 h3 k172 _ _ h))
        clear h
        rintro _ tz (hz | hz)
        · revert tz; rintro h175 ⟨r174, rfl, h⟩
          refine K1_i ?_
          refine qc_istore E_L_law (by decide) dL_law_881 ?_
          refine qc_aload_n E_L_law (by rfl) dL_law_883 ?_
          refine qc_aload_n E_L_law (by rfl) dL_law_884 ?_
          refine qc_iload E_L_law (by rfl) dL_law_885 ?_
          refine qc_iconst E_L_law 1 (by decide) dL_law_887 ?_
          refine qc_iadd E_L_law dL_law_888 ?_
          refine re_sald E_L_law hS dL_law_889 h ?_
          clear h
          intro v177 h
          refine qc_aload_n E_L_law (by rfl) dL_law_890 ?_
          refine qc_iload E_L_law (by rfl) dL_law_891 ?_
          refine qc_iconst E_L_law 2 (by decide) dL_law_893 ?_
          refine qc_iadd E_L_law dL_law_894 ?_
          refine re_sald E_L_law hS dL_law_895 h ?_
          clear h
          intro v178 h
          refine qc_aload_n E_L_law (by rfl) dL_law_896 ?_
          refine qc_iload E_L_law (by rfl) dL_law_897 ?_
          refine qc_iconst E_L_law 3 (by decide) dL_law_899 ?_
          refine qc_iadd E_L_law dL_law_900 ?_
          refine re_sald E_L_law hS dL_law_901 h ?_
          clear h
          intro v179 h
          have jz := h (fun (x182 : Int32) => qc_wp g x9 (d + 17) c173 I_L_law 910 [some (.ref a0), some (.ref a1), some (.ref a2), some (.ref a3), some (.int x2), some (.int r174), none] [.int x182, .int v178, .int v177, .ref a2] h175 (oX (oZ K) KX))
          clear h
          have h := jz (by
            intro x182 h
            obtain ⟨⟨fz, hb⟩, h⟩ := h
            refine qc_callV (c := c173) (k := 0) (As := [.int v177, .int v178, .int x182]) (rest := []) hO E_L_law rfl M_X8_fail rfl q2049 q2050 q2051 (ci := 7) rfl rfl hb rfl rfl (Nat.le_of_ble_eq_true rfl) dL_law_910 (qc_S.mono ?_ (C8_fail (d := d + 14) hO hP a2 v177 v178 x182 h175 _ h))
            clear h
            clear hb
            rintro _ h184 ⟨r183, rfl, h⟩
            refine K1_i ?_
            refine qc_istore E_L_law (by decide) dL_law_913 ?_
            refine qc_aload_n E_L_law (by rfl) dL_law_915 ?_
            obtain ⟨⟨fz, hb⟩, h⟩ := h
            refine qc_callV (c := c173) (k := 0) (As := []) (rest := []) hO E_L_law rfl M_X8_thrown rfl q1940 q1941 q1942 (ci := 7) rfl rfl hb rfl rfl (Nat.le_of_ble_eq_true rfl) dL_law_916 (qc_S.mono ?_ (C8_thrown (d := d + 16) hO hP a2 h184 _ h))
            clear h
            clear hb
            rintro _ h186 ⟨r185, rfl, h⟩
            refine K1_i ?_
            refine qc_iload E_L_law (by rfl) dL_law_919 ?_
            refine qc_icmp_eq E_L_law 926 dL_law_921 (by decide) (fun (c187 : r185 = r174) => ?_) (fun (c187 : ¬ r185 = r174) => ?_)
            · replace h := h.1 c187
              refine qc_iload E_L_law (by rfl) dL_law_926 ?_
              refine qc_if_ne E_L_law 943 dL_law_928 (by decide) (fun (c188 : ¬ r174 = 0) => ?_) (fun (c188 : r174 = 0) => ?_)
              · replace h := h.1 c188
                refine qc_goto E_L_law 2116 dL_law_943 (by decide) ?_
                refine qc_iinc E_L_law 7 rfl (by decide) (by decide) dL_law_2116 ?_
                refine qc_goto E_L_law 23 dL_law_2119 (by decide) ?_
                refine qc_drop 5 ?_
                refine qc_drop 6 ?_
                exact h
              · replace h := h.2 c188
                refine qc_aload_n E_L_law (by rfl) dL_law_931 ?_
                refine qc_iconst E_L_law 0 (by decide) dL_law_932 ?_
                refine re_lald E_L_law dL_law_933 h ?_
                clear h
                intro v189 h
                refine qc_iload E_L_law (by rfl) dL_law_934 ?_
                refine qc_i2l E_L_law dL_law_936 ?_
                refine qc_lcmp E_L_law dL_law_937 ?_
                refine qc_if_eq E_L_law 943 dL_law_938 (by decide) (fun (c190 : (lg_cmp v189 (Int32.toInt64 r183)) = 0) => ?_) (fun (c190 : ¬ (lg_cmp v189 (Int32.toInt64 r183)) = 0) => ?_)
                · replace h := h.1 c190
                  refine qc_goto E_L_law 2116 dL_law_943 (by decide) ?_
                  refine qc_iinc E_L_law 7 rfl (by decide) (by decide) dL_law_2116 ?_
                  refine qc_goto E_L_law 23 dL_law_2119 (by decide) ?_
                  refine qc_drop 5 ?_
                  refine qc_drop 6 ?_
                  exact h
                · replace h := h.2 c190
                  refine qc_iconst E_L_law 0 (by decide) dL_law_941 ?_
                  exact qc_zret E_L_law rfl (qm_nb (Or.inl rfl)) dL_law_942 (Or.inl (⟨_, rfl, (Or.inl rfl), h⟩))
            · replace h := h.2 c187
              refine qc_iconst E_L_law 0 (by decide) dL_law_924 ?_
              exact qc_zret E_L_law rfl (qm_nb (Or.inl rfl)) dL_law_925 (Or.inl (⟨_, rfl, (Or.inl rfl), h⟩)))
          clear jz
          refine qc_if_eq E_L_law 909 dL_law_902 (by decide) (fun (c180 : v179 = 0) => ?_) (fun (c180 : ¬ v179 = 0) => ?_)
          · replace h := h.1 c180
            refine qc_iconst E_L_law 0 (by decide) dL_law_909 ?_
            exact h
          · replace h := h.2 c180
            refine qc_iconst E_L_law 1 (by decide) dL_law_905 ?_
            refine qc_goto E_L_law 910 dL_law_906 (by decide) ?_
            exact h
        · revert tz; rintro h176 ⟨Ez, rfl, h⟩
          refine K1_x ?_
          exact qc_out (by decide) (Or.inr ⟨_, rfl, h⟩))
      clear jz
      refine qc_if_eq E_L_law 876 dL_law_869 (by decide) (fun (c169 : v168 = 0) => ?_) (fun (c169 : ¬ v168 = 0) => ?_)
      · replace h := h.1 c169
        refine qc_iconst E_L_law 0 (by decide) dL_law_876 ?_
        exact h
      · replace h := h.2 c169
        refine qc_iconst E_L_law 1 (by decide) dL_law_872 ?_
        refine qc_goto E_L_law 877 dL_law_873 (by decide) ?_
        exact h
    by_cases s11_ : (v7 &&& 63) = 11
    · replace h := h.2.2.2.2.2.2.2.2.2.2.2.1 s11_
      refine qc_tableIn E_L_law 946 dL_law_40 (by rw [s11_]; decide) (by rw [s11_]; decide) (by rw [s11_]; rfl) (by decide) ?_
      refine qc_aload_n E_L_law (by rfl) dL_law_946 ?_
      refine qc_aload_n E_L_law (by rfl) dL_law_947 ?_
      refine qc_iload E_L_law (by rfl) dL_law_948 ?_
      refine qc_iconst E_L_law 1 (by decide) dL_law_950 ?_
      refine qc_iadd E_L_law dL_law_951 ?_
      refine re_sald E_L_law hS dL_law_952 h ?_
      clear h
      intro v191 h
      refine qc_aload_n E_L_law (by rfl) dL_law_953 ?_
      refine qc_iload E_L_law (by rfl) dL_law_954 ?_
      refine qc_iconst E_L_law 2 (by decide) dL_law_956 ?_
      refine qc_iadd E_L_law dL_law_957 ?_
      refine re_sald E_L_law hS dL_law_958 h ?_
      clear h
      intro v192 h
      refine qc_aload_n E_L_law (by rfl) dL_law_959 ?_
      refine qc_iload E_L_law (by rfl) dL_law_960 ?_
      refine qc_iconst E_L_law 3 (by decide) dL_law_962 ?_
      refine qc_iadd E_L_law dL_law_963 ?_
      refine re_sald E_L_law hS dL_law_964 h ?_
      clear h
      intro v193 h
      have jz := h (fun (x196 : Int32) => qc_wp g x9 (d + 17) c4 I_L_law 973 [some (.ref a0), some (.ref a1), some (.ref a2), some (.ref a3), some (.int x2), none, none] [.int x196, .int v192, .int v191, .ref a1] h3 (oX (oZ K) KX))
      clear h
      have h := jz (by
        intro x196 h
        refine qc_aload_n E_L_law (by rfl) dL_law_973 ?_
        obtain ⟨c198, k197, rfl, h⟩ := h
        refine qc_callSX (c := c198) (k := k197) (As := [.ref a1, .int v191, .int v192, .int x196, .ref a3]) (rest := []) E_L_law rfl M_X0_forbid rfl q1122 q1123 rfl rfl (Nat.le_of_ble_eq_true rfl) dL_law_974 (qc_S.mono ?_ (C_X0_forbid (d := d + 14) hO hP hX a1 v191 v192 x196 a3 h3 k197 _ _ h))
        clear h
        rintro _ tz (hz | hz)
        · revert tz; rintro h200 ⟨r199, rfl, h⟩
          refine K1_i ?_
          refine qc_istore E_L_law (by decide) dL_law_977 ?_
          refine qc_aload_n E_L_law (by rfl) dL_law_979 ?_
          refine qc_aload_n E_L_law (by rfl) dL_law_980 ?_
          refine qc_iload E_L_law (by rfl) dL_law_981 ?_
          refine qc_iconst E_L_law 1 (by decide) dL_law_983 ?_
          refine qc_iadd E_L_law dL_law_984 ?_
          refine re_sald E_L_law hS dL_law_985 h ?_
          clear h
          intro v202 h
          refine qc_aload_n E_L_law (by rfl) dL_law_986 ?_
          refine qc_iload E_L_law (by rfl) dL_law_987 ?_
          refine qc_iconst E_L_law 2 (by decide) dL_law_989 ?_
          refine qc_iadd E_L_law dL_law_990 ?_
          refine re_sald E_L_law hS dL_law_991 h ?_
          clear h
          intro v203 h
          refine qc_aload_n E_L_law (by rfl) dL_law_992 ?_
          refine qc_iload E_L_law (by rfl) dL_law_993 ?_
          refine qc_iconst E_L_law 3 (by decide) dL_law_995 ?_
          refine qc_iadd E_L_law dL_law_996 ?_
          refine re_sald E_L_law hS dL_law_997 h ?_
          clear h
          intro v204 h
          have jz := h (fun (x207 : Int32) => qc_wp g x9 (d + 17) c198 I_L_law 1006 [some (.ref a0), some (.ref a1), some (.ref a2), some (.ref a3), some (.int x2), some (.int r199), none] [.int x207, .int v203, .int v202, .ref a2] h200 (oX (oZ K) KX))
          clear h
          have h := jz (by
            intro x207 h
            obtain ⟨⟨fz, hb⟩, h⟩ := h
            refine qc_callV (c := c198) (k := 0) (As := [.int v202, .int v203, .int x207]) (rest := []) hO E_L_law rfl M_X8_forbid rfl q2053 q2054 q2055 (ci := 7) rfl rfl hb rfl rfl (Nat.le_of_ble_eq_true rfl) dL_law_1006 (qc_S.mono ?_ (C8_forbid (d := d + 14) hO hP a2 v202 v203 x207 h200 _ h))
            clear h
            clear hb
            rintro _ h210 ⟨r208, rfl, z209, h⟩
            refine K1_i ?_
            refine qc_istore E_L_law (by decide) dL_law_1009 ?_
            refine qc_aload_n E_L_law (by rfl) dL_law_1011 ?_
            obtain ⟨⟨fz, hb⟩, h⟩ := h
            refine qc_callV (c := c198) (k := 0) (As := []) (rest := []) hO E_L_law rfl M_X8_thrown rfl q1940 q1941 q1942 (ci := 7) rfl rfl hb rfl rfl (Nat.le_of_ble_eq_true rfl) dL_law_1012 (qc_S.mono ?_ (C8_thrown (d := d + 16) hO hP a2 h210 _ h))
            clear h
            clear hb
            rintro _ h212 ⟨r211, rfl, h⟩
            refine K1_i ?_
            refine qc_iload E_L_law (by rfl) dL_law_1015 ?_
            refine qc_icmp_eq E_L_law 1022 dL_law_1017 (by decide) (fun (c213 : r211 = r199) => ?_) (fun (c213 : ¬ r211 = r199) => ?_)
            · replace h := h.1 c213
              refine qc_iload E_L_law (by rfl) dL_law_1022 ?_
              refine qc_if_ne E_L_law 1046 dL_law_1024 (by decide) (fun (c214 : ¬ r199 = 0) => ?_) (fun (c214 : r199 = 0) => ?_)
              · replace h := h.1 c214
                refine qc_goto E_L_law 2116 dL_law_1046 (by decide) ?_
                refine qc_iinc E_L_law 7 rfl (by decide) (by decide) dL_law_2116 ?_
                refine qc_goto E_L_law 23 dL_law_2119 (by decide) ?_
                refine qc_drop 5 ?_
                refine qc_drop 6 ?_
                exact h
              · replace h := h.2 c214
                refine qc_aload_n E_L_law (by rfl) dL_law_1027 ?_
                refine qc_iconst E_L_law 0 (by decide) dL_law_1028 ?_
                refine re_lald E_L_law dL_law_1029 h ?_
                clear h
                intro v215 h
                refine qc_iload E_L_law (by rfl) dL_law_1030 ?_
                have jz := h (fun (x218 : Int64) => qc_wp g x9 (d + 17) c198 I_L_law 1040 [some (.ref a0), some (.ref a1), some (.ref a2), some (.ref a3), some (.int x2), none, none] [.long x218, .long v215] h212 (oX (oZ K) KX))
                clear h
                have h := jz (by
                  intro x218 h
                  refine qc_lcmp E_L_law dL_law_1040 ?_
                  refine qc_if_eq E_L_law 1046 dL_law_1041 (by decide) (fun (c219 : (lg_cmp v215 x218) = 0) => ?_) (fun (c219 : ¬ (lg_cmp v215 x218) = 0) => ?_)
                  · replace h := h.1 c219
                    refine qc_goto E_L_law 2116 dL_law_1046 (by decide) ?_
                    refine qc_iinc E_L_law 7 rfl (by decide) (by decide) dL_law_2116 ?_
                    refine qc_goto E_L_law 23 dL_law_2119 (by decide) ?_
                    exact h
                  · replace h := h.2 c219
                    refine qc_iconst E_L_law 0 (by decide) dL_law_1044 ?_
                    exact qc_zret E_L_law rfl (qm_nb (Or.inl rfl)) dL_law_1045 (Or.inl (⟨_, rfl, (Or.inl rfl), h⟩)))
                clear jz
                refine qc_if_eq E_L_law 1039 dL_law_1032 (by decide) (fun (c216 : r208 = 0) => ?_) (fun (c216 : ¬ r208 = 0) => ?_)
                · replace h := h.1 c216
                  refine qc_lconst E_L_law (0 : Int64) rfl dL_law_1039 ?_
                  refine qc_drop 5 ?_
                  refine qc_drop 6 ?_
                  exact h
                · replace h := h.2 c216
                  refine qc_lconst E_L_law (1 : Int64) rfl dL_law_1035 ?_
                  refine qc_goto E_L_law 1040 dL_law_1036 (by decide) ?_
                  refine qc_drop 5 ?_
                  refine qc_drop 6 ?_
                  exact h
            · replace h := h.2 c213
              refine qc_iconst E_L_law 0 (by decide) dL_law_1020 ?_
              exact qc_zret E_L_law rfl (qm_nb (Or.inl rfl)) dL_law_1021 (Or.inl (⟨_, rfl, (Or.inl rfl), h⟩)))
          clear jz
          refine qc_if_eq E_L_law 1005 dL_law_998 (by decide) (fun (c205 : v204 = 0) => ?_) (fun (c205 : ¬ v204 = 0) => ?_)
          · replace h := h.1 c205
            refine qc_iconst E_L_law 0 (by decide) dL_law_1005 ?_
            exact h
          · replace h := h.2 c205
            refine qc_iconst E_L_law 1 (by decide) dL_law_1001 ?_
            refine qc_goto E_L_law 1006 dL_law_1002 (by decide) ?_
            exact h
        · revert tz; rintro h201 ⟨Ez, rfl, h⟩
          refine K1_x ?_
          exact qc_out (by decide) (Or.inr ⟨_, rfl, h⟩))
      clear jz
      refine qc_if_eq E_L_law 972 dL_law_965 (by decide) (fun (c194 : v193 = 0) => ?_) (fun (c194 : ¬ v193 = 0) => ?_)
      · replace h := h.1 c194
        refine qc_iconst E_L_law 0 (by decide) dL_law_972 ?_
        exact h
      · replace h := h.2 c194
        refine qc_iconst E_L_law 1 (by decide) dL_law_968 ?_
        refine qc_goto E_L_law 973 dL_law_969 (by decide) ?_
        exact h
    by_cases s12_ : (v7 &&& 63) = 12
    · replace h := h.2.2.2.2.2.2.2.2.2.2.2.2.1 s12_
      refine qc_tableIn E_L_law 1049 dL_law_40 (by rw [s12_]; decide) (by rw [s12_]; decide) (by rw [s12_]; rfl) (by decide) ?_
      refine qc_aload_n E_L_law (by rfl) dL_law_1049 ?_
      refine qc_aload_n E_L_law (by rfl) dL_law_1050 ?_
      refine qc_iload E_L_law (by rfl) dL_law_1051 ?_
      refine qc_iconst E_L_law 1 (by decide) dL_law_1053 ?_
      refine qc_iadd E_L_law dL_law_1054 ?_
      refine re_sald E_L_law hS dL_law_1055 h ?_
      clear h
      intro v220 h
      refine qc_aload_n E_L_law (by rfl) dL_law_1056 ?_
      obtain ⟨c222, k221, rfl, h⟩ := h
      refine qc_callSX (c := c222) (k := k221) (As := [.ref a1, .int v220, .ref a3]) (rest := []) E_L_law rfl M_X0_pass rfl q1129 q1130 rfl rfl (Nat.le_of_ble_eq_true rfl) dL_law_1057 (qc_S.mono ?_ (C_X0_pass (d := d + 7) hO hP hX a1 v220 a3 h3 k221 _ _ h))
      clear h
      rintro _ tz (hz | hz)
      · revert tz; rintro h224 ⟨r223, rfl, h⟩
        refine K1_i ?_
        refine qc_istore E_L_law (by decide) dL_law_1060 ?_
        refine qc_aload_n E_L_law (by rfl) dL_law_1062 ?_
        refine qc_aload_n E_L_law (by rfl) dL_law_1063 ?_
        refine qc_iload E_L_law (by rfl) dL_law_1064 ?_
        refine qc_iconst E_L_law 1 (by decide) dL_law_1066 ?_
        refine qc_iadd E_L_law dL_law_1067 ?_
        refine re_sald E_L_law hS dL_law_1068 h ?_
        clear h
        intro v226 h
        obtain ⟨⟨fz, hb⟩, h⟩ := h
        refine qc_callV (c := c222) (k := 0) (As := [.int v226]) (rest := []) hO E_L_law rfl M_X8_pass rfl q2061 q2062 q2063 (ci := 7) rfl rfl hb rfl rfl (Nat.le_of_ble_eq_true rfl) dL_law_1069 (qc_S.mono ?_ (C8_pass (d := d + 13) hO hP a2 v226 h224 _ h))
        clear h
        clear hb
        rintro _ h228 ⟨r227, rfl, h⟩
        refine K1_i ?_
        refine qc_istore E_L_law (by decide) dL_law_1072 ?_
        refine qc_aload_n E_L_law (by rfl) dL_law_1074 ?_
        obtain ⟨⟨fz, hb⟩, h⟩ := h
        refine qc_callV (c := c222) (k := 0) (As := []) (rest := []) hO E_L_law rfl M_X8_thrown rfl q1940 q1941 q1942 (ci := 7) rfl rfl hb rfl rfl (Nat.le_of_ble_eq_true rfl) dL_law_1075 (qc_S.mono ?_ (C8_thrown (d := d + 16) hO hP a2 h228 _ h))
        clear h
        clear hb
        rintro _ h230 ⟨r229, rfl, h⟩
        refine K1_i ?_
        refine qc_iload E_L_law (by rfl) dL_law_1078 ?_
        refine qc_icmp_eq E_L_law 1085 dL_law_1080 (by decide) (fun (c231 : r229 = r223) => ?_) (fun (c231 : ¬ r229 = r223) => ?_)
        · replace h := h.1 c231
          refine qc_iload E_L_law (by rfl) dL_law_1085 ?_
          refine qc_if_ne E_L_law 1102 dL_law_1087 (by decide) (fun (c232 : ¬ r223 = 0) => ?_) (fun (c232 : r223 = 0) => ?_)
          · replace h := h.1 c232
            refine qc_goto E_L_law 2116 dL_law_1102 (by decide) ?_
            refine qc_iinc E_L_law 7 rfl (by decide) (by decide) dL_law_2116 ?_
            refine qc_goto E_L_law 23 dL_law_2119 (by decide) ?_
            refine qc_drop 5 ?_
            refine qc_drop 6 ?_
            exact h
          · replace h := h.2 c232
            refine qc_aload_n E_L_law (by rfl) dL_law_1090 ?_
            refine qc_iconst E_L_law 0 (by decide) dL_law_1091 ?_
            refine re_lald E_L_law dL_law_1092 h ?_
            clear h
            intro v233 h
            refine qc_iload E_L_law (by rfl) dL_law_1093 ?_
            refine qc_i2l E_L_law dL_law_1095 ?_
            refine qc_lcmp E_L_law dL_law_1096 ?_
            refine qc_if_eq E_L_law 1102 dL_law_1097 (by decide) (fun (c234 : (lg_cmp v233 (Int32.toInt64 r227)) = 0) => ?_) (fun (c234 : ¬ (lg_cmp v233 (Int32.toInt64 r227)) = 0) => ?_)
            · replace h := h.1 c234
              refine qc_goto E_L_law 2116 dL_law_1102 (by decide) ?_
              refine qc_iinc E_L_law 7 rfl (by decide) (by decide) dL_law_2116 ?_
              refine qc_goto E_L_law 23 dL_law_2119 (by decide) ?_
              refine qc_drop 5 ?_
              refine qc_drop 6 ?_
              exact h
            · replace h := h.2 c234
              refine qc_iconst E_L_law 0 (by decide) dL_law_1100 ?_
              exact qc_zret E_L_law rfl (qm_nb (Or.inl rfl)) dL_law_1101 (Or.inl (⟨_, rfl, (Or.inl rfl), h⟩))
        · replace h := h.2 c231
          refine qc_iconst E_L_law 0 (by decide) dL_law_1083 ?_
          exact qc_zret E_L_law rfl (qm_nb (Or.inl rfl)) dL_law_1084 (Or.inl (⟨_, rfl, (Or.inl rfl), h⟩))
      · revert tz; rintro h225 ⟨Ez, rfl, h⟩
        refine K1_x ?_
        exact qc_out (by decide) (Or.inr ⟨_, rfl, h⟩)
    by_cases s13_ : (v7 &&& 63) = 13
    · replace h := h.2.2.2.2.2.2.2.2.2.2.2.2.2.1 s13_
      refine qc_tableIn E_L_law 1105 dL_law_40 (by rw [s13_]; decide) (by rw [s13_]; decide) (by rw [s13_]; rfl) (by decide) ?_
      refine qc_aload_n E_L_law (by rfl) dL_law_1105 ?_
      obtain ⟨⟨fz, hb⟩, h⟩ := h
      refine qc_callV (c := c4) (k := 0) (As := []) (rest := []) hO E_L_law rfl M_X1_now rfl q358 q359 q360 (ci := 0) rfl rfl hb rfl rfl (Nat.le_of_ble_eq_true rfl) dL_law_1106 (qc_S.mono ?_ (C_X1_now (d := d + 16) hO hP a1 h3 _ h))
      clear h
      clear hb
      rintro _ _ ⟨r235, rfl, rfl, h⟩
      refine K1_i ?_
      refine qc_aload_n E_L_law (by rfl) dL_law_1109 ?_
      obtain ⟨⟨fz, hb⟩, h⟩ := h
      refine qc_callV (c := c4) (k := 0) (As := []) (rest := [.int r235]) hO E_L_law rfl M_X8_now rfl q2069 q2070 q2071 (ci := 7) rfl rfl hb rfl rfl (Nat.le_of_ble_eq_true rfl) dL_law_1110 (qc_S.mono ?_ (C8_now (d := d + 16) hO hP a2 h3 _ h))
      clear h
      clear hb
      rintro _ h237 ⟨r236, rfl, h⟩
      refine K1_i ?_
      refine qc_icmp_eq E_L_law 2116 dL_law_1113 (by decide) (fun (c238 : r235 = r236) => ?_) (fun (c238 : ¬ r235 = r236) => ?_)
      · replace h := h.1 c238
        refine qc_iinc E_L_law 7 rfl (by decide) (by decide) dL_law_2116 ?_
        refine qc_goto E_L_law 23 dL_law_2119 (by decide) ?_
        exact h
      · replace h := h.2 c238
        refine qc_iconst E_L_law 0 (by decide) dL_law_1116 ?_
        exact qc_zret E_L_law rfl (qm_nb (Or.inl rfl)) dL_law_1117 (Or.inl (⟨_, rfl, (Or.inl rfl), h⟩))
    by_cases s14_ : (v7 &&& 63) = 14
    · replace h := h.2.2.2.2.2.2.2.2.2.2.2.2.2.2.1 s14_
      refine qc_tableIn E_L_law 1118 dL_law_40 (by rw [s14_]; decide) (by rw [s14_]; decide) (by rw [s14_]; rfl) (by decide) ?_
      refine qc_aload_n E_L_law (by rfl) dL_law_1118 ?_
      refine qc_aload_n E_L_law (by rfl) dL_law_1119 ?_
      refine qc_iload E_L_law (by rfl) dL_law_1120 ?_
      refine qc_iconst E_L_law 1 (by decide) dL_law_1122 ?_
      refine qc_iadd E_L_law dL_law_1123 ?_
      refine re_sald E_L_law hS dL_law_1124 h ?_
      clear h
      intro v239 h
      refine qc_aload_n E_L_law (by rfl) dL_law_1125 ?_
      obtain ⟨c241, k240, rfl, h⟩ := h
      refine qc_callSX (c := c241) (k := k240) (As := [.ref a1, .int v239, .ref a3]) (rest := []) E_L_law rfl M_X0_seat rfl q1136 q1137 rfl rfl (Nat.le_of_ble_eq_true rfl) dL_law_1126 (qc_S.mono ?_ (C_X0_seat (d := d + 9) hO hP hX a1 v239 a3 h3 k240 _ _ h))
      clear h
      rintro _ tz (hz | hz)
      · revert tz; rintro h243 ⟨r242, rfl, h⟩
        refine K1_i ?_
        refine qc_istore E_L_law (by decide) dL_law_1129 ?_
        refine qc_aload_n E_L_law (by rfl) dL_law_1131 ?_
        refine qc_aload_n E_L_law (by rfl) dL_law_1132 ?_
        refine qc_iload E_L_law (by rfl) dL_law_1133 ?_
        refine qc_iconst E_L_law 1 (by decide) dL_law_1135 ?_
        refine qc_iadd E_L_law dL_law_1136 ?_
        refine re_sald E_L_law hS dL_law_1137 h ?_
        clear h
        intro v245 h
        obtain ⟨⟨fz, hb⟩, h⟩ := h
        refine qc_callV (c := c241) (k := 0) (As := [.int v245]) (rest := []) hO E_L_law rfl M_X8_seat rfl q2073 q2074 q2075 (ci := 7) rfl rfl hb rfl rfl (Nat.le_of_ble_eq_true rfl) dL_law_1138 (qc_S.mono ?_ (C8_seat (d := d + 14) hO hP a2 v245 h243 _ h))
        clear h
        clear hb
        rintro _ h247 ⟨r246, rfl, h⟩
        refine K1_i ?_
        refine qc_istore E_L_law (by decide) dL_law_1141 ?_
        refine qc_aload_n E_L_law (by rfl) dL_law_1143 ?_
        obtain ⟨⟨fz, hb⟩, h⟩ := h
        refine qc_callV (c := c241) (k := 0) (As := []) (rest := []) hO E_L_law rfl M_X8_thrown rfl q1940 q1941 q1942 (ci := 7) rfl rfl hb rfl rfl (Nat.le_of_ble_eq_true rfl) dL_law_1144 (qc_S.mono ?_ (C8_thrown (d := d + 16) hO hP a2 h247 _ h))
        clear h
        clear hb
        rintro _ h249 ⟨r248, rfl, h⟩
        refine K1_i ?_
        refine qc_iload E_L_law (by rfl) dL_law_1147 ?_
        refine qc_icmp_eq E_L_law 1154 dL_law_1149 (by decide) (fun (c250 : r248 = r242) => ?_) (fun (c250 : ¬ r248 = r242) => ?_)
        · replace h := h.1 c250
          refine qc_iload E_L_law (by rfl) dL_law_1154 ?_
          refine qc_if_ne E_L_law 1171 dL_law_1156 (by decide) (fun (c251 : ¬ r242 = 0) => ?_) (fun (c251 : r242 = 0) => ?_)
          · replace h := h.1 c251
            refine qc_goto E_L_law 2116 dL_law_1171 (by decide) ?_
            refine qc_iinc E_L_law 7 rfl (by decide) (by decide) dL_law_2116 ?_
            refine qc_goto E_L_law 23 dL_law_2119 (by decide) ?_
            refine qc_drop 5 ?_
            refine qc_drop 6 ?_
            exact h
          · replace h := h.2 c251
            refine qc_aload_n E_L_law (by rfl) dL_law_1159 ?_
            refine qc_iconst E_L_law 0 (by decide) dL_law_1160 ?_
            refine re_lald E_L_law dL_law_1161 h ?_
            clear h
            intro v252 h
            refine qc_iload E_L_law (by rfl) dL_law_1162 ?_
            refine qc_i2l E_L_law dL_law_1164 ?_
            refine qc_lcmp E_L_law dL_law_1165 ?_
            refine qc_if_eq E_L_law 1171 dL_law_1166 (by decide) (fun (c253 : (lg_cmp v252 (Int32.toInt64 r246)) = 0) => ?_) (fun (c253 : ¬ (lg_cmp v252 (Int32.toInt64 r246)) = 0) => ?_)
            · replace h := h.1 c253
              refine qc_goto E_L_law 2116 dL_law_1171 (by decide) ?_
              refine qc_iinc E_L_law 7 rfl (by decide) (by decide) dL_law_2116 ?_
              refine qc_goto E_L_law 23 dL_law_2119 (by decide) ?_
              refine qc_drop 5 ?_
              refine qc_drop 6 ?_
              exact h
            · replace h := h.2 c253
              refine qc_iconst E_L_law 0 (by decide) dL_law_1169 ?_
              exact qc_zret E_L_law rfl (qm_nb (Or.inl rfl)) dL_law_1170 (Or.inl (⟨_, rfl, (Or.inl rfl), h⟩))
        · replace h := h.2 c250
          refine qc_iconst E_L_law 0 (by decide) dL_law_1152 ?_
          exact qc_zret E_L_law rfl (qm_nb (Or.inl rfl)) dL_law_1153 (Or.inl (⟨_, rfl, (Or.inl rfl), h⟩))
      · revert tz; rintro h244 ⟨Ez, rfl, h⟩
        refine K1_x ?_
        exact qc_out (by decide) (Or.inr ⟨_, rfl, h⟩)
    by_cases s15_ : (v7 &&& 63) = 15
    · replace h := h.2.2.2.2.2.2.2.2.2.2.2.2.2.2.2.1 s15_
      refine qc_tableIn E_L_law 1174 dL_law_40 (by rw [s15_]; decide) (by rw [s15_]; decide) (by rw [s15_]; rfl) (by decide) ?_
      refine qc_aload_n E_L_law (by rfl) dL_law_1174 ?_
      refine qc_aload_n E_L_law (by rfl) dL_law_1175 ?_
      refine qc_iload E_L_law (by rfl) dL_law_1176 ?_
      refine qc_iconst E_L_law 1 (by decide) dL_law_1178 ?_
      refine qc_iadd E_L_law dL_law_1179 ?_
      refine re_sald E_L_law hS dL_law_1180 h ?_
      clear h
      intro v254 h
      refine qc_aload_n E_L_law (by rfl) dL_law_1181 ?_
      refine qc_iload E_L_law (by rfl) dL_law_1182 ?_
      refine qc_iconst E_L_law 2 (by decide) dL_law_1184 ?_
      refine qc_iadd E_L_law dL_law_1185 ?_
      refine re_sald E_L_law hS dL_law_1186 h ?_
      clear h
      intro v255 h
      refine qc_aload_n E_L_law (by rfl) dL_law_1187 ?_
      refine qc_iload E_L_law (by rfl) dL_law_1188 ?_
      refine qc_iconst E_L_law 3 (by decide) dL_law_1190 ?_
      refine qc_iadd E_L_law dL_law_1191 ?_
      refine re_sald E_L_law hS dL_law_1192 h ?_
      clear h
      intro v256 h
      refine qc_aload_n E_L_law (by rfl) dL_law_1193 ?_
      refine qc_iload E_L_law (by rfl) dL_law_1194 ?_
      refine qc_iconst E_L_law 4 (by decide) dL_law_1196 ?_
      refine qc_iadd E_L_law dL_law_1197 ?_
      refine re_sald E_L_law hS dL_law_1198 h ?_
      clear h
      intro v257 h
      refine qc_aload_n E_L_law (by rfl) dL_law_1199 ?_
      obtain ⟨c259, k258, rfl, h⟩ := h
      refine qc_callSX (c := c259) (k := k258) (As := [.ref a1, .int v254, .int v255, .int v256, .int v257, .ref a3]) (rest := []) E_L_law rfl M_X0_link rfl q1143 q1144 rfl rfl (Nat.le_of_ble_eq_true rfl) dL_law_1200 (qc_S.mono ?_ (C_X0_link (d := d + 7) hO hP hX a1 v254 v255 v256 v257 a3 h3 k258 _ _ h))
      clear h
      rintro _ tz (hz | hz)
      · revert tz; rintro h261 ⟨r260, rfl, h⟩
        refine K1_i ?_
        refine qc_istore E_L_law (by decide) dL_law_1203 ?_
        refine qc_aload_n E_L_law (by rfl) dL_law_1205 ?_
        refine qc_aload_n E_L_law (by rfl) dL_law_1206 ?_
        refine qc_iload E_L_law (by rfl) dL_law_1207 ?_
        refine qc_iconst E_L_law 1 (by decide) dL_law_1209 ?_
        refine qc_iadd E_L_law dL_law_1210 ?_
        refine re_sald E_L_law hS dL_law_1211 h ?_
        clear h
        intro v263 h
        refine qc_aload_n E_L_law (by rfl) dL_law_1212 ?_
        refine qc_iload E_L_law (by rfl) dL_law_1213 ?_
        refine qc_iconst E_L_law 2 (by decide) dL_law_1215 ?_
        refine qc_iadd E_L_law dL_law_1216 ?_
        refine re_sald E_L_law hS dL_law_1217 h ?_
        clear h
        intro v264 h
        refine qc_aload_n E_L_law (by rfl) dL_law_1218 ?_
        refine qc_iload E_L_law (by rfl) dL_law_1219 ?_
        refine qc_iconst E_L_law 3 (by decide) dL_law_1221 ?_
        refine qc_iadd E_L_law dL_law_1222 ?_
        refine re_sald E_L_law hS dL_law_1223 h ?_
        clear h
        intro v265 h
        refine qc_aload_n E_L_law (by rfl) dL_law_1224 ?_
        refine qc_iload E_L_law (by rfl) dL_law_1225 ?_
        refine qc_iconst E_L_law 4 (by decide) dL_law_1227 ?_
        refine qc_iadd E_L_law dL_law_1228 ?_
        refine re_sald E_L_law hS dL_law_1229 h ?_
        clear h
        intro v266 h
        obtain ⟨⟨fz, hb⟩, h⟩ := h
        refine qc_callV (c := c259) (k := 0) (As := [.int v263, .int v264, .int v265, .int v266]) (rest := []) hO E_L_law rfl M_X8_link rfl q2077 q2078 q2079 (ci := 7) rfl rfl hb rfl rfl (Nat.le_of_ble_eq_true rfl) dL_law_1230 (qc_S.mono ?_ (C8_link (d := d + 13) hO hP a2 v263 v264 v265 v266 h261 _ h))
        clear h
        clear hb
        rintro _ h268 ⟨r267, rfl, h⟩
        refine K1_i ?_
        refine qc_istore E_L_law (by decide) dL_law_1233 ?_
        refine qc_aload_n E_L_law (by rfl) dL_law_1235 ?_
        obtain ⟨⟨fz, hb⟩, h⟩ := h
        refine qc_callV (c := c259) (k := 0) (As := []) (rest := []) hO E_L_law rfl M_X8_thrown rfl q1940 q1941 q1942 (ci := 7) rfl rfl hb rfl rfl (Nat.le_of_ble_eq_true rfl) dL_law_1236 (qc_S.mono ?_ (C8_thrown (d := d + 16) hO hP a2 h268 _ h))
        clear h
        clear hb
        rintro _ h270 ⟨r269, rfl, h⟩
        refine K1_i ?_
        refine qc_iload E_L_law (by rfl) dL_law_1239 ?_
        refine qc_icmp_eq E_L_law 1246 dL_law_1241 (by decide) (fun (c271 : r269 = r260) => ?_) (fun (c271 : ¬ r269 = r260) => ?_)
        · replace h := h.1 c271
          refine qc_iload E_L_law (by rfl) dL_law_1246 ?_
          refine qc_if_ne E_L_law 1263 dL_law_1248 (by decide) (fun (c272 : ¬ r260 = 0) => ?_) (fun (c272 : r260 = 0) => ?_)
          · replace h := h.1 c272
            refine qc_goto E_L_law 2116 dL_law_1263 (by decide) ?_
            refine qc_iinc E_L_law 7 rfl (by decide) (by decide) dL_law_2116 ?_
            refine qc_goto E_L_law 23 dL_law_2119 (by decide) ?_
            refine qc_drop 5 ?_
            refine qc_drop 6 ?_
            exact h
          · replace h := h.2 c272
            refine qc_aload_n E_L_law (by rfl) dL_law_1251 ?_
            refine qc_iconst E_L_law 0 (by decide) dL_law_1252 ?_
            refine re_lald E_L_law dL_law_1253 h ?_
            clear h
            intro v273 h
            refine qc_iload E_L_law (by rfl) dL_law_1254 ?_
            refine qc_i2l E_L_law dL_law_1256 ?_
            refine qc_lcmp E_L_law dL_law_1257 ?_
            refine qc_if_eq E_L_law 1263 dL_law_1258 (by decide) (fun (c274 : (lg_cmp v273 (Int32.toInt64 r267)) = 0) => ?_) (fun (c274 : ¬ (lg_cmp v273 (Int32.toInt64 r267)) = 0) => ?_)
            · replace h := h.1 c274
              refine qc_goto E_L_law 2116 dL_law_1263 (by decide) ?_
              refine qc_iinc E_L_law 7 rfl (by decide) (by decide) dL_law_2116 ?_
              refine qc_goto E_L_law 23 dL_law_2119 (by decide) ?_
              refine qc_drop 5 ?_
              refine qc_drop 6 ?_
              exact h
            · replace h := h.2 c274
              refine qc_iconst E_L_law 0 (by decide) dL_law_1261 ?_
              exact qc_zret E_L_law rfl (qm_nb (Or.inl rfl)) dL_law_1262 (Or.inl (⟨_, rfl, (Or.inl rfl), h⟩))
        · replace h := h.2 c271
          refine qc_iconst E_L_law 0 (by decide) dL_law_1244 ?_
          exact qc_zret E_L_law rfl (qm_nb (Or.inl rfl)) dL_law_1245 (Or.inl (⟨_, rfl, (Or.inl rfl), h⟩))
      · revert tz; rintro h262 ⟨Ez, rfl, h⟩
        refine K1_x ?_
        exact qc_out (by decide) (Or.inr ⟨_, rfl, h⟩)
    by_cases s16_ : (v7 &&& 63) = 16
    · replace h := h.2.2.2.2.2.2.2.2.2.2.2.2.2.2.2.2.1 s16_
      refine qc_tableIn E_L_law 1266 dL_law_40 (by rw [s16_]; decide) (by rw [s16_]; decide) (by rw [s16_]; rfl) (by decide) ?_
      refine qc_aload_n E_L_law (by rfl) dL_law_1266 ?_
      refine qc_aload_n E_L_law (by rfl) dL_law_1267 ?_
      refine qc_iload E_L_law (by rfl) dL_law_1268 ?_
      refine qc_iconst E_L_law 1 (by decide) dL_law_1270 ?_
      refine qc_iadd E_L_law dL_law_1271 ?_
      refine re_sald E_L_law hS dL_law_1272 h ?_
      clear h
      intro v275 h
      refine qc_aload_n E_L_law (by rfl) dL_law_1273 ?_
      refine qc_iload E_L_law (by rfl) dL_law_1274 ?_
      refine qc_iconst E_L_law 2 (by decide) dL_law_1276 ?_
      refine qc_iadd E_L_law dL_law_1277 ?_
      refine re_sald E_L_law hS dL_law_1278 h ?_
      clear h
      intro v276 h
      refine qc_aload_n E_L_law (by rfl) dL_law_1279 ?_
      refine qc_iload E_L_law (by rfl) dL_law_1280 ?_
      refine qc_iconst E_L_law 3 (by decide) dL_law_1282 ?_
      refine qc_iadd E_L_law dL_law_1283 ?_
      refine re_sald E_L_law hS dL_law_1284 h ?_
      clear h
      intro v277 h
      refine qc_aload_n E_L_law (by rfl) dL_law_1285 ?_
      refine qc_iload E_L_law (by rfl) dL_law_1286 ?_
      refine qc_iconst E_L_law 4 (by decide) dL_law_1288 ?_
      refine qc_iadd E_L_law dL_law_1289 ?_
      refine re_sald E_L_law hS dL_law_1290 h ?_
      clear h
      intro v278 h
      refine qc_aload_n E_L_law (by rfl) dL_law_1291 ?_
      obtain ⟨c280, k279, rfl, h⟩ := h
      refine qc_callSX (c := c280) (k := k279) (As := [.ref a1, .int v275, .int v276, .int v277, .int v278, .ref a3]) (rest := []) E_L_law rfl M_X0_where rfl q1184 q1185 rfl rfl (Nat.le_of_ble_eq_true rfl) dL_law_1292 (qc_S.mono ?_ (C_X0_where (d := d + 7) hO hP hX a1 v275 v276 v277 v278 a3 h3 k279 _ _ h))
      clear h
      rintro _ tz (hz | hz)
      · revert tz; rintro h282 ⟨r281, rfl, h⟩
        refine K1_i ?_
        refine qc_istore E_L_law (by decide) dL_law_1295 ?_
        refine qc_aload_n E_L_law (by rfl) dL_law_1297 ?_
        refine qc_aload_n E_L_law (by rfl) dL_law_1298 ?_
        refine qc_iload E_L_law (by rfl) dL_law_1299 ?_
        refine qc_iconst E_L_law 1 (by decide) dL_law_1301 ?_
        refine qc_iadd E_L_law dL_law_1302 ?_
        refine re_sald E_L_law hS dL_law_1303 h ?_
        clear h
        intro v284 h
        refine qc_aload_n E_L_law (by rfl) dL_law_1304 ?_
        refine qc_iload E_L_law (by rfl) dL_law_1305 ?_
        refine qc_iconst E_L_law 2 (by decide) dL_law_1307 ?_
        refine qc_iadd E_L_law dL_law_1308 ?_
        refine re_sald E_L_law hS dL_law_1309 h ?_
        clear h
        intro v285 h
        refine qc_aload_n E_L_law (by rfl) dL_law_1310 ?_
        refine qc_iload E_L_law (by rfl) dL_law_1311 ?_
        refine qc_iconst E_L_law 3 (by decide) dL_law_1313 ?_
        refine qc_iadd E_L_law dL_law_1314 ?_
        refine re_sald E_L_law hS dL_law_1315 h ?_
        clear h
        intro v286 h
        refine qc_aload_n E_L_law (by rfl) dL_law_1316 ?_
        refine qc_iload E_L_law (by rfl) dL_law_1317 ?_
        refine qc_iconst E_L_law 4 (by decide) dL_law_1319 ?_
        refine qc_iadd E_L_law dL_law_1320 ?_
        refine re_sald E_L_law hS dL_law_1321 h ?_
        clear h
        intro v287 h
        obtain ⟨⟨fz, hb⟩, h⟩ := h
        refine qc_callV (c := c280) (k := 0) (As := [.int v284, .int v285, .int v286, .int v287]) (rest := []) hO E_L_law rfl M_X8_where rfl q2089 q2090 q2091 (ci := 7) rfl rfl hb rfl rfl (Nat.le_of_ble_eq_true rfl) dL_law_1322 (qc_S.mono ?_ (C8_where (d := d + 13) hO hP a2 v284 v285 v286 v287 h282 _ h))
        clear h
        clear hb
        rintro _ h289 ⟨r288, rfl, h⟩
        refine K1_i ?_
        refine qc_istore E_L_law (by decide) dL_law_1325 ?_
        refine qc_aload_n E_L_law (by rfl) dL_law_1327 ?_
        obtain ⟨⟨fz, hb⟩, h⟩ := h
        refine qc_callV (c := c280) (k := 0) (As := []) (rest := []) hO E_L_law rfl M_X8_thrown rfl q1940 q1941 q1942 (ci := 7) rfl rfl hb rfl rfl (Nat.le_of_ble_eq_true rfl) dL_law_1328 (qc_S.mono ?_ (C8_thrown (d := d + 16) hO hP a2 h289 _ h))
        clear h
        clear hb
        rintro _ h291 ⟨r290, rfl, h⟩
        refine K1_i ?_
        refine qc_iload E_L_law (by rfl) dL_law_1331 ?_
        refine qc_icmp_eq E_L_law 1338 dL_law_1333 (by decide) (fun (c292 : r290 = r281) => ?_) (fun (c292 : ¬ r290 = r281) => ?_)
        · replace h := h.1 c292
          refine qc_iload E_L_law (by rfl) dL_law_1338 ?_
          refine qc_if_ne E_L_law 1355 dL_law_1340 (by decide) (fun (c293 : ¬ r281 = 0) => ?_) (fun (c293 : r281 = 0) => ?_)
          · replace h := h.1 c293
            refine qc_goto E_L_law 2116 dL_law_1355 (by decide) ?_
            refine qc_iinc E_L_law 7 rfl (by decide) (by decide) dL_law_2116 ?_
            refine qc_goto E_L_law 23 dL_law_2119 (by decide) ?_
            refine qc_drop 5 ?_
            refine qc_drop 6 ?_
            exact h
          · replace h := h.2 c293
            refine qc_aload_n E_L_law (by rfl) dL_law_1343 ?_
            refine qc_iconst E_L_law 0 (by decide) dL_law_1344 ?_
            refine re_lald E_L_law dL_law_1345 h ?_
            clear h
            intro v294 h
            refine qc_iload E_L_law (by rfl) dL_law_1346 ?_
            refine qc_i2l E_L_law dL_law_1348 ?_
            refine qc_lcmp E_L_law dL_law_1349 ?_
            refine qc_if_eq E_L_law 1355 dL_law_1350 (by decide) (fun (c295 : (lg_cmp v294 (Int32.toInt64 r288)) = 0) => ?_) (fun (c295 : ¬ (lg_cmp v294 (Int32.toInt64 r288)) = 0) => ?_)
            · replace h := h.1 c295
              refine qc_goto E_L_law 2116 dL_law_1355 (by decide) ?_
              refine qc_iinc E_L_law 7 rfl (by decide) (by decide) dL_law_2116 ?_
              refine qc_goto E_L_law 23 dL_law_2119 (by decide) ?_
              refine qc_drop 5 ?_
              refine qc_drop 6 ?_
              exact h
            · replace h := h.2 c295
              refine qc_iconst E_L_law 0 (by decide) dL_law_1353 ?_
              exact qc_zret E_L_law rfl (qm_nb (Or.inl rfl)) dL_law_1354 (Or.inl (⟨_, rfl, (Or.inl rfl), h⟩))
        · replace h := h.2 c292
          refine qc_iconst E_L_law 0 (by decide) dL_law_1336 ?_
          exact qc_zret E_L_law rfl (qm_nb (Or.inl rfl)) dL_law_1337 (Or.inl (⟨_, rfl, (Or.inl rfl), h⟩))
      · revert tz; rintro h283 ⟨Ez, rfl, h⟩
        refine K1_x ?_
        exact qc_out (by decide) (Or.inr ⟨_, rfl, h⟩)
    by_cases s17_ : (v7 &&& 63) = 17
    · replace h := h.2.2.2.2.2.2.2.2.2.2.2.2.2.2.2.2.2.1 s17_
      refine qc_tableIn E_L_law 1358 dL_law_40 (by rw [s17_]; decide) (by rw [s17_]; decide) (by rw [s17_]; rfl) (by decide) ?_
      refine qc_aload_n E_L_law (by rfl) dL_law_1358 ?_
      refine qc_aload_n E_L_law (by rfl) dL_law_1359 ?_
      refine qc_iload E_L_law (by rfl) dL_law_1360 ?_
      refine qc_iconst E_L_law 1 (by decide) dL_law_1362 ?_
      refine qc_iadd E_L_law dL_law_1363 ?_
      refine re_sald E_L_law hS dL_law_1364 h ?_
      clear h
      intro v296 h
      refine qc_aload_n E_L_law (by rfl) dL_law_1365 ?_
      refine qc_iload E_L_law (by rfl) dL_law_1366 ?_
      refine qc_iconst E_L_law 2 (by decide) dL_law_1368 ?_
      refine qc_iadd E_L_law dL_law_1369 ?_
      refine re_sald E_L_law hS dL_law_1370 h ?_
      clear h
      intro v297 h
      refine qc_aload_n E_L_law (by rfl) dL_law_1371 ?_
      obtain ⟨c299, k298, rfl, h⟩ := h
      refine qc_callSX (c := c299) (k := k298) (As := [.ref a1, .int v296, .int v297, .ref a3]) (rest := []) E_L_law rfl M_X0_out rfl q1214 q1215 rfl rfl (Nat.le_of_ble_eq_true rfl) dL_law_1372 (qc_S.mono ?_ (C_X0_out (d := d + 7) hO hP hX a1 v296 v297 a3 h3 k298 _ _ h))
      clear h
      rintro _ tz (hz | hz)
      · revert tz; rintro h301 ⟨r300, rfl, h⟩
        refine K1_i ?_
        refine qc_istore E_L_law (by decide) dL_law_1375 ?_
        refine qc_aload_n E_L_law (by rfl) dL_law_1377 ?_
        refine qc_aload_n E_L_law (by rfl) dL_law_1378 ?_
        refine qc_iload E_L_law (by rfl) dL_law_1379 ?_
        refine qc_iconst E_L_law 1 (by decide) dL_law_1381 ?_
        refine qc_iadd E_L_law dL_law_1382 ?_
        refine re_sald E_L_law hS dL_law_1383 h ?_
        clear h
        intro v303 h
        refine qc_aload_n E_L_law (by rfl) dL_law_1384 ?_
        refine qc_iload E_L_law (by rfl) dL_law_1385 ?_
        refine qc_iconst E_L_law 2 (by decide) dL_law_1387 ?_
        refine qc_iadd E_L_law dL_law_1388 ?_
        refine re_sald E_L_law hS dL_law_1389 h ?_
        clear h
        intro v304 h
        obtain ⟨⟨fz, hb⟩, h⟩ := h
        refine qc_callV (c := c299) (k := 0) (As := [.int v303, .int v304]) (rest := []) hO E_L_law rfl M_X8_out rfl q2093 q2094 q2095 (ci := 7) rfl rfl hb rfl rfl (Nat.le_of_ble_eq_true rfl) dL_law_1390 (qc_S.mono ?_ (C8_out (d := d + 13) hO hP a2 v303 v304 h301 _ h))
        clear h
        clear hb
        rintro _ h306 ⟨r305, rfl, h⟩
        refine K1_i ?_
        refine qc_istore E_L_law (by decide) dL_law_1393 ?_
        refine qc_aload_n E_L_law (by rfl) dL_law_1395 ?_
        obtain ⟨⟨fz, hb⟩, h⟩ := h
        refine qc_callV (c := c299) (k := 0) (As := []) (rest := []) hO E_L_law rfl M_X8_thrown rfl q1940 q1941 q1942 (ci := 7) rfl rfl hb rfl rfl (Nat.le_of_ble_eq_true rfl) dL_law_1396 (qc_S.mono ?_ (C8_thrown (d := d + 16) hO hP a2 h306 _ h))
        clear h
        clear hb
        rintro _ h308 ⟨r307, rfl, h⟩
        refine K1_i ?_
        refine qc_iload E_L_law (by rfl) dL_law_1399 ?_
        refine qc_icmp_eq E_L_law 1406 dL_law_1401 (by decide) (fun (c309 : r307 = r300) => ?_) (fun (c309 : ¬ r307 = r300) => ?_)
        · replace h := h.1 c309
          refine qc_iload E_L_law (by rfl) dL_law_1406 ?_
          refine qc_if_ne E_L_law 1423 dL_law_1408 (by decide) (fun (c310 : ¬ r300 = 0) => ?_) (fun (c310 : r300 = 0) => ?_)
          · replace h := h.1 c310
            refine qc_goto E_L_law 2116 dL_law_1423 (by decide) ?_
            refine qc_iinc E_L_law 7 rfl (by decide) (by decide) dL_law_2116 ?_
            refine qc_goto E_L_law 23 dL_law_2119 (by decide) ?_
            refine qc_drop 5 ?_
            refine qc_drop 6 ?_
            exact h
          · replace h := h.2 c310
            refine qc_aload_n E_L_law (by rfl) dL_law_1411 ?_
            refine qc_iconst E_L_law 0 (by decide) dL_law_1412 ?_
            refine re_lald E_L_law dL_law_1413 h ?_
            clear h
            intro v311 h
            refine qc_iload E_L_law (by rfl) dL_law_1414 ?_
            refine qc_i2l E_L_law dL_law_1416 ?_
            refine qc_lcmp E_L_law dL_law_1417 ?_
            refine qc_if_eq E_L_law 1423 dL_law_1418 (by decide) (fun (c312 : (lg_cmp v311 (Int32.toInt64 r305)) = 0) => ?_) (fun (c312 : ¬ (lg_cmp v311 (Int32.toInt64 r305)) = 0) => ?_)
            · replace h := h.1 c312
              refine qc_goto E_L_law 2116 dL_law_1423 (by decide) ?_
              refine qc_iinc E_L_law 7 rfl (by decide) (by decide) dL_law_2116 ?_
              refine qc_goto E_L_law 23 dL_law_2119 (by decide) ?_
              refine qc_drop 5 ?_
              refine qc_drop 6 ?_
              exact h
            · replace h := h.2 c312
              refine qc_iconst E_L_law 0 (by decide) dL_law_1421 ?_
              exact qc_zret E_L_law rfl (qm_nb (Or.inl rfl)) dL_law_1422 (Or.inl (⟨_, rfl, (Or.inl rfl), h⟩))
        · replace h := h.2 c309
          refine qc_iconst E_L_law 0 (by decide) dL_law_1404 ?_
          exact qc_zret E_L_law rfl (qm_nb (Or.inl rfl)) dL_law_1405 (Or.inl (⟨_, rfl, (Or.inl rfl), h⟩))
      · revert tz; rintro h302 ⟨Ez, rfl, h⟩
        refine K1_x ?_
        exact qc_out (by decide) (Or.inr ⟨_, rfl, h⟩)
    by_cases s18_ : (v7 &&& 63) = 18
    · replace h := h.2.2.2.2.2.2.2.2.2.2.2.2.2.2.2.2.2.2.1 s18_
      refine qc_tableIn E_L_law 1426 dL_law_40 (by rw [s18_]; decide) (by rw [s18_]; decide) (by rw [s18_]; rfl) (by decide) ?_
      refine qc_aload_n E_L_law (by rfl) dL_law_1426 ?_
      refine qc_aload_n E_L_law (by rfl) dL_law_1427 ?_
      refine qc_iload E_L_law (by rfl) dL_law_1428 ?_
      refine qc_iconst E_L_law 1 (by decide) dL_law_1430 ?_
      refine qc_iadd E_L_law dL_law_1431 ?_
      refine re_sald E_L_law hS dL_law_1432 h ?_
      clear h
      intro v313 h
      refine qc_aload_n E_L_law (by rfl) dL_law_1433 ?_
      refine qc_iload E_L_law (by rfl) dL_law_1434 ?_
      refine qc_iconst E_L_law 2 (by decide) dL_law_1436 ?_
      refine qc_iadd E_L_law dL_law_1437 ?_
      refine re_sald E_L_law hS dL_law_1438 h ?_
      clear h
      intro v314 h
      have jz := h (fun (x317 : Int32) => qc_wp g x9 (d + 17) c4 I_L_law 1447 [some (.ref a0), some (.ref a1), some (.ref a2), some (.ref a3), some (.int x2), none, none] [.int x317, .int v313, .ref a1] h3 (oX (oZ K) KX))
      clear h
      have h := jz (by
        intro x317 h
        obtain ⟨c319, k318, rfl, h⟩ := h
        refine qc_callSX (c := c319) (k := k318) (As := [.ref a1, .int v313, .int x317]) (rest := []) E_L_law rfl M_X0_shape rfl q1236 q1237 rfl rfl (Nat.le_of_ble_eq_true rfl) dL_law_1447 (qc_S.mono ?_ (C_X0_shape (d := d + 13) hO hP hX a1 v313 x317 h3 k318 _ _ h))
        clear h
        rintro _ tz (hz | hz)
        · revert tz; rintro h321 ⟨r320, rfl, h⟩
          refine K1_i ?_
          refine qc_istore E_L_law (by decide) dL_law_1450 ?_
          refine qc_aload_n E_L_law (by rfl) dL_law_1452 ?_
          refine qc_aload_n E_L_law (by rfl) dL_law_1453 ?_
          refine qc_iload E_L_law (by rfl) dL_law_1454 ?_
          refine qc_iconst E_L_law 1 (by decide) dL_law_1456 ?_
          refine qc_iadd E_L_law dL_law_1457 ?_
          refine re_sald E_L_law hS dL_law_1458 h ?_
          clear h
          intro v323 h
          refine qc_aload_n E_L_law (by rfl) dL_law_1459 ?_
          refine qc_iload E_L_law (by rfl) dL_law_1460 ?_
          refine qc_iconst E_L_law 2 (by decide) dL_law_1462 ?_
          refine qc_iadd E_L_law dL_law_1463 ?_
          refine re_sald E_L_law hS dL_law_1464 h ?_
          clear h
          intro v324 h
          have jz := h (fun (x327 : Int32) => qc_wp g x9 (d + 17) c319 I_L_law 1473 [some (.ref a0), some (.ref a1), some (.ref a2), some (.ref a3), some (.int x2), some (.int r320), none] [.int x327, .int v323, .ref a2] h321 (oX (oZ K) KX))
          clear h
          have h := jz (by
            intro x327 h
            obtain ⟨⟨fz, hb⟩, h⟩ := h
            refine qc_callV (c := c319) (k := 0) (As := [.int v323, .int x327]) (rest := []) hO E_L_law rfl M_X8_shape rfl q2097 q2098 q2099 (ci := 7) rfl rfl hb rfl rfl (Nat.le_of_ble_eq_true rfl) dL_law_1473 (qc_S.mono ?_ (C8_shape (d := d + 15) hO hP a2 v323 x327 h321 _ h))
            clear h
            clear hb
            rintro _ h328 ⟨rfl, h⟩
            refine K1_v ?_
            refine qc_aload_n E_L_law (by rfl) dL_law_1476 ?_
            obtain ⟨⟨fz, hb⟩, h⟩ := h
            refine qc_callV (c := c319) (k := 0) (As := []) (rest := []) hO E_L_law rfl M_X8_thrown rfl q1940 q1941 q1942 (ci := 7) rfl rfl hb rfl rfl (Nat.le_of_ble_eq_true rfl) dL_law_1477 (qc_S.mono ?_ (C8_thrown (d := d + 16) hO hP a2 h328 _ h))
            clear h
            clear hb
            rintro _ h330 ⟨r329, rfl, h⟩
            refine K1_i ?_
            refine qc_iload E_L_law (by rfl) dL_law_1480 ?_
            refine qc_icmp_eq E_L_law 1487 dL_law_1482 (by decide) (fun (c331 : r329 = r320) => ?_) (fun (c331 : ¬ r329 = r320) => ?_)
            · replace h := h.1 c331
              refine qc_goto E_L_law 2116 dL_law_1487 (by decide) ?_
              refine qc_iinc E_L_law 7 rfl (by decide) (by decide) dL_law_2116 ?_
              refine qc_goto E_L_law 23 dL_law_2119 (by decide) ?_
              refine qc_drop 5 ?_
              exact h
            · replace h := h.2 c331
              refine qc_iconst E_L_law 0 (by decide) dL_law_1485 ?_
              exact qc_zret E_L_law rfl (qm_nb (Or.inl rfl)) dL_law_1486 (Or.inl (⟨_, rfl, (Or.inl rfl), h⟩)))
          clear jz
          refine qc_if_eq E_L_law 1472 dL_law_1465 (by decide) (fun (c325 : v324 = 0) => ?_) (fun (c325 : ¬ v324 = 0) => ?_)
          · replace h := h.1 c325
            refine qc_iconst E_L_law 0 (by decide) dL_law_1472 ?_
            exact h
          · replace h := h.2 c325
            refine qc_iconst E_L_law 1 (by decide) dL_law_1468 ?_
            refine qc_goto E_L_law 1473 dL_law_1469 (by decide) ?_
            exact h
        · revert tz; rintro h322 ⟨Ez, rfl, h⟩
          refine K1_x ?_
          exact qc_out (by decide) (Or.inr ⟨_, rfl, h⟩))
      clear jz
      refine qc_if_eq E_L_law 1446 dL_law_1439 (by decide) (fun (c315 : v314 = 0) => ?_) (fun (c315 : ¬ v314 = 0) => ?_)
      · replace h := h.1 c315
        refine qc_iconst E_L_law 0 (by decide) dL_law_1446 ?_
        exact h
      · replace h := h.2 c315
        refine qc_iconst E_L_law 1 (by decide) dL_law_1442 ?_
        refine qc_goto E_L_law 1447 dL_law_1443 (by decide) ?_
        exact h
    by_cases s19_ : (v7 &&& 63) = 19
    · replace h := h.2.2.2.2.2.2.2.2.2.2.2.2.2.2.2.2.2.2.2.1 s19_
      refine qc_tableIn E_L_law 1490 dL_law_40 (by rw [s19_]; decide) (by rw [s19_]; decide) (by rw [s19_]; rfl) (by decide) ?_
      refine qc_aload_n E_L_law (by rfl) dL_law_1490 ?_
      obtain ⟨⟨fz, hb⟩, h⟩ := h
      refine qc_callV (c := c4) (k := 0) (As := []) (rest := []) hO E_L_law rfl M_X1_clear rfl q362 q363 q364 (ci := 0) rfl rfl hb rfl rfl (Nat.le_of_ble_eq_true rfl) dL_law_1491 (qc_S.mono ?_ (C_X1_clear (d := d + 10) hO hP a1 h3 _ h))
      clear h
      clear hb
      rintro _ h333 ⟨r332, rfl, h⟩
      refine K1_i ?_
      refine qc_aload_n E_L_law (by rfl) dL_law_1494 ?_
      obtain ⟨⟨fz, hb⟩, h⟩ := h
      refine qc_callV (c := c4) (k := 0) (As := []) (rest := [.int r332]) hO E_L_law rfl M_X8_clear rfl q2101 q2102 q2103 (ci := 7) rfl rfl hb rfl rfl (Nat.le_of_ble_eq_true rfl) dL_law_1495 (qc_S.mono ?_ (C8_clear (d := d + 16) hO hP a2 h333 _ h))
      clear h
      clear hb
      rintro _ h335 ⟨r334, rfl, h⟩
      refine K1_i ?_
      refine qc_icmp_eq E_L_law 2116 dL_law_1498 (by decide) (fun (c336 : r332 = r334) => ?_) (fun (c336 : ¬ r332 = r334) => ?_)
      · replace h := h.1 c336
        refine qc_iinc E_L_law 7 rfl (by decide) (by decide) dL_law_2116 ?_
        refine qc_goto E_L_law 23 dL_law_2119 (by decide) ?_
        exact h
      · replace h := h.2 c336
        refine qc_iconst E_L_law 0 (by decide) dL_law_1501 ?_
        exact qc_zret E_L_law rfl (qm_nb (Or.inl rfl)) dL_law_1502 (Or.inl (⟨_, rfl, (Or.inl rfl), h⟩))
    by_cases s20_ : (v7 &&& 63) = 20
    · replace h := h.2.2.2.2.2.2.2.2.2.2.2.2.2.2.2.2.2.2.2.2.1 s20_
      refine qc_tableIn E_L_law 1503 dL_law_40 (by rw [s20_]; decide) (by rw [s20_]; decide) (by rw [s20_]; rfl) (by decide) ?_
      refine qc_aload_n E_L_law (by rfl) dL_law_1503 ?_
      refine qc_aload_n E_L_law (by rfl) dL_law_1504 ?_
      refine qc_iload E_L_law (by rfl) dL_law_1505 ?_
      refine qc_iconst E_L_law 1 (by decide) dL_law_1507 ?_
      refine qc_iadd E_L_law dL_law_1508 ?_
      refine re_sald E_L_law hS dL_law_1509 h ?_
      clear h
      intro v337 h
      refine qc_aload_n E_L_law (by rfl) dL_law_1510 ?_
      refine qc_iload E_L_law (by rfl) dL_law_1511 ?_
      refine qc_iconst E_L_law 2 (by decide) dL_law_1513 ?_
      refine qc_iadd E_L_law dL_law_1514 ?_
      refine re_sald E_L_law hS dL_law_1515 h ?_
      clear h
      intro v338 h
      refine qc_aload_n E_L_law (by rfl) dL_law_1516 ?_
      obtain ⟨c340, k339, rfl, h⟩ := h
      refine qc_callSX (c := c340) (k := k339) (As := [.ref a1, .int v337, .int v338, .ref a3]) (rest := []) E_L_law rfl M_X0_ask rfl q1243 q1244 rfl rfl (Nat.le_of_ble_eq_true rfl) dL_law_1517 (qc_S.mono ?_ (C_X0_ask (d := d + 1) hO hP hX a1 v337 v338 a3 h3 k339 _ _ h))
      clear h
      rintro _ tz (hz | hz)
      · revert tz; rintro h342 ⟨r341, rfl, h⟩
        refine K1_i ?_
        refine qc_istore E_L_law (by decide) dL_law_1520 ?_
        refine qc_aload_n E_L_law (by rfl) dL_law_1522 ?_
        refine qc_aload_n E_L_law (by rfl) dL_law_1523 ?_
        refine qc_iload E_L_law (by rfl) dL_law_1524 ?_
        refine qc_iconst E_L_law 1 (by decide) dL_law_1526 ?_
        refine qc_iadd E_L_law dL_law_1527 ?_
        refine re_sald E_L_law hS dL_law_1528 h ?_
        clear h
        intro v344 h
        refine qc_aload_n E_L_law (by rfl) dL_law_1529 ?_
        refine qc_iload E_L_law (by rfl) dL_law_1530 ?_
        refine qc_iconst E_L_law 2 (by decide) dL_law_1532 ?_
        refine qc_iadd E_L_law dL_law_1533 ?_
        refine re_sald E_L_law hS dL_law_1534 h ?_
        clear h
        intro v345 h
        obtain ⟨⟨fz, hb⟩, h⟩ := h
        refine qc_callV (c := c340) (k := 0) (As := [.int v344, .int v345]) (rest := []) hO E_L_law rfl M_X8_ask rfl q2105 q2106 q2107 (ci := 7) rfl rfl hb rfl rfl (Nat.le_of_ble_eq_true rfl) dL_law_1535 (qc_S.mono ?_ (C8_ask (d := d + 8) hO hP a2 v344 v345 h342 _ h))
        clear h
        clear hb
        rintro _ h347 ⟨r346, rfl, h⟩
        refine K1_i ?_
        refine qc_istore E_L_law (by decide) dL_law_1538 ?_
        refine qc_aload_n E_L_law (by rfl) dL_law_1540 ?_
        obtain ⟨⟨fz, hb⟩, h⟩ := h
        refine qc_callV (c := c340) (k := 0) (As := []) (rest := []) hO E_L_law rfl M_X8_thrown rfl q1940 q1941 q1942 (ci := 7) rfl rfl hb rfl rfl (Nat.le_of_ble_eq_true rfl) dL_law_1541 (qc_S.mono ?_ (C8_thrown (d := d + 16) hO hP a2 h347 _ h))
        clear h
        clear hb
        rintro _ h349 ⟨r348, rfl, h⟩
        refine K1_i ?_
        refine qc_iload E_L_law (by rfl) dL_law_1544 ?_
        refine qc_icmp_eq E_L_law 1551 dL_law_1546 (by decide) (fun (c350 : r348 = r341) => ?_) (fun (c350 : ¬ r348 = r341) => ?_)
        · replace h := h.1 c350
          refine qc_iload E_L_law (by rfl) dL_law_1551 ?_
          refine qc_if_ne E_L_law 1568 dL_law_1553 (by decide) (fun (c351 : ¬ r341 = 0) => ?_) (fun (c351 : r341 = 0) => ?_)
          · replace h := h.1 c351
            refine qc_goto E_L_law 2116 dL_law_1568 (by decide) ?_
            refine qc_iinc E_L_law 7 rfl (by decide) (by decide) dL_law_2116 ?_
            refine qc_goto E_L_law 23 dL_law_2119 (by decide) ?_
            refine qc_drop 5 ?_
            refine qc_drop 6 ?_
            exact h
          · replace h := h.2 c351
            refine qc_aload_n E_L_law (by rfl) dL_law_1556 ?_
            refine qc_iconst E_L_law 0 (by decide) dL_law_1557 ?_
            refine re_lald E_L_law dL_law_1558 h ?_
            clear h
            intro v352 h
            refine qc_iload E_L_law (by rfl) dL_law_1559 ?_
            refine qc_i2l E_L_law dL_law_1561 ?_
            refine qc_lcmp E_L_law dL_law_1562 ?_
            refine qc_if_eq E_L_law 1568 dL_law_1563 (by decide) (fun (c353 : (lg_cmp v352 (Int32.toInt64 r346)) = 0) => ?_) (fun (c353 : ¬ (lg_cmp v352 (Int32.toInt64 r346)) = 0) => ?_)
            · replace h := h.1 c353
              refine qc_goto E_L_law 2116 dL_law_1568 (by decide) ?_
              refine qc_iinc E_L_law 7 rfl (by decide) (by decide) dL_law_2116 ?_
              refine qc_goto E_L_law 23 dL_law_2119 (by decide) ?_
              refine qc_drop 5 ?_
              refine qc_drop 6 ?_
              exact h
            · replace h := h.2 c353
              refine qc_iconst E_L_law 0 (by decide) dL_law_1566 ?_
              exact qc_zret E_L_law rfl (qm_nb (Or.inl rfl)) dL_law_1567 (Or.inl (⟨_, rfl, (Or.inl rfl), h⟩))
        · replace h := h.2 c350
          refine qc_iconst E_L_law 0 (by decide) dL_law_1549 ?_
          exact qc_zret E_L_law rfl (qm_nb (Or.inl rfl)) dL_law_1550 (Or.inl (⟨_, rfl, (Or.inl rfl), h⟩))
      · revert tz; rintro h343 ⟨Ez, rfl, h⟩
        refine K1_x ?_
        exact qc_out (by decide) (Or.inr ⟨_, rfl, h⟩)
    by_cases s21_ : (v7 &&& 63) = 21
    · replace h := h.2.2.2.2.2.2.2.2.2.2.2.2.2.2.2.2.2.2.2.2.2.1 s21_
      refine qc_tableIn E_L_law 1571 dL_law_40 (by rw [s21_]; decide) (by rw [s21_]; decide) (by rw [s21_]; rfl) (by decide) ?_
      refine qc_aload_n E_L_law (by rfl) dL_law_1571 ?_
      obtain ⟨⟨fz, hb⟩, h⟩ := h
      refine qc_callV (c := c4) (k := 0) (As := []) (rest := []) hO E_L_law rfl M_X1_answers rfl q374 q375 q376 (ci := 0) rfl rfl hb rfl rfl (Nat.le_of_ble_eq_true rfl) dL_law_1572 (qc_S.mono ?_ (C_X1_answers (d := d + 10) hO hP a1 h3 _ h))
      clear h
      clear hb
      rintro _ _ ⟨r354, rfl, rfl, h⟩
      refine K1_i ?_
      refine qc_aload_n E_L_law (by rfl) dL_law_1575 ?_
      obtain ⟨⟨fz, hb⟩, h⟩ := h
      refine qc_callV (c := c4) (k := 0) (As := []) (rest := [.int r354]) hO E_L_law rfl M_X8_answers rfl q2249 q2250 q2251 (ci := 7) rfl rfl hb rfl rfl (Nat.le_of_ble_eq_true rfl) dL_law_1576 (qc_S.mono ?_ (C8_answers (d := d + 16) hO hP a2 h3 _ h))
      clear h
      clear hb
      rintro _ h356 ⟨r355, rfl, h⟩
      refine K1_i ?_
      refine qc_icmp_eq E_L_law 2116 dL_law_1579 (by decide) (fun (c357 : r354 = r355) => ?_) (fun (c357 : ¬ r354 = r355) => ?_)
      · replace h := h.1 c357
        refine qc_iinc E_L_law 7 rfl (by decide) (by decide) dL_law_2116 ?_
        refine qc_goto E_L_law 23 dL_law_2119 (by decide) ?_
        exact h
      · replace h := h.2 c357
        refine qc_iconst E_L_law 0 (by decide) dL_law_1582 ?_
        exact qc_zret E_L_law rfl (qm_nb (Or.inl rfl)) dL_law_1583 (Or.inl (⟨_, rfl, (Or.inl rfl), h⟩))
    by_cases s22_ : (v7 &&& 63) = 22
    · replace h := h.2.2.2.2.2.2.2.2.2.2.2.2.2.2.2.2.2.2.2.2.2.2.1 s22_
      refine qc_tableIn E_L_law 1584 dL_law_40 (by rw [s22_]; decide) (by rw [s22_]; decide) (by rw [s22_]; rfl) (by decide) ?_
      refine qc_aload_n E_L_law (by rfl) dL_law_1584 ?_
      refine qc_aload_n E_L_law (by rfl) dL_law_1585 ?_
      refine qc_iload E_L_law (by rfl) dL_law_1586 ?_
      refine qc_iconst E_L_law 1 (by decide) dL_law_1588 ?_
      refine qc_iadd E_L_law dL_law_1589 ?_
      refine re_sald E_L_law hS dL_law_1590 h ?_
      clear h
      intro v358 h
      refine qc_aload_n E_L_law (by rfl) dL_law_1591 ?_
      refine qc_iload E_L_law (by rfl) dL_law_1592 ?_
      refine qc_iconst E_L_law 2 (by decide) dL_law_1594 ?_
      refine qc_iadd E_L_law dL_law_1595 ?_
      refine re_sald E_L_law hS dL_law_1596 h ?_
      clear h
      intro v359 h
      refine qc_aload_n E_L_law (by rfl) dL_law_1597 ?_
      obtain ⟨c361, k360, rfl, h⟩ := h
      refine qc_callSX (c := c361) (k := k360) (As := [.ref a1, .int v358, .int v359, .ref a3]) (rest := []) E_L_law rfl M_X0_answer rfl q1553 q1554 rfl rfl (Nat.le_of_ble_eq_true rfl) dL_law_1598 (qc_S.mono ?_ (C_X0_answer (d := d + 8) hO hP hX a1 v358 v359 a3 h3 k360 _ _ h))
      clear h
      rintro _ tz (hz | hz)
      · revert tz; rintro h363 ⟨r362, rfl, h⟩
        refine K1_i ?_
        refine qc_istore E_L_law (by decide) dL_law_1601 ?_
        refine qc_aload_n E_L_law (by rfl) dL_law_1603 ?_
        refine qc_aload_n E_L_law (by rfl) dL_law_1604 ?_
        refine qc_iload E_L_law (by rfl) dL_law_1605 ?_
        refine qc_iconst E_L_law 1 (by decide) dL_law_1607 ?_
        refine qc_iadd E_L_law dL_law_1608 ?_
        refine re_sald E_L_law hS dL_law_1609 h ?_
        clear h
        intro v365 h
        refine qc_aload_n E_L_law (by rfl) dL_law_1610 ?_
        refine qc_iload E_L_law (by rfl) dL_law_1611 ?_
        refine qc_iconst E_L_law 2 (by decide) dL_law_1613 ?_
        refine qc_iadd E_L_law dL_law_1614 ?_
        refine re_sald E_L_law hS dL_law_1615 h ?_
        clear h
        intro v366 h
        obtain ⟨⟨fz, hb⟩, h⟩ := h
        refine qc_callV (c := c361) (k := 0) (As := [.int v365, .int v366]) (rest := []) hO E_L_law rfl M_X8_answer rfl q2253 q2254 q2255 (ci := 7) rfl rfl hb rfl rfl (Nat.le_of_ble_eq_true rfl) dL_law_1616 (qc_S.mono ?_ (C8_answer (d := d + 15) hO hP a2 v365 v366 h363 _ h))
        clear h
        clear hb
        rintro _ h368 ⟨r367, rfl, h⟩
        refine K1_i ?_
        refine qc_istore E_L_law (by decide) dL_law_1619 ?_
        refine qc_aload_n E_L_law (by rfl) dL_law_1621 ?_
        obtain ⟨⟨fz, hb⟩, h⟩ := h
        refine qc_callV (c := c361) (k := 0) (As := []) (rest := []) hO E_L_law rfl M_X8_thrown rfl q1940 q1941 q1942 (ci := 7) rfl rfl hb rfl rfl (Nat.le_of_ble_eq_true rfl) dL_law_1622 (qc_S.mono ?_ (C8_thrown (d := d + 16) hO hP a2 h368 _ h))
        clear h
        clear hb
        rintro _ h370 ⟨r369, rfl, h⟩
        refine K1_i ?_
        refine qc_iload E_L_law (by rfl) dL_law_1625 ?_
        refine qc_icmp_eq E_L_law 1632 dL_law_1627 (by decide) (fun (c371 : r369 = r362) => ?_) (fun (c371 : ¬ r369 = r362) => ?_)
        · replace h := h.1 c371
          refine qc_iload E_L_law (by rfl) dL_law_1632 ?_
          refine qc_if_ne E_L_law 1649 dL_law_1634 (by decide) (fun (c372 : ¬ r362 = 0) => ?_) (fun (c372 : r362 = 0) => ?_)
          · replace h := h.1 c372
            refine qc_goto E_L_law 2116 dL_law_1649 (by decide) ?_
            refine qc_iinc E_L_law 7 rfl (by decide) (by decide) dL_law_2116 ?_
            refine qc_goto E_L_law 23 dL_law_2119 (by decide) ?_
            refine qc_drop 5 ?_
            refine qc_drop 6 ?_
            exact h
          · replace h := h.2 c372
            refine qc_aload_n E_L_law (by rfl) dL_law_1637 ?_
            refine qc_iconst E_L_law 0 (by decide) dL_law_1638 ?_
            refine re_lald E_L_law dL_law_1639 h ?_
            clear h
            intro v373 h
            refine qc_iload E_L_law (by rfl) dL_law_1640 ?_
            refine qc_i2l E_L_law dL_law_1642 ?_
            refine qc_lcmp E_L_law dL_law_1643 ?_
            refine qc_if_eq E_L_law 1649 dL_law_1644 (by decide) (fun (c374 : (lg_cmp v373 (Int32.toInt64 r367)) = 0) => ?_) (fun (c374 : ¬ (lg_cmp v373 (Int32.toInt64 r367)) = 0) => ?_)
            · replace h := h.1 c374
              refine qc_goto E_L_law 2116 dL_law_1649 (by decide) ?_
              refine qc_iinc E_L_law 7 rfl (by decide) (by decide) dL_law_2116 ?_
              refine qc_goto E_L_law 23 dL_law_2119 (by decide) ?_
              refine qc_drop 5 ?_
              refine qc_drop 6 ?_
              exact h
            · replace h := h.2 c374
              refine qc_iconst E_L_law 0 (by decide) dL_law_1647 ?_
              exact qc_zret E_L_law rfl (qm_nb (Or.inl rfl)) dL_law_1648 (Or.inl (⟨_, rfl, (Or.inl rfl), h⟩))
        · replace h := h.2 c371
          refine qc_iconst E_L_law 0 (by decide) dL_law_1630 ?_
          exact qc_zret E_L_law rfl (qm_nb (Or.inl rfl)) dL_law_1631 (Or.inl (⟨_, rfl, (Or.inl rfl), h⟩))
      · revert tz; rintro h364 ⟨Ez, rfl, h⟩
        refine K1_x ?_
        exact qc_out (by decide) (Or.inr ⟨_, rfl, h⟩)
    by_cases s23_ : (v7 &&& 63) = 23
    · replace h := h.2.2.2.2.2.2.2.2.2.2.2.2.2.2.2.2.2.2.2.2.2.2.2.1 s23_
      refine qc_tableIn E_L_law 1652 dL_law_40 (by rw [s23_]; decide) (by rw [s23_]; decide) (by rw [s23_]; rfl) (by decide) ?_
      refine qc_aload_n E_L_law (by rfl) dL_law_1652 ?_
      obtain ⟨⟨fz, hb⟩, h⟩ := h
      refine qc_callV (c := c4) (k := 0) (As := []) (rest := []) hO E_L_law rfl M_X1_missing rfl q378 q379 q380 (ci := 0) rfl rfl hb rfl rfl (Nat.le_of_ble_eq_true rfl) dL_law_1653 (qc_S.mono ?_ (C_X1_missing (d := d + 16) hO hP a1 h3 _ h))
      clear h
      clear hb
      rintro _ _ ⟨r375, rfl, rfl, h⟩
      refine K1_i ?_
      refine qc_aload_n E_L_law (by rfl) dL_law_1656 ?_
      obtain ⟨⟨fz, hb⟩, h⟩ := h
      refine qc_callV (c := c4) (k := 0) (As := []) (rest := [.int r375]) hO E_L_law rfl M_X8_missing rfl q2257 q2258 q2259 (ci := 7) rfl rfl hb rfl rfl (Nat.le_of_ble_eq_true rfl) dL_law_1657 (qc_S.mono ?_ (C8_missing (d := d + 16) hO hP a2 h3 _ h))
      clear h
      clear hb
      rintro _ h377 ⟨r376, rfl, h⟩
      refine K1_i ?_
      refine qc_icmp_eq E_L_law 2116 dL_law_1660 (by decide) (fun (c378 : r375 = r376) => ?_) (fun (c378 : ¬ r375 = r376) => ?_)
      · replace h := h.1 c378
        refine qc_iinc E_L_law 7 rfl (by decide) (by decide) dL_law_2116 ?_
        refine qc_goto E_L_law 23 dL_law_2119 (by decide) ?_
        exact h
      · replace h := h.2 c378
        refine qc_iconst E_L_law 0 (by decide) dL_law_1663 ?_
        exact qc_zret E_L_law rfl (qm_nb (Or.inl rfl)) dL_law_1664 (Or.inl (⟨_, rfl, (Or.inl rfl), h⟩))
    by_cases s24_ : (v7 &&& 63) = 24
    · replace h := h.2.2.2.2.2.2.2.2.2.2.2.2.2.2.2.2.2.2.2.2.2.2.2.2.1 s24_
      refine qc_tableIn E_L_law 1665 dL_law_40 (by rw [s24_]; decide) (by rw [s24_]; decide) (by rw [s24_]; rfl) (by decide) ?_
      refine qc_aload_n E_L_law (by rfl) dL_law_1665 ?_
      obtain ⟨⟨fz, hb⟩, h⟩ := h
      refine qc_callV (c := c4) (k := 0) (As := []) (rest := []) hO E_L_law rfl M_X1_claims rfl q382 q383 q384 (ci := 0) rfl rfl hb rfl rfl (Nat.le_of_ble_eq_true rfl) dL_law_1666 (qc_S.mono ?_ (C_X1_claims (d := d + 16) hO hP a1 h3 _ h))
      clear h
      clear hb
      rintro _ _ ⟨r379, rfl, rfl, h⟩
      refine K1_i ?_
      refine qc_aload_n E_L_law (by rfl) dL_law_1669 ?_
      obtain ⟨⟨fz, hb⟩, h⟩ := h
      refine qc_callV (c := c4) (k := 0) (As := []) (rest := [.int r379]) hO E_L_law rfl M_X8_claims rfl q2261 q2262 q2263 (ci := 7) rfl rfl hb rfl rfl (Nat.le_of_ble_eq_true rfl) dL_law_1670 (qc_S.mono ?_ (C8_claims (d := d + 16) hO hP a2 h3 _ h))
      clear h
      clear hb
      rintro _ h381 ⟨r380, rfl, h⟩
      refine K1_i ?_
      refine qc_icmp_eq E_L_law 2116 dL_law_1673 (by decide) (fun (c382 : r379 = r380) => ?_) (fun (c382 : ¬ r379 = r380) => ?_)
      · replace h := h.1 c382
        refine qc_iinc E_L_law 7 rfl (by decide) (by decide) dL_law_2116 ?_
        refine qc_goto E_L_law 23 dL_law_2119 (by decide) ?_
        exact h
      · replace h := h.2 c382
        refine qc_iconst E_L_law 0 (by decide) dL_law_1676 ?_
        exact qc_zret E_L_law rfl (qm_nb (Or.inl rfl)) dL_law_1677 (Or.inl (⟨_, rfl, (Or.inl rfl), h⟩))
    by_cases s25_ : (v7 &&& 63) = 25
    · replace h := h.2.2.2.2.2.2.2.2.2.2.2.2.2.2.2.2.2.2.2.2.2.2.2.2.2.1 s25_
      refine qc_tableIn E_L_law 1678 dL_law_40 (by rw [s25_]; decide) (by rw [s25_]; decide) (by rw [s25_]; rfl) (by decide) ?_
      refine qc_aload_n E_L_law (by rfl) dL_law_1678 ?_
      obtain ⟨⟨fz, hb⟩, h⟩ := h
      refine qc_callV (c := c4) (k := 0) (As := []) (rest := []) hO E_L_law rfl M_X1_cost rfl q386 q387 q388 (ci := 0) rfl rfl hb rfl rfl (Nat.le_of_ble_eq_true rfl) dL_law_1679 (qc_S.mono ?_ (C_X1_cost (d := d + 16) hO hP a1 h3 _ h))
      clear h
      clear hb
      rintro _ _ ⟨r383, rfl, rfl, h⟩
      refine K1_i ?_
      refine qc_aload_n E_L_law (by rfl) dL_law_1682 ?_
      obtain ⟨⟨fz, hb⟩, h⟩ := h
      refine qc_callV (c := c4) (k := 0) (As := []) (rest := [.int r383]) hO E_L_law rfl M_X8_cost rfl q2265 q2266 q2267 (ci := 7) rfl rfl hb rfl rfl (Nat.le_of_ble_eq_true rfl) dL_law_1683 (qc_S.mono ?_ (C8_cost (d := d + 16) hO hP a2 h3 _ h))
      clear h
      clear hb
      rintro _ h385 ⟨r384, rfl, h⟩
      refine K1_i ?_
      refine qc_icmp_eq E_L_law 2116 dL_law_1686 (by decide) (fun (c386 : r383 = r384) => ?_) (fun (c386 : ¬ r383 = r384) => ?_)
      · replace h := h.1 c386
        refine qc_iinc E_L_law 7 rfl (by decide) (by decide) dL_law_2116 ?_
        refine qc_goto E_L_law 23 dL_law_2119 (by decide) ?_
        exact h
      · replace h := h.2 c386
        refine qc_iconst E_L_law 0 (by decide) dL_law_1689 ?_
        exact qc_zret E_L_law rfl (qm_nb (Or.inl rfl)) dL_law_1690 (Or.inl (⟨_, rfl, (Or.inl rfl), h⟩))
    by_cases s26_ : (v7 &&& 63) = 26
    · replace h := h.2.2.2.2.2.2.2.2.2.2.2.2.2.2.2.2.2.2.2.2.2.2.2.2.2.2.1 s26_
      refine qc_tableIn E_L_law 1691 dL_law_40 (by rw [s26_]; decide) (by rw [s26_]; decide) (by rw [s26_]; rfl) (by decide) ?_
      refine qc_aload_n E_L_law (by rfl) dL_law_1691 ?_
      obtain ⟨⟨fz, hb⟩, h⟩ := h
      refine qc_callV (c := c4) (k := 0) (As := []) (rest := []) hO E_L_law rfl M_X1_attempts rfl q390 q391 q392 (ci := 0) rfl rfl hb rfl rfl (Nat.le_of_ble_eq_true rfl) dL_law_1692 (qc_S.mono ?_ (C_X1_attempts (d := d + 16) hO hP a1 h3 _ h))
      clear h
      clear hb
      rintro _ _ ⟨r387, rfl, rfl, h⟩
      refine K1_i ?_
      refine qc_aload_n E_L_law (by rfl) dL_law_1695 ?_
      obtain ⟨⟨fz, hb⟩, h⟩ := h
      refine qc_callV (c := c4) (k := 0) (As := []) (rest := [.int r387]) hO E_L_law rfl M_X8_attempts rfl q2269 q2270 q2271 (ci := 7) rfl rfl hb rfl rfl (Nat.le_of_ble_eq_true rfl) dL_law_1696 (qc_S.mono ?_ (C8_attempts (d := d + 16) hO hP a2 h3 _ h))
      clear h
      clear hb
      rintro _ h389 ⟨r388, rfl, h⟩
      refine K1_i ?_
      refine qc_icmp_eq E_L_law 2116 dL_law_1699 (by decide) (fun (c390 : r387 = r388) => ?_) (fun (c390 : ¬ r387 = r388) => ?_)
      · replace h := h.1 c390
        refine qc_iinc E_L_law 7 rfl (by decide) (by decide) dL_law_2116 ?_
        refine qc_goto E_L_law 23 dL_law_2119 (by decide) ?_
        exact h
      · replace h := h.2 c390
        refine qc_iconst E_L_law 0 (by decide) dL_law_1702 ?_
        exact qc_zret E_L_law rfl (qm_nb (Or.inl rfl)) dL_law_1703 (Or.inl (⟨_, rfl, (Or.inl rfl), h⟩))
    by_cases s27_ : (v7 &&& 63) = 27
    · replace h := h.2.2.2.2.2.2.2.2.2.2.2.2.2.2.2.2.2.2.2.2.2.2.2.2.2.2.2.1 s27_
      refine qc_tableIn E_L_law 1704 dL_law_40 (by rw [s27_]; decide) (by rw [s27_]; decide) (by rw [s27_]; rfl) (by decide) ?_
      refine qc_aload_n E_L_law (by rfl) dL_law_1704 ?_
      obtain ⟨⟨fz, hb⟩, h⟩ := h
      refine qc_callV (c := c4) (k := 0) (As := []) (rest := []) hO E_L_law rfl M_X1_shipped rfl q394 q395 q396 (ci := 0) rfl rfl hb rfl rfl (Nat.le_of_ble_eq_true rfl) dL_law_1705 (qc_S.mono ?_ (C_X1_shipped (d := d + 16) hO hP a1 h3 _ h))
      clear h
      clear hb
      rintro _ _ ⟨r391, rfl, rfl, h⟩
      refine K1_i ?_
      refine qc_aload_n E_L_law (by rfl) dL_law_1708 ?_
      obtain ⟨⟨fz, hb⟩, h⟩ := h
      refine qc_callV (c := c4) (k := 0) (As := []) (rest := [.int r391]) hO E_L_law rfl M_X8_shipped rfl q2273 q2274 q2275 (ci := 7) rfl rfl hb rfl rfl (Nat.le_of_ble_eq_true rfl) dL_law_1709 (qc_S.mono ?_ (C8_shipped (d := d + 16) hO hP a2 h3 _ h))
      clear h
      clear hb
      rintro _ h393 ⟨r392, rfl, h⟩
      refine K1_i ?_
      refine qc_icmp_eq E_L_law 2116 dL_law_1712 (by decide) (fun (c394 : r391 = r392) => ?_) (fun (c394 : ¬ r391 = r392) => ?_)
      · replace h := h.1 c394
        refine qc_iinc E_L_law 7 rfl (by decide) (by decide) dL_law_2116 ?_
        refine qc_goto E_L_law 23 dL_law_2119 (by decide) ?_
        exact h
      · replace h := h.2 c394
        refine qc_iconst E_L_law 0 (by decide) dL_law_1715 ?_
        exact qc_zret E_L_law rfl (qm_nb (Or.inl rfl)) dL_law_1716 (Or.inl (⟨_, rfl, (Or.inl rfl), h⟩))
    by_cases s28_ : (v7 &&& 63) = 28
    · replace h := h.2.2.2.2.2.2.2.2.2.2.2.2.2.2.2.2.2.2.2.2.2.2.2.2.2.2.2.2.1 s28_
      refine qc_tableIn E_L_law 1717 dL_law_40 (by rw [s28_]; decide) (by rw [s28_]; decide) (by rw [s28_]; rfl) (by decide) ?_
      refine qc_aload_n E_L_law (by rfl) dL_law_1717 ?_
      refine qc_aload_n E_L_law (by rfl) dL_law_1718 ?_
      refine qc_iload E_L_law (by rfl) dL_law_1719 ?_
      refine qc_iconst E_L_law 1 (by decide) dL_law_1721 ?_
      refine qc_iadd E_L_law dL_law_1722 ?_
      refine re_sald E_L_law hS dL_law_1723 h ?_
      clear h
      intro v395 h
      refine qc_aload_n E_L_law (by rfl) dL_law_1724 ?_
      obtain ⟨c397, k396, rfl, h⟩ := h
      refine qc_callSX (c := c397) (k := k396) (As := [.ref a1, .int v395, .ref a3]) (rest := []) E_L_law rfl M_X0_taken rfl q1564 q1565 rfl rfl (Nat.le_of_ble_eq_true rfl) dL_law_1725 (qc_S.mono ?_ (C_X0_taken (d := d + 9) hO hP hX a1 v395 a3 h3 k396 _ _ h))
      clear h
      rintro _ tz (hz | hz)
      · revert tz; rintro h399 ⟨r398, rfl, h⟩
        refine K1_i ?_
        refine qc_istore E_L_law (by decide) dL_law_1728 ?_
        refine qc_aload_n E_L_law (by rfl) dL_law_1730 ?_
        refine qc_aload_n E_L_law (by rfl) dL_law_1731 ?_
        refine qc_iload E_L_law (by rfl) dL_law_1732 ?_
        refine qc_iconst E_L_law 1 (by decide) dL_law_1734 ?_
        refine qc_iadd E_L_law dL_law_1735 ?_
        refine re_sald E_L_law hS dL_law_1736 h ?_
        clear h
        intro v401 h
        obtain ⟨⟨fz, hb⟩, h⟩ := h
        refine qc_callV (c := c397) (k := 0) (As := [.int v401]) (rest := []) hO E_L_law rfl M_X8_taken rfl q2277 q2278 q2279 (ci := 7) rfl rfl hb rfl rfl (Nat.le_of_ble_eq_true rfl) dL_law_1737 (qc_S.mono ?_ (C8_taken (d := d + 15) hO hP a2 v401 h399 _ h))
        clear h
        clear hb
        rintro _ h403 ⟨r402, rfl, h⟩
        refine K1_i ?_
        refine qc_istore E_L_law (by decide) dL_law_1740 ?_
        refine qc_aload_n E_L_law (by rfl) dL_law_1742 ?_
        obtain ⟨⟨fz, hb⟩, h⟩ := h
        refine qc_callV (c := c397) (k := 0) (As := []) (rest := []) hO E_L_law rfl M_X8_thrown rfl q1940 q1941 q1942 (ci := 7) rfl rfl hb rfl rfl (Nat.le_of_ble_eq_true rfl) dL_law_1743 (qc_S.mono ?_ (C8_thrown (d := d + 16) hO hP a2 h403 _ h))
        clear h
        clear hb
        rintro _ h405 ⟨r404, rfl, h⟩
        refine K1_i ?_
        refine qc_iload E_L_law (by rfl) dL_law_1746 ?_
        refine qc_icmp_eq E_L_law 1753 dL_law_1748 (by decide) (fun (c406 : r404 = r398) => ?_) (fun (c406 : ¬ r404 = r398) => ?_)
        · replace h := h.1 c406
          refine qc_iload E_L_law (by rfl) dL_law_1753 ?_
          refine qc_if_ne E_L_law 1770 dL_law_1755 (by decide) (fun (c407 : ¬ r398 = 0) => ?_) (fun (c407 : r398 = 0) => ?_)
          · replace h := h.1 c407
            refine qc_goto E_L_law 2116 dL_law_1770 (by decide) ?_
            refine qc_iinc E_L_law 7 rfl (by decide) (by decide) dL_law_2116 ?_
            refine qc_goto E_L_law 23 dL_law_2119 (by decide) ?_
            refine qc_drop 5 ?_
            refine qc_drop 6 ?_
            exact h
          · replace h := h.2 c407
            refine qc_aload_n E_L_law (by rfl) dL_law_1758 ?_
            refine qc_iconst E_L_law 0 (by decide) dL_law_1759 ?_
            refine re_lald E_L_law dL_law_1760 h ?_
            clear h
            intro v408 h
            refine qc_iload E_L_law (by rfl) dL_law_1761 ?_
            refine qc_i2l E_L_law dL_law_1763 ?_
            refine qc_lcmp E_L_law dL_law_1764 ?_
            refine qc_if_eq E_L_law 1770 dL_law_1765 (by decide) (fun (c409 : (lg_cmp v408 (Int32.toInt64 r402)) = 0) => ?_) (fun (c409 : ¬ (lg_cmp v408 (Int32.toInt64 r402)) = 0) => ?_)
            · replace h := h.1 c409
              refine qc_goto E_L_law 2116 dL_law_1770 (by decide) ?_
              refine qc_iinc E_L_law 7 rfl (by decide) (by decide) dL_law_2116 ?_
              refine qc_goto E_L_law 23 dL_law_2119 (by decide) ?_
              refine qc_drop 5 ?_
              refine qc_drop 6 ?_
              exact h
            · replace h := h.2 c409
              refine qc_iconst E_L_law 0 (by decide) dL_law_1768 ?_
              exact qc_zret E_L_law rfl (qm_nb (Or.inl rfl)) dL_law_1769 (Or.inl (⟨_, rfl, (Or.inl rfl), h⟩))
        · replace h := h.2 c406
          refine qc_iconst E_L_law 0 (by decide) dL_law_1751 ?_
          exact qc_zret E_L_law rfl (qm_nb (Or.inl rfl)) dL_law_1752 (Or.inl (⟨_, rfl, (Or.inl rfl), h⟩))
      · revert tz; rintro h400 ⟨Ez, rfl, h⟩
        refine K1_x ?_
        exact qc_out (by decide) (Or.inr ⟨_, rfl, h⟩)
    by_cases s29_ : (v7 &&& 63) = 29
    · replace h := h.2.2.2.2.2.2.2.2.2.2.2.2.2.2.2.2.2.2.2.2.2.2.2.2.2.2.2.2.2.1 s29_
      refine qc_tableIn E_L_law 1773 dL_law_40 (by rw [s29_]; decide) (by rw [s29_]; decide) (by rw [s29_]; rfl) (by decide) ?_
      refine qc_aload_n E_L_law (by rfl) dL_law_1773 ?_
      refine qc_aload_n E_L_law (by rfl) dL_law_1774 ?_
      refine qc_iload E_L_law (by rfl) dL_law_1775 ?_
      refine qc_iconst E_L_law 1 (by decide) dL_law_1777 ?_
      refine qc_iadd E_L_law dL_law_1778 ?_
      refine re_sald E_L_law hS dL_law_1779 h ?_
      clear h
      intro v410 h
      refine qc_aload_n E_L_law (by rfl) dL_law_1780 ?_
      obtain ⟨c412, k411, rfl, h⟩ := h
      refine qc_callSX (c := c412) (k := k411) (As := [.ref a1, .int v410, .ref a3]) (rest := []) E_L_law rfl M_X0_size rfl q1571 q1572 rfl rfl (Nat.le_of_ble_eq_true rfl) dL_law_1781 (qc_S.mono ?_ (C_X0_size (d := d + 13) hO hP hX a1 v410 a3 h3 k411 _ _ h))
      clear h
      rintro _ tz (hz | hz)
      · revert tz; rintro h414 ⟨r413, rfl, h⟩
        refine K1_i ?_
        refine qc_istore E_L_law (by decide) dL_law_1784 ?_
        refine qc_aload_n E_L_law (by rfl) dL_law_1786 ?_
        refine qc_aload_n E_L_law (by rfl) dL_law_1787 ?_
        refine qc_iload E_L_law (by rfl) dL_law_1788 ?_
        refine qc_iconst E_L_law 1 (by decide) dL_law_1790 ?_
        refine qc_iadd E_L_law dL_law_1791 ?_
        refine re_sald E_L_law hS dL_law_1792 h ?_
        clear h
        intro v416 h
        obtain ⟨⟨fz, hb⟩, h⟩ := h
        refine qc_callV (c := c412) (k := 0) (As := [.int v416]) (rest := []) hO E_L_law rfl M_X8_size rfl q2281 q2282 q2283 (ci := 7) rfl rfl hb rfl rfl (Nat.le_of_ble_eq_true rfl) dL_law_1793 (qc_S.mono ?_ (C8_size (d := d + 14) hO hP a2 v416 h414 _ h))
        clear h
        clear hb
        rintro _ h418 ⟨r417, rfl, h⟩
        refine K1_i ?_
        refine qc_istore E_L_law (by decide) dL_law_1796 ?_
        refine qc_aload_n E_L_law (by rfl) dL_law_1798 ?_
        obtain ⟨⟨fz, hb⟩, h⟩ := h
        refine qc_callV (c := c412) (k := 0) (As := []) (rest := []) hO E_L_law rfl M_X8_thrown rfl q1940 q1941 q1942 (ci := 7) rfl rfl hb rfl rfl (Nat.le_of_ble_eq_true rfl) dL_law_1799 (qc_S.mono ?_ (C8_thrown (d := d + 16) hO hP a2 h418 _ h))
        clear h
        clear hb
        rintro _ h420 ⟨r419, rfl, h⟩
        refine K1_i ?_
        refine qc_iload E_L_law (by rfl) dL_law_1802 ?_
        refine qc_icmp_eq E_L_law 1809 dL_law_1804 (by decide) (fun (c421 : r419 = r413) => ?_) (fun (c421 : ¬ r419 = r413) => ?_)
        · replace h := h.1 c421
          refine qc_iload E_L_law (by rfl) dL_law_1809 ?_
          refine qc_if_ne E_L_law 1826 dL_law_1811 (by decide) (fun (c422 : ¬ r413 = 0) => ?_) (fun (c422 : r413 = 0) => ?_)
          · replace h := h.1 c422
            refine qc_goto E_L_law 2116 dL_law_1826 (by decide) ?_
            refine qc_iinc E_L_law 7 rfl (by decide) (by decide) dL_law_2116 ?_
            refine qc_goto E_L_law 23 dL_law_2119 (by decide) ?_
            refine qc_drop 5 ?_
            refine qc_drop 6 ?_
            exact h
          · replace h := h.2 c422
            refine qc_aload_n E_L_law (by rfl) dL_law_1814 ?_
            refine qc_iconst E_L_law 0 (by decide) dL_law_1815 ?_
            refine re_lald E_L_law dL_law_1816 h ?_
            clear h
            intro v423 h
            refine qc_iload E_L_law (by rfl) dL_law_1817 ?_
            refine qc_i2l E_L_law dL_law_1819 ?_
            refine qc_lcmp E_L_law dL_law_1820 ?_
            refine qc_if_eq E_L_law 1826 dL_law_1821 (by decide) (fun (c424 : (lg_cmp v423 (Int32.toInt64 r417)) = 0) => ?_) (fun (c424 : ¬ (lg_cmp v423 (Int32.toInt64 r417)) = 0) => ?_)
            · replace h := h.1 c424
              refine qc_goto E_L_law 2116 dL_law_1826 (by decide) ?_
              refine qc_iinc E_L_law 7 rfl (by decide) (by decide) dL_law_2116 ?_
              refine qc_goto E_L_law 23 dL_law_2119 (by decide) ?_
              refine qc_drop 5 ?_
              refine qc_drop 6 ?_
              exact h
            · replace h := h.2 c424
              refine qc_iconst E_L_law 0 (by decide) dL_law_1824 ?_
              exact qc_zret E_L_law rfl (qm_nb (Or.inl rfl)) dL_law_1825 (Or.inl (⟨_, rfl, (Or.inl rfl), h⟩))
        · replace h := h.2 c421
          refine qc_iconst E_L_law 0 (by decide) dL_law_1807 ?_
          exact qc_zret E_L_law rfl (qm_nb (Or.inl rfl)) dL_law_1808 (Or.inl (⟨_, rfl, (Or.inl rfl), h⟩))
      · revert tz; rintro h415 ⟨Ez, rfl, h⟩
        refine K1_x ?_
        exact qc_out (by decide) (Or.inr ⟨_, rfl, h⟩)
    by_cases s30_ : (v7 &&& 63) = 30
    · replace h := h.2.2.2.2.2.2.2.2.2.2.2.2.2.2.2.2.2.2.2.2.2.2.2.2.2.2.2.2.2.2.1 s30_
      refine qc_tableIn E_L_law 1829 dL_law_40 (by rw [s30_]; decide) (by rw [s30_]; decide) (by rw [s30_]; rfl) (by decide) ?_
      refine qc_aload_n E_L_law (by rfl) dL_law_1829 ?_
      obtain ⟨⟨fz, hb⟩, h⟩ := h
      refine qc_callV (c := c4) (k := 0) (As := []) (rest := []) hO E_L_law rfl M_X1_entries rfl q398 q399 q400 (ci := 0) rfl rfl hb rfl rfl (Nat.le_of_ble_eq_true rfl) dL_law_1830 (qc_S.mono ?_ (C_X1_entries (d := d + 10) hO hP a1 h3 _ h))
      clear h
      clear hb
      rintro _ _ ⟨r425, rfl, rfl, h⟩
      refine K1_i ?_
      refine qc_aload_n E_L_law (by rfl) dL_law_1833 ?_
      obtain ⟨⟨fz, hb⟩, h⟩ := h
      refine qc_callV (c := c4) (k := 0) (As := []) (rest := [.int r425]) hO E_L_law rfl M_X8_entries rfl q2285 q2286 q2287 (ci := 7) rfl rfl hb rfl rfl (Nat.le_of_ble_eq_true rfl) dL_law_1834 (qc_S.mono ?_ (C8_entries (d := d + 16) hO hP a2 h3 _ h))
      clear h
      clear hb
      rintro _ h427 ⟨r426, rfl, h⟩
      refine K1_i ?_
      refine qc_icmp_eq E_L_law 2116 dL_law_1837 (by decide) (fun (c428 : r425 = r426) => ?_) (fun (c428 : ¬ r425 = r426) => ?_)
      · replace h := h.1 c428
        refine qc_iinc E_L_law 7 rfl (by decide) (by decide) dL_law_2116 ?_
        refine qc_goto E_L_law 23 dL_law_2119 (by decide) ?_
        exact h
      · replace h := h.2 c428
        refine qc_iconst E_L_law 0 (by decide) dL_law_1840 ?_
        exact qc_zret E_L_law rfl (qm_nb (Or.inl rfl)) dL_law_1841 (Or.inl (⟨_, rfl, (Or.inl rfl), h⟩))
    by_cases s31_ : (v7 &&& 63) = 31
    · replace h := h.2.2.2.2.2.2.2.2.2.2.2.2.2.2.2.2.2.2.2.2.2.2.2.2.2.2.2.2.2.2.2.1 s31_
      refine qc_tableIn E_L_law 1842 dL_law_40 (by rw [s31_]; decide) (by rw [s31_]; decide) (by rw [s31_]; rfl) (by decide) ?_
      refine qc_aload_n E_L_law (by rfl) dL_law_1842 ?_
      refine qc_aload_n E_L_law (by rfl) dL_law_1843 ?_
      obtain ⟨c430, k429, rfl, h⟩ := h
      refine qc_callSX (c := c430) (k := k429) (As := [.ref a1, .ref a3]) (rest := []) E_L_law rfl M_X0_answersAnew rfl q1578 q1579 rfl rfl (Nat.le_of_ble_eq_true rfl) dL_law_1844 (qc_S.mono ?_ (C_X0_answersAnew (d := d) hO hP hX a1 a3 h3 k429 _ _ h))
      clear h
      rintro _ tz (hz | hz)
      · revert tz; rintro h432 ⟨r431, rfl, h⟩
        refine K1_i ?_
        refine qc_istore E_L_law (by decide) dL_law_1847 ?_
        refine qc_aload_n E_L_law (by rfl) dL_law_1849 ?_
        obtain ⟨⟨fz, hb⟩, h⟩ := h
        refine qc_callV (c := c430) (k := 0) (As := []) (rest := []) hO E_L_law rfl M_X8_answersAnew rfl q2289 q2290 q2291 (ci := 7) rfl rfl hb rfl rfl (Nat.le_of_ble_eq_true rfl) dL_law_1850 (qc_S.mono ?_ (C8_answersAnew (d := d + 11) hO hP a2 h432 _ h))
        clear h
        clear hb
        rintro _ h435 ⟨r434, rfl, h⟩
        refine K1_i ?_
        refine qc_istore E_L_law (by decide) dL_law_1853 ?_
        refine qc_aload_n E_L_law (by rfl) dL_law_1855 ?_
        obtain ⟨⟨fz, hb⟩, h⟩ := h
        refine qc_callV (c := c430) (k := 0) (As := []) (rest := []) hO E_L_law rfl M_X8_thrown rfl q1940 q1941 q1942 (ci := 7) rfl rfl hb rfl rfl (Nat.le_of_ble_eq_true rfl) dL_law_1856 (qc_S.mono ?_ (C8_thrown (d := d + 16) hO hP a2 h435 _ h))
        clear h
        clear hb
        rintro _ h437 ⟨r436, rfl, h⟩
        refine K1_i ?_
        refine qc_iload E_L_law (by rfl) dL_law_1859 ?_
        refine qc_icmp_eq E_L_law 1866 dL_law_1861 (by decide) (fun (c438 : r436 = r431) => ?_) (fun (c438 : ¬ r436 = r431) => ?_)
        · replace h := h.1 c438
          refine qc_iload E_L_law (by rfl) dL_law_1866 ?_
          refine qc_if_ne E_L_law 1883 dL_law_1868 (by decide) (fun (c439 : ¬ r431 = 0) => ?_) (fun (c439 : r431 = 0) => ?_)
          · replace h := h.1 c439
            refine qc_goto E_L_law 2116 dL_law_1883 (by decide) ?_
            refine qc_iinc E_L_law 7 rfl (by decide) (by decide) dL_law_2116 ?_
            refine qc_goto E_L_law 23 dL_law_2119 (by decide) ?_
            refine qc_drop 5 ?_
            refine qc_drop 6 ?_
            exact h
          · replace h := h.2 c439
            refine qc_aload_n E_L_law (by rfl) dL_law_1871 ?_
            refine qc_iconst E_L_law 0 (by decide) dL_law_1872 ?_
            refine re_lald E_L_law dL_law_1873 h ?_
            clear h
            intro v440 h
            refine qc_iload E_L_law (by rfl) dL_law_1874 ?_
            refine qc_i2l E_L_law dL_law_1876 ?_
            refine qc_lcmp E_L_law dL_law_1877 ?_
            refine qc_if_eq E_L_law 1883 dL_law_1878 (by decide) (fun (c441 : (lg_cmp v440 (Int32.toInt64 r434)) = 0) => ?_) (fun (c441 : ¬ (lg_cmp v440 (Int32.toInt64 r434)) = 0) => ?_)
            · replace h := h.1 c441
              refine qc_goto E_L_law 2116 dL_law_1883 (by decide) ?_
              refine qc_iinc E_L_law 7 rfl (by decide) (by decide) dL_law_2116 ?_
              refine qc_goto E_L_law 23 dL_law_2119 (by decide) ?_
              refine qc_drop 5 ?_
              refine qc_drop 6 ?_
              exact h
            · replace h := h.2 c441
              refine qc_iconst E_L_law 0 (by decide) dL_law_1881 ?_
              exact qc_zret E_L_law rfl (qm_nb (Or.inl rfl)) dL_law_1882 (Or.inl (⟨_, rfl, (Or.inl rfl), h⟩))
        · replace h := h.2 c438
          refine qc_iconst E_L_law 0 (by decide) dL_law_1864 ?_
          exact qc_zret E_L_law rfl (qm_nb (Or.inl rfl)) dL_law_1865 (Or.inl (⟨_, rfl, (Or.inl rfl), h⟩))
      · revert tz; rintro h433 ⟨Ez, rfl, h⟩
        refine K1_x ?_
        exact qc_out (by decide) (Or.inr ⟨_, rfl, h⟩)
    by_cases s32_ : (v7 &&& 63) = 32
    · replace h := h.2.2.2.2.2.2.2.2.2.2.2.2.2.2.2.2.2.2.2.2.2.2.2.2.2.2.2.2.2.2.2.2.1 s32_
      refine qc_tableIn E_L_law 1886 dL_law_40 (by rw [s32_]; decide) (by rw [s32_]; decide) (by rw [s32_]; rfl) (by decide) ?_
      refine qc_aload_n E_L_law (by rfl) dL_law_1886 ?_
      refine qc_aload_n E_L_law (by rfl) dL_law_1887 ?_
      refine qc_iload E_L_law (by rfl) dL_law_1888 ?_
      refine qc_iconst E_L_law 1 (by decide) dL_law_1890 ?_
      refine qc_iadd E_L_law dL_law_1891 ?_
      refine re_sald E_L_law hS dL_law_1892 h ?_
      clear h
      intro v442 h
      refine qc_aload_n E_L_law (by rfl) dL_law_1893 ?_
      refine qc_iload E_L_law (by rfl) dL_law_1894 ?_
      refine qc_iconst E_L_law 2 (by decide) dL_law_1896 ?_
      refine qc_iadd E_L_law dL_law_1897 ?_
      refine re_sald E_L_law hS dL_law_1898 h ?_
      clear h
      intro v443 h
      refine qc_aload_n E_L_law (by rfl) dL_law_1899 ?_
      obtain ⟨c445, k444, rfl, h⟩ := h
      refine qc_callSX (c := c445) (k := k444) (As := [.ref a1, .int v442, .int v443, .ref a3]) (rest := []) E_L_law rfl M_X0_answerAnew rfl q1589 q1590 rfl rfl (Nat.le_of_ble_eq_true rfl) dL_law_1900 (qc_S.mono ?_ (C_X0_answerAnew (d := d) hO hP hX a1 v442 v443 a3 h3 k444 _ _ h))
      clear h
      rintro _ tz (hz | hz)
      · revert tz; rintro h447 ⟨r446, rfl, h⟩
        refine K1_i ?_
        refine qc_istore E_L_law (by decide) dL_law_1903 ?_
        refine qc_aload_n E_L_law (by rfl) dL_law_1905 ?_
        refine qc_aload_n E_L_law (by rfl) dL_law_1906 ?_
        refine qc_iload E_L_law (by rfl) dL_law_1907 ?_
        refine qc_iconst E_L_law 1 (by decide) dL_law_1909 ?_
        refine qc_iadd E_L_law dL_law_1910 ?_
        refine re_sald E_L_law hS dL_law_1911 h ?_
        clear h
        intro v449 h
        refine qc_aload_n E_L_law (by rfl) dL_law_1912 ?_
        refine qc_iload E_L_law (by rfl) dL_law_1913 ?_
        refine qc_iconst E_L_law 2 (by decide) dL_law_1915 ?_
        refine qc_iadd E_L_law dL_law_1916 ?_
        refine re_sald E_L_law hS dL_law_1917 h ?_
        clear h
        intro v450 h
        obtain ⟨⟨fz, hb⟩, h⟩ := h
        refine qc_callV (c := c445) (k := 0) (As := [.int v449, .int v450]) (rest := []) hO E_L_law rfl M_X8_answerAnew rfl q2293 q2294 q2295 (ci := 7) rfl rfl hb rfl rfl (Nat.le_of_ble_eq_true rfl) dL_law_1918 (qc_S.mono ?_ (C8_answerAnew (d := d + 11) hO hP a2 v449 v450 h447 _ h))
        clear h
        clear hb
        rintro _ h452 ⟨r451, rfl, h⟩
        refine K1_i ?_
        refine qc_istore E_L_law (by decide) dL_law_1921 ?_
        refine qc_aload_n E_L_law (by rfl) dL_law_1923 ?_
        obtain ⟨⟨fz, hb⟩, h⟩ := h
        refine qc_callV (c := c445) (k := 0) (As := []) (rest := []) hO E_L_law rfl M_X8_thrown rfl q1940 q1941 q1942 (ci := 7) rfl rfl hb rfl rfl (Nat.le_of_ble_eq_true rfl) dL_law_1924 (qc_S.mono ?_ (C8_thrown (d := d + 16) hO hP a2 h452 _ h))
        clear h
        clear hb
        rintro _ h454 ⟨r453, rfl, h⟩
        refine K1_i ?_
        refine qc_iload E_L_law (by rfl) dL_law_1927 ?_
        refine qc_icmp_eq E_L_law 1934 dL_law_1929 (by decide) (fun (c455 : r453 = r446) => ?_) (fun (c455 : ¬ r453 = r446) => ?_)
        · replace h := h.1 c455
          refine qc_iload E_L_law (by rfl) dL_law_1934 ?_
          refine qc_if_ne E_L_law 1951 dL_law_1936 (by decide) (fun (c456 : ¬ r446 = 0) => ?_) (fun (c456 : r446 = 0) => ?_)
          · replace h := h.1 c456
            refine qc_goto E_L_law 2116 dL_law_1951 (by decide) ?_
            refine qc_iinc E_L_law 7 rfl (by decide) (by decide) dL_law_2116 ?_
            refine qc_goto E_L_law 23 dL_law_2119 (by decide) ?_
            refine qc_drop 5 ?_
            refine qc_drop 6 ?_
            exact h
          · replace h := h.2 c456
            refine qc_aload_n E_L_law (by rfl) dL_law_1939 ?_
            refine qc_iconst E_L_law 0 (by decide) dL_law_1940 ?_
            refine re_lald E_L_law dL_law_1941 h ?_
            clear h
            intro v457 h
            refine qc_iload E_L_law (by rfl) dL_law_1942 ?_
            refine qc_i2l E_L_law dL_law_1944 ?_
            refine qc_lcmp E_L_law dL_law_1945 ?_
            refine qc_if_eq E_L_law 1951 dL_law_1946 (by decide) (fun (c458 : (lg_cmp v457 (Int32.toInt64 r451)) = 0) => ?_) (fun (c458 : ¬ (lg_cmp v457 (Int32.toInt64 r451)) = 0) => ?_)
            · replace h := h.1 c458
              refine qc_goto E_L_law 2116 dL_law_1951 (by decide) ?_
              refine qc_iinc E_L_law 7 rfl (by decide) (by decide) dL_law_2116 ?_
              refine qc_goto E_L_law 23 dL_law_2119 (by decide) ?_
              refine qc_drop 5 ?_
              refine qc_drop 6 ?_
              exact h
            · replace h := h.2 c458
              refine qc_iconst E_L_law 0 (by decide) dL_law_1949 ?_
              exact qc_zret E_L_law rfl (qm_nb (Or.inl rfl)) dL_law_1950 (Or.inl (⟨_, rfl, (Or.inl rfl), h⟩))
        · replace h := h.2 c455
          refine qc_iconst E_L_law 0 (by decide) dL_law_1932 ?_
          exact qc_zret E_L_law rfl (qm_nb (Or.inl rfl)) dL_law_1933 (Or.inl (⟨_, rfl, (Or.inl rfl), h⟩))
      · revert tz; rintro h448 ⟨Ez, rfl, h⟩
        refine K1_x ?_
        exact qc_out (by decide) (Or.inr ⟨_, rfl, h⟩)
    by_cases s33_ : (v7 &&& 63) = 33
    · replace h := h.2.2.2.2.2.2.2.2.2.2.2.2.2.2.2.2.2.2.2.2.2.2.2.2.2.2.2.2.2.2.2.2.2.1 s33_
      refine qc_tableIn E_L_law 1954 dL_law_40 (by rw [s33_]; decide) (by rw [s33_]; decide) (by rw [s33_]; rfl) (by decide) ?_
      refine qc_aload_n E_L_law (by rfl) dL_law_1954 ?_
      refine qc_aload_n E_L_law (by rfl) dL_law_1955 ?_
      refine qc_iload E_L_law (by rfl) dL_law_1956 ?_
      refine qc_iconst E_L_law 1 (by decide) dL_law_1958 ?_
      refine qc_iadd E_L_law dL_law_1959 ?_
      refine re_sald E_L_law hS dL_law_1960 h ?_
      clear h
      intro v459 h
      refine qc_aload_n E_L_law (by rfl) dL_law_1961 ?_
      refine qc_iload E_L_law (by rfl) dL_law_1962 ?_
      refine qc_iconst E_L_law 2 (by decide) dL_law_1964 ?_
      refine qc_iadd E_L_law dL_law_1965 ?_
      refine re_sald E_L_law hS dL_law_1966 h ?_
      clear h
      intro v460 h
      refine qc_aload_n E_L_law (by rfl) dL_law_1967 ?_
      refine qc_iload E_L_law (by rfl) dL_law_1968 ?_
      refine qc_iconst E_L_law 3 (by decide) dL_law_1970 ?_
      refine qc_iadd E_L_law dL_law_1971 ?_
      refine re_sald E_L_law hS dL_law_1972 h ?_
      clear h
      intro v461 h
      refine qc_aload_n E_L_law (by rfl) dL_law_1973 ?_
      refine qc_iload E_L_law (by rfl) dL_law_1974 ?_
      refine qc_iconst E_L_law 4 (by decide) dL_law_1976 ?_
      refine qc_iadd E_L_law dL_law_1977 ?_
      refine re_sald E_L_law hS dL_law_1978 h ?_
      clear h
      intro v462 h
      refine qc_aload_n E_L_law (by rfl) dL_law_1979 ?_
      refine qc_iload E_L_law (by rfl) dL_law_1980 ?_
      refine qc_iconst E_L_law 5 (by decide) dL_law_1982 ?_
      refine qc_iadd E_L_law dL_law_1983 ?_
      refine re_sald E_L_law hS dL_law_1984 h ?_
      clear h
      intro v463 h
      refine qc_aload_n E_L_law (by rfl) dL_law_1985 ?_
      refine qc_iload E_L_law (by rfl) dL_law_1986 ?_
      refine qc_bipush E_L_law 6 (by decide) dL_law_1988 ?_
      refine qc_iadd E_L_law dL_law_1990 ?_
      refine re_sald E_L_law hS dL_law_1991 h ?_
      clear h
      intro v464 h
      refine qc_aload_n E_L_law (by rfl) dL_law_1992 ?_
      obtain ⟨c466, k465, rfl, h⟩ := h
      refine qc_callSX (c := c466) (k := k465) (As := [.ref a1, .int v459, .int v460, .int v461, .int v462, .int v463, .int v464, .ref a3]) (rest := []) E_L_law rfl M_X0_step rfl q1596 q1597 rfl rfl (Nat.le_of_ble_eq_true rfl) dL_law_1993 (qc_S.mono ?_ (C_X0_step (d := d + 9) hO hP hX a1 v459 v460 v461 v462 v463 v464 a3 h3 k465 _ _ h))
      clear h
      rintro _ tz (hz | hz)
      · revert tz; rintro h468 ⟨r467, rfl, h⟩
        refine K1_i ?_
        refine qc_istore E_L_law (by decide) dL_law_1996 ?_
        refine qc_aload_n E_L_law (by rfl) dL_law_1998 ?_
        refine qc_aload_n E_L_law (by rfl) dL_law_1999 ?_
        refine qc_iload E_L_law (by rfl) dL_law_2000 ?_
        refine qc_iconst E_L_law 1 (by decide) dL_law_2002 ?_
        refine qc_iadd E_L_law dL_law_2003 ?_
        refine re_sald E_L_law hS dL_law_2004 h ?_
        clear h
        intro v470 h
        refine qc_aload_n E_L_law (by rfl) dL_law_2005 ?_
        refine qc_iload E_L_law (by rfl) dL_law_2006 ?_
        refine qc_iconst E_L_law 2 (by decide) dL_law_2008 ?_
        refine qc_iadd E_L_law dL_law_2009 ?_
        refine re_sald E_L_law hS dL_law_2010 h ?_
        clear h
        intro v471 h
        refine qc_aload_n E_L_law (by rfl) dL_law_2011 ?_
        refine qc_iload E_L_law (by rfl) dL_law_2012 ?_
        refine qc_iconst E_L_law 3 (by decide) dL_law_2014 ?_
        refine qc_iadd E_L_law dL_law_2015 ?_
        refine re_sald E_L_law hS dL_law_2016 h ?_
        clear h
        intro v472 h
        refine qc_aload_n E_L_law (by rfl) dL_law_2017 ?_
        refine qc_iload E_L_law (by rfl) dL_law_2018 ?_
        refine qc_iconst E_L_law 4 (by decide) dL_law_2020 ?_
        refine qc_iadd E_L_law dL_law_2021 ?_
        refine re_sald E_L_law hS dL_law_2022 h ?_
        clear h
        intro v473 h
        refine qc_aload_n E_L_law (by rfl) dL_law_2023 ?_
        refine qc_iload E_L_law (by rfl) dL_law_2024 ?_
        refine qc_iconst E_L_law 5 (by decide) dL_law_2026 ?_
        refine qc_iadd E_L_law dL_law_2027 ?_
        refine re_sald E_L_law hS dL_law_2028 h ?_
        clear h
        intro v474 h
        refine qc_aload_n E_L_law (by rfl) dL_law_2029 ?_
        refine qc_iload E_L_law (by rfl) dL_law_2030 ?_
        refine qc_bipush E_L_law 6 (by decide) dL_law_2032 ?_
        refine qc_iadd E_L_law dL_law_2034 ?_
        refine re_sald E_L_law hS dL_law_2035 h ?_
        clear h
        intro v475 h
        obtain ⟨⟨fz, hb⟩, h⟩ := h
        refine qc_callV (c := c466) (k := 0) (As := [.int v470, .int v471, .int v472, .int v473, .int v474, .int v475]) (rest := []) hO E_L_law rfl M_X8_step rfl q2297 q2298 q2299 (ci := 7) rfl rfl hb rfl rfl (Nat.le_of_ble_eq_true rfl) dL_law_2036 (qc_S.mono ?_ (C8_step (d := d + 14) hO hP a2 v470 v471 v472 v473 v474 v475 h468 _ h))
        clear h
        clear hb
        rintro _ h477 ⟨r476, rfl, h⟩
        refine K1_i ?_
        refine qc_istore E_L_law (by decide) dL_law_2039 ?_
        refine qc_aload_n E_L_law (by rfl) dL_law_2041 ?_
        obtain ⟨⟨fz, hb⟩, h⟩ := h
        refine qc_callV (c := c466) (k := 0) (As := []) (rest := []) hO E_L_law rfl M_X8_thrown rfl q1940 q1941 q1942 (ci := 7) rfl rfl hb rfl rfl (Nat.le_of_ble_eq_true rfl) dL_law_2042 (qc_S.mono ?_ (C8_thrown (d := d + 16) hO hP a2 h477 _ h))
        clear h
        clear hb
        rintro _ h479 ⟨r478, rfl, h⟩
        refine K1_i ?_
        refine qc_iload E_L_law (by rfl) dL_law_2045 ?_
        refine qc_icmp_eq E_L_law 2052 dL_law_2047 (by decide) (fun (c480 : r478 = r467) => ?_) (fun (c480 : ¬ r478 = r467) => ?_)
        · replace h := h.1 c480
          refine qc_iload E_L_law (by rfl) dL_law_2052 ?_
          refine qc_if_ne E_L_law 2069 dL_law_2054 (by decide) (fun (c481 : ¬ r467 = 0) => ?_) (fun (c481 : r467 = 0) => ?_)
          · replace h := h.1 c481
            refine qc_goto E_L_law 2116 dL_law_2069 (by decide) ?_
            refine qc_iinc E_L_law 7 rfl (by decide) (by decide) dL_law_2116 ?_
            refine qc_goto E_L_law 23 dL_law_2119 (by decide) ?_
            refine qc_drop 5 ?_
            refine qc_drop 6 ?_
            exact h
          · replace h := h.2 c481
            refine qc_aload_n E_L_law (by rfl) dL_law_2057 ?_
            refine qc_iconst E_L_law 0 (by decide) dL_law_2058 ?_
            refine re_lald E_L_law dL_law_2059 h ?_
            clear h
            intro v482 h
            refine qc_iload E_L_law (by rfl) dL_law_2060 ?_
            refine qc_i2l E_L_law dL_law_2062 ?_
            refine qc_lcmp E_L_law dL_law_2063 ?_
            refine qc_if_eq E_L_law 2069 dL_law_2064 (by decide) (fun (c483 : (lg_cmp v482 (Int32.toInt64 r476)) = 0) => ?_) (fun (c483 : ¬ (lg_cmp v482 (Int32.toInt64 r476)) = 0) => ?_)
            · replace h := h.1 c483
              refine qc_goto E_L_law 2116 dL_law_2069 (by decide) ?_
              refine qc_iinc E_L_law 7 rfl (by decide) (by decide) dL_law_2116 ?_
              refine qc_goto E_L_law 23 dL_law_2119 (by decide) ?_
              refine qc_drop 5 ?_
              refine qc_drop 6 ?_
              exact h
            · replace h := h.2 c483
              refine qc_iconst E_L_law 0 (by decide) dL_law_2067 ?_
              exact qc_zret E_L_law rfl (qm_nb (Or.inl rfl)) dL_law_2068 (Or.inl (⟨_, rfl, (Or.inl rfl), h⟩))
        · replace h := h.2 c480
          refine qc_iconst E_L_law 0 (by decide) dL_law_2050 ?_
          exact qc_zret E_L_law rfl (qm_nb (Or.inl rfl)) dL_law_2051 (Or.inl (⟨_, rfl, (Or.inl rfl), h⟩))
      · revert tz; rintro h469 ⟨Ez, rfl, h⟩
        refine K1_x ?_
        exact qc_out (by decide) (Or.inr ⟨_, rfl, h⟩)
    by_cases s34_ : (v7 &&& 63) = 34
    · replace h := h.2.2.2.2.2.2.2.2.2.2.2.2.2.2.2.2.2.2.2.2.2.2.2.2.2.2.2.2.2.2.2.2.2.2.1 s34_
      refine qc_tableIn E_L_law 2072 dL_law_40 (by rw [s34_]; decide) (by rw [s34_]; decide) (by rw [s34_]; rfl) (by decide) ?_
      refine qc_aload_n E_L_law (by rfl) dL_law_2072 ?_
      refine qc_aload_n E_L_law (by rfl) dL_law_2073 ?_
      obtain ⟨c485, k484, rfl, h⟩ := h
      refine qc_callSX (c := c485) (k := k484) (As := [.ref a1, .ref a3]) (rest := []) E_L_law rfl M_X0_run rfl q1603 q1604 rfl rfl (Nat.le_of_ble_eq_true rfl) dL_law_2074 (qc_S.mono ?_ (C_X0_run (d := d + 2) hO hP hX a1 a3 h3 k484 _ _ h))
      clear h
      rintro _ tz (hz | hz)
      · revert tz; rintro h487 ⟨r486, rfl, h⟩
        refine K1_i ?_
        refine qc_istore E_L_law (by decide) dL_law_2077 ?_
        refine qc_aload_n E_L_law (by rfl) dL_law_2079 ?_
        obtain ⟨⟨fz, hb⟩, h⟩ := h
        refine qc_callV (c := c485) (k := 0) (As := []) (rest := []) hO E_L_law rfl M_X8_run rfl q2301 q2302 q2303 (ci := 7) rfl rfl hb rfl rfl (Nat.le_of_ble_eq_true rfl) dL_law_2080 (qc_S.mono ?_ (C8_run (d := d + 9) hO hP a2 h487 _ h))
        clear h
        clear hb
        rintro _ h490 ⟨r489, rfl, h⟩
        refine K1_i ?_
        refine qc_istore E_L_law (by decide) dL_law_2083 ?_
        refine qc_aload_n E_L_law (by rfl) dL_law_2085 ?_
        obtain ⟨⟨fz, hb⟩, h⟩ := h
        refine qc_callV (c := c485) (k := 0) (As := []) (rest := []) hO E_L_law rfl M_X8_thrown rfl q1940 q1941 q1942 (ci := 7) rfl rfl hb rfl rfl (Nat.le_of_ble_eq_true rfl) dL_law_2086 (qc_S.mono ?_ (C8_thrown (d := d + 16) hO hP a2 h490 _ h))
        clear h
        clear hb
        rintro _ h492 ⟨r491, rfl, h⟩
        refine K1_i ?_
        refine qc_iload E_L_law (by rfl) dL_law_2089 ?_
        refine qc_icmp_eq E_L_law 2096 dL_law_2091 (by decide) (fun (c493 : r491 = r486) => ?_) (fun (c493 : ¬ r491 = r486) => ?_)
        · replace h := h.1 c493
          refine qc_iload E_L_law (by rfl) dL_law_2096 ?_
          refine qc_if_ne E_L_law 2113 dL_law_2098 (by decide) (fun (c494 : ¬ r486 = 0) => ?_) (fun (c494 : r486 = 0) => ?_)
          · replace h := h.1 c494
            refine qc_goto E_L_law 2116 dL_law_2113 (by decide) ?_
            refine qc_iinc E_L_law 7 rfl (by decide) (by decide) dL_law_2116 ?_
            refine qc_goto E_L_law 23 dL_law_2119 (by decide) ?_
            refine qc_drop 5 ?_
            refine qc_drop 6 ?_
            exact h
          · replace h := h.2 c494
            refine qc_aload_n E_L_law (by rfl) dL_law_2101 ?_
            refine qc_iconst E_L_law 0 (by decide) dL_law_2102 ?_
            refine re_lald E_L_law dL_law_2103 h ?_
            clear h
            intro v495 h
            refine qc_iload E_L_law (by rfl) dL_law_2104 ?_
            refine qc_i2l E_L_law dL_law_2106 ?_
            refine qc_lcmp E_L_law dL_law_2107 ?_
            refine qc_if_eq E_L_law 2113 dL_law_2108 (by decide) (fun (c496 : (lg_cmp v495 (Int32.toInt64 r489)) = 0) => ?_) (fun (c496 : ¬ (lg_cmp v495 (Int32.toInt64 r489)) = 0) => ?_)
            · replace h := h.1 c496
              refine qc_goto E_L_law 2116 dL_law_2113 (by decide) ?_
              refine qc_iinc E_L_law 7 rfl (by decide) (by decide) dL_law_2116 ?_
              refine qc_goto E_L_law 23 dL_law_2119 (by decide) ?_
              refine qc_drop 5 ?_
              refine qc_drop 6 ?_
              exact h
            · replace h := h.2 c496
              refine qc_iconst E_L_law 0 (by decide) dL_law_2111 ?_
              exact qc_zret E_L_law rfl (qm_nb (Or.inl rfl)) dL_law_2112 (Or.inl (⟨_, rfl, (Or.inl rfl), h⟩))
        · replace h := h.2 c493
          refine qc_iconst E_L_law 0 (by decide) dL_law_2094 ?_
          exact qc_zret E_L_law rfl (qm_nb (Or.inl rfl)) dL_law_2095 (Or.inl (⟨_, rfl, (Or.inl rfl), h⟩))
      · revert tz; rintro h488 ⟨Ez, rfl, h⟩
        refine K1_x ?_
        exact qc_out (by decide) (Or.inr ⟨_, rfl, h⟩)
    replace h := h.2.2.2.2.2.2.2.2.2.2.2.2.2.2.2.2.2.2.2.2.2.2.2.2.2.2.2.2.2.2.2.2.2.2.2 s0_ s1_ s2_ s3_ s4_ s5_ s6_ s7_ s8_ s9_ s10_ s11_ s12_ s13_ s14_ s15_ s16_ s17_ s18_ s19_ s20_ s21_ s22_ s23_ s24_ s25_ s26_ s27_ s28_ s29_ s30_ s31_ s32_ s33_ s34_
    refine qc_tableOut E_L_law 2116 dL_law_40 (qm_sw35 s0_ s1_ s2_ s3_ s4_ s5_ s6_ s7_ s8_ s9_ s10_ s11_ s12_ s13_ s14_ s15_ s16_ s17_ s18_ s19_ s20_ s21_ s22_ s23_ s24_ s25_ s26_ s27_ s28_ s29_ s30_ s31_ s32_ s33_ s34_) (by decide) ?_
    refine qc_iinc E_L_law 7 rfl (by decide) (by decide) dL_law_2116 ?_
    refine qc_goto E_L_law 23 dL_law_2119 (by decide) ?_
    exact h
