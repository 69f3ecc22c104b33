/-! SR 18 (printed by gen4.py): the constructor of the reference -/
set_option maxRecDepth 100000
theorem ck_X8 : qh_K 7 RX8 TX8 94 tyX8 := ⟨rfl, in_X8, tyX8_ok, nmX8⟩
theorem df_X8 : ∀ j, j < 94 → defaultValue (tyX8 j) = vp_V [.int 0, .null, .null, .null, .null, .null, .int 0, .int 0, .int 0, .null, .null, .null, .null, .null, .null, .null, .null, .null, .null, .null, .null, .null, .int 0, .null, .int 0, .null, .null, .null, .null, .int 0, .null, .null, .null, .null, .int 0, .null, .null, .int 0, .int 0, .int 0, .null, .null, .null, .null, .null, .null, .null, .null, .null, .null, .null, .null, .int 0, .int 0, .int 0, .int 0, .null, .null, .null, .null, .null, .null, .int 0, .int 0, .null, .null, .null, .null, .int 0, .int 0, .null, .int 0, .null, .null, .null, .int 0, .int 0, .null, .int 0, .int 0, .int 0, .int 0, .int 0, .int 0, .null, .int 0, .null, .null, .null, .null, .null, .null, .null, .null] j := by
  intro j hj
  match j, hj with
  | 0, _ => rfl
  | 1, _ => rfl
  | 2, _ => rfl
  | 3, _ => rfl
  | 4, _ => rfl
  | 5, _ => rfl
  | 6, _ => rfl
  | 7, _ => rfl
  | 8, _ => rfl
  | 9, _ => rfl
  | 10, _ => rfl
  | 11, _ => rfl
  | 12, _ => rfl
  | 13, _ => rfl
  | 14, _ => rfl
  | 15, _ => rfl
  | 16, _ => rfl
  | 17, _ => rfl
  | 18, _ => rfl
  | 19, _ => rfl
  | 20, _ => rfl
  | 21, _ => rfl
  | 22, _ => rfl
  | 23, _ => rfl
  | 24, _ => rfl
  | 25, _ => rfl
  | 26, _ => rfl
  | 27, _ => rfl
  | 28, _ => rfl
  | 29, _ => rfl
  | 30, _ => rfl
  | 31, _ => rfl
  | 32, _ => rfl
  | 33, _ => rfl
  | 34, _ => rfl
  | 35, _ => rfl
  | 36, _ => rfl
  | 37, _ => rfl
  | 38, _ => rfl
  | 39, _ => rfl
  | 40, _ => rfl
  | 41, _ => rfl
  | 42, _ => rfl
  | 43, _ => rfl
  | 44, _ => rfl
  | 45, _ => rfl
  | 46, _ => rfl
  | 47, _ => rfl
  | 48, _ => rfl
  | 49, _ => rfl
  | 50, _ => rfl
  | 51, _ => rfl
  | 52, _ => rfl
  | 53, _ => rfl
  | 54, _ => rfl
  | 55, _ => rfl
  | 56, _ => rfl
  | 57, _ => rfl
  | 58, _ => rfl
  | 59, _ => rfl
  | 60, _ => rfl
  | 61, _ => rfl
  | 62, _ => rfl
  | 63, _ => rfl
  | 64, _ => rfl
  | 65, _ => rfl
  | 66, _ => rfl
  | 67, _ => rfl
  | 68, _ => rfl
  | 69, _ => rfl
  | 70, _ => rfl
  | 71, _ => rfl
  | 72, _ => rfl
  | 73, _ => rfl
  | 74, _ => rfl
  | 75, _ => rfl
  | 76, _ => rfl
  | 77, _ => rfl
  | 78, _ => rfl
  | 79, _ => rfl
  | 80, _ => rfl
  | 81, _ => rfl
  | 82, _ => rfl
  | 83, _ => rfl
  | 84, _ => rfl
  | 85, _ => rfl
  | 86, _ => rfl
  | 87, _ => rfl
  | 88, _ => rfl
  | 89, _ => rfl
  | 90, _ => rfl
  | 91, _ => rfl
  | 92, _ => rfl
  | 93, _ => rfl
  | n + 94, hj => omega
def I_X8_init : qh_I := (yX8_init, cX8_init, 1, (Option.none : Option Jvm.ClassFile.FieldType), [])
theorem E_X8_init : I_X8_init.2.1 = cX8_init := rfl
theorem M_X8_init : qh_M I_X8_init 0 := ⟨by decide, by decide, by decide +kernel, q95, q1655, by decide⟩
def T_X8_init (g : qh_G) (a0 : Nat) (hp : qc_H) (c : Nat) (K : qc_H → Prop) : Prop := eNI g.2.2.2.1 hp 6 c (fun w1 h2 c3 => eP h2 a0 7 1 (.ref w1) (fun h4 => eNI g.2.2.2.1 h4 72 c3 (fun w5 h6 c7 => eP h6 a0 7 2 (.ref w5) (fun h8 => eNI g.2.2.2.1 h8 288 c7 (fun w9 h10 c11 => eP h10 a0 7 3 (.ref w9) (fun h12 => eNI g.2.2.2.1 h12 6 c11 (fun w13 h14 c15 => eP h14 a0 7 4 (.ref w13) (fun h16 => eNI g.2.2.2.1 h16 6 c15 (fun w17 h18 c19 => eP h18 a0 7 5 (.ref w17) (fun h20 => eNI g.2.2.2.1 h20 3 c19 (fun w21 h22 c23 => eW g.2.2.2.1 h22 w21 0 1 (fun h24 => eW g.2.2.2.1 h24 w21 1 1 (fun h25 => eW g.2.2.2.1 h25 w21 2 1 (fun h26 => eP h26 a0 7 9 (.ref w21) (fun h27 => eNI g.2.2.2.1 h27 3 c23 (fun w28 h29 c30 => eP h29 a0 7 10 (.ref w28) (fun h31 => eNI g.2.2.2.1 h31 3 c30 (fun w32 h33 c34 => eW g.2.2.2.1 h33 w32 0 20 (fun h35 => eW g.2.2.2.1 h35 w32 1 20 (fun h36 => eW g.2.2.2.1 h36 w32 2 20 (fun h37 => eP h37 a0 7 11 (.ref w32) (fun h38 => eNI g.2.2.2.1 h38 3 c34 (fun w39 h40 c41 => eW g.2.2.2.1 h40 w39 0 12 (fun h42 => eW g.2.2.2.1 h42 w39 1 12 (fun h43 => eW g.2.2.2.1 h43 w39 2 12 (fun h44 => eP h44 a0 7 12 (.ref w39) (fun h45 => eNI g.2.2.2.1 h45 3 c41 (fun w46 h47 c48 => eW g.2.2.2.1 h47 w46 0 60 (fun h49 => eW g.2.2.2.1 h49 w46 1 60 (fun h50 => eW g.2.2.2.1 h50 w46 2 60 (fun h51 => eP h51 a0 7 13 (.ref w46) (fun h52 => eNI g.2.2.2.1 h52 3 c48 (fun w53 h54 c55 => eP h54 a0 7 14 (.ref w53) (fun h56 => eNZ g.2.2.2.1 h56 3 c55 (fun w57 h58 c59 => eP h58 a0 7 15 (.ref w57) (fun h60 => eNI g.2.2.2.1 h60 3 c59 (fun w61 h62 c63 => eP h62 a0 7 16 (.ref w61) (fun h64 => eNI g.2.2.2.1 h64 3 c63 (fun w65 h66 c67 => eP h66 a0 7 17 (.ref w65) (fun h68 => eNI g.2.2.2.1 h68 3 c67 (fun w69 h70 c71 => eW g.2.2.2.1 h70 w69 0 5 (fun h72 => eW g.2.2.2.1 h72 w69 1 1 (fun h73 => eW g.2.2.2.1 h73 w69 2 3 (fun h74 => eP h74 a0 7 18 (.ref w69) (fun h75 => eNI g.2.2.2.1 h75 3 c71 (fun w76 h77 c78 => eW g.2.2.2.1 h77 w76 0 1 (fun h79 => eW g.2.2.2.1 h79 w76 1 1 (fun h80 => eW g.2.2.2.1 h80 w76 2 2 (fun h81 => eP h81 a0 7 19 (.ref w76) (fun h82 => eNI g.2.2.2.1 h82 6 c78 (fun w83 h84 c85 => eP h84 a0 7 20 (.ref w83) (fun h86 => eNI g.2.2.2.1 h86 6 c85 (fun w87 h88 c89 => eW g.2.2.2.1 h88 w87 0 10 (fun h90 => eW g.2.2.2.1 h90 w87 1 10 (fun h91 => eW g.2.2.2.1 h91 w87 2 10 (fun h92 => eW g.2.2.2.1 h92 w87 3 10 (fun h93 => eW g.2.2.2.1 h93 w87 4 10 (fun h94 => eW g.2.2.2.1 h94 w87 5 10 (fun h95 => eP h95 a0 7 21 (.ref w87) (fun h96 => eNI g.2.2.2.1 h96 3 c89 (fun w97 h98 c99 => eP h98 a0 7 23 (.ref w97) (fun h100 => eNI g.2.2.2.1 h100 3 c99 (fun w101 h102 c103 => eP h102 a0 7 25 (.ref w101) (fun h104 => eNI g.2.2.2.1 h104 3 c103 (fun w105 h106 c107 => eP h106 a0 7 26 (.ref w105) (fun h108 => eNI g.2.2.2.1 h108 3 c107 (fun w109 h110 c111 => eP h110 a0 7 27 (.ref w109) (fun h112 => eNI g.2.2.2.1 h112 3 c111 (fun w113 h114 c115 => eP h114 a0 7 28 (.ref w113) (fun h116 => eNI g.2.2.2.1 h116 4 c115 (fun w117 h118 c119 => eP h118 a0 7 30 (.ref w117) (fun h120 => eNI g.2.2.2.1 h120 4 c119 (fun w121 h122 c123 => eP h122 a0 7 31 (.ref w121) (fun h124 => eNI g.2.2.2.1 h124 4 c123 (fun w125 h126 c127 => eP h126 a0 7 32 (.ref w125) (fun h128 => eNI g.2.2.2.1 h128 4 c127 (fun w129 h130 c131 => eP h130 a0 7 33 (.ref w129) (fun h132 => eNI g.2.2.2.1 h132 3 c131 (fun w133 h134 c135 => eP h134 a0 7 35 (.ref w133) (fun h136 => eNI g.2.2.2.1 h136 3 c135 (fun w137 h138 c139 => eP h138 a0 7 36 (.ref w137) (fun h140 => eP h140 a0 7 37 (.int 40) (fun h141 => eNI g.2.2.2.1 h141 6 c139 (fun w142 h143 c144 => eP h143 a0 7 40 (.ref w142) (fun h145 => eNI g.2.2.2.1 h145 6 c144 (fun w146 h147 c148 => eP h147 a0 7 41 (.ref w146) (fun h149 => eNI g.2.2.2.1 h149 6 c148 (fun w150 h151 c152 => eP h151 a0 7 42 (.ref w150) (fun h153 => eNI g.2.2.2.1 h153 6 c152 (fun w154 h155 c156 => eP h155 a0 7 43 (.ref w154) (fun h157 => eNI g.2.2.2.1 h157 6 c156 (fun w158 h159 c160 => eP h159 a0 7 44 (.ref w158) (fun h161 => eNI g.2.2.2.1 h161 6 c160 (fun w162 h163 c164 => eP h163 a0 7 45 (.ref w162) (fun h165 => eNI g.2.2.2.1 h165 72 c164 (fun w166 h167 c168 => eP h167 a0 7 46 (.ref w166) (fun h169 => eNI g.2.2.2.1 h169 288 c168 (fun w170 h171 c172 => eP h171 a0 7 47 (.ref w170) (fun h173 => eNI g.2.2.2.1 h173 6 c172 (fun w174 h175 c176 => eP h175 a0 7 48 (.ref w174) (fun h177 => eNI g.2.2.2.1 h177 24 c176 (fun w178 h179 c180 => eP h179 a0 7 49 (.ref w178) (fun h181 => eNI g.2.2.2.1 h181 24 c180 (fun w182 h183 c184 => eP h183 a0 7 50 (.ref w182) (fun h185 => eNI g.2.2.2.1 h185 24 c184 (fun w186 h187 c188 => eP h187 a0 7 51 (.ref w186) (fun h189 => eNZ g.2.2.2.1 h189 3 c188 (fun w190 h191 c192 => eP h191 a0 7 56 (.ref w190) (fun h193 => eNI g.2.2.2.1 h193 3 c192 (fun w194 h195 c196 => eP h195 a0 7 57 (.ref w194) (fun h197 => eNI g.2.2.2.1 h197 36 c196 (fun w198 h199 c200 => eP h199 a0 7 58 (.ref w198) (fun h201 => eNI g.2.2.2.1 h201 144 c200 (fun w202 h203 c204 => eP h203 a0 7 59 (.ref w202) (fun h205 => eNI g.2.2.2.1 h205 3 c204 (fun w206 h207 c208 => eP h207 a0 7 60 (.ref w206) (fun h209 => eNI g.2.2.2.1 h209 3 c208 (fun w210 h211 c212 => eP h211 a0 7 61 (.ref w210) (fun h213 => eNI g.2.2.2.1 h213 12 c212 (fun w214 h215 c216 => eP h215 a0 7 64 (.ref w214) (fun h217 => eNI g.2.2.2.1 h217 3 c216 (fun w218 h219 c220 => eP h219 a0 7 65 (.ref w218) (fun h221 => eNI g.2.2.2.1 h221 144 c220 (fun w222 h223 c224 => eP h223 a0 7 66 (.ref w222) (fun h225 => eNI g.2.2.2.1 h225 3 c224 (fun w226 h227 c228 => eP h227 a0 7 67 (.ref w226) (fun h229 => eNI g.2.2.2.1 h229 120 c228 (fun w230 h231 c232 => eP h231 a0 7 70 (.ref w230) (fun h233 => eNI g.2.2.2.1 h233 12 c232 (fun w234 h235 c236 => eP h235 a0 7 72 (.ref w234) (fun h237 => eNI g.2.2.2.1 h237 12 c236 (fun w238 h239 c240 => eP h239 a0 7 73 (.ref w238) (fun h241 => eNI g.2.2.2.1 h241 12 c240 (fun w242 h243 c244 => eP h243 a0 7 74 (.ref w242) (fun h245 => eNI g.2.2.2.1 h245 120 c244 (fun w246 h247 c248 => eP h247 a0 7 77 (.ref w246) (fun h249 => eP h249 a0 7 79 (.int ((-1))) (fun h250 => eNI g.2.2.2.1 h250 3 c248 (fun w251 h252 c253 => eP h252 a0 7 84 (.ref w251) (fun h254 => eNI g.2.2.2.1 h254 4 c253 (fun w255 h256 c257 => eP h256 a0 7 86 (.ref w255) (fun h258 => eNI g.2.2.2.1 h258 4 c257 (fun w259 h260 c261 => eP h260 a0 7 87 (.ref w259) (fun h262 => eNI g.2.2.2.1 h262 4 c261 (fun w263 h264 c265 => eP h264 a0 7 88 (.ref w263) (fun h266 => eNI g.2.2.2.1 h266 4 c265 (fun w267 h268 c269 => eP h268 a0 7 89 (.ref w267) (fun h270 => eNI g.2.2.2.1 h270 4 c269 (fun w271 h272 c273 => eP h272 a0 7 90 (.ref w271) (fun h274 => eNI g.2.2.2.1 h274 4 c273 (fun w275 h276 c277 => eP h276 a0 7 91 (.ref w275) (fun h278 => eNI g.2.2.2.1 h278 4 c277 (fun w279 h280 c281 => eP h280 a0 7 92 (.ref w279) (fun h282 => eNI g.2.2.2.1 h282 16 c281 (fun w283 h284 c285 => eP h284 a0 7 93 (.ref w283) (fun h286 => K h286))))))))))))))))))))))))))))))))))))))))))))))))))))))))))))))))))))))))))))))))))))))))))))))))))))))))))))))))))))))))))))))))))))))))))))))))))))))))))))
set_option maxHeartbeats 8000000 in
theorem C_X8_init {g : qh_G} {x : qc_X} {d : Nat} {sd : String → Nat → Nat} (hO : qc_O g x) (hP : qc_P g qp_ts sd) (a0 : Nat) (hp : qc_H) (c : Nat) (K : qc_H → Prop) (hz : T_X8_init g a0 hp c K) : qc_S g x (d + 0) c I_X8_init [.ref a0] hp (oV K) := by
  refine qc_S.of (by decide) rfl (ls := [some (.ref a0)]) rfl (Nat.le_of_ble_eq_true rfl) (ct_c rfl ct_n) ?_
  unfold T_X8_init at hz
  have h := hz
  clear hz
  refine qc_aload_n E_X8_init (by rfl) dX8_init_0 ?_
  refine qc_objInit E_X8_init rfl q1656 q133 q134 dX8_init_1 (Nat.le_of_ble_eq_true rfl) ?_
  refine qc_aload_n E_X8_init (by rfl) dX8_init_4 ?_
  refine qc_bipush E_X8_init 6 (by decide) dX8_init_5 ?_
  refine re_newI hO E_X8_init q559 dX8_init_7 h ?_
  clear h
  intro w1 h2 c3 h
  refine re_putF E_X8_init rfl rfl ck_X8 (by decide) 1 (by decide) q1658 rfl rfl rfl rfl dX8_init_9 h ?_
  clear h
  intro h4 h
  refine qc_aload_n E_X8_init (by rfl) dX8_init_12 ?_
  refine qc_bipush E_X8_init 72 (by decide) dX8_init_13 ?_
  refine re_newI hO E_X8_init q559 dX8_init_15 h ?_
  clear h
  intro w5 h6 c7 h
  refine re_putF E_X8_init rfl rfl ck_X8 (by decide) 2 (by decide) q1659 rfl rfl rfl rfl dX8_init_17 h ?_
  clear h
  intro h8 h
  refine qc_aload_n E_X8_init (by rfl) dX8_init_20 ?_
  refine qc_sipush E_X8_init 288 (by decide) dX8_init_21 ?_
  refine re_newI hO E_X8_init q559 dX8_init_24 h ?_
  clear h
  intro w9 h10 c11 h
  refine re_putF E_X8_init rfl rfl ck_X8 (by decide) 3 (by decide) q1660 rfl rfl rfl rfl dX8_init_26 h ?_
  clear h
  intro h12 h
  refine qc_aload_n E_X8_init (by rfl) dX8_init_29 ?_
  refine qc_bipush E_X8_init 6 (by decide) dX8_init_30 ?_
  refine re_newI hO E_X8_init q559 dX8_init_32 h ?_
  clear h
  intro w13 h14 c15 h
  refine re_putF E_X8_init rfl rfl ck_X8 (by decide) 4 (by decide) q1661 rfl rfl rfl rfl dX8_init_34 h ?_
  clear h
  intro h16 h
  refine qc_aload_n E_X8_init (by rfl) dX8_init_37 ?_
  refine qc_bipush E_X8_init 6 (by decide) dX8_init_38 ?_
  refine re_newI hO E_X8_init q559 dX8_init_40 h ?_
  clear h
  intro w17 h18 c19 h
  refine re_putF E_X8_init rfl rfl ck_X8 (by decide) 5 (by decide) q1662 rfl rfl rfl rfl dX8_init_42 h ?_
  clear h
  intro h20 h
  refine qc_aload_n E_X8_init (by rfl) dX8_init_45 ?_
  refine qc_iconst E_X8_init 3 (by decide) dX8_init_46 ?_
  refine re_newI hO E_X8_init q559 dX8_init_47 h ?_
  clear h
  intro w21 h22 c23 h
  refine qc_dup E_X8_init rfl dX8_init_49 ?_
  refine qc_iconst E_X8_init 0 (by decide) dX8_init_50 ?_
  refine qc_iconst E_X8_init 1 (by decide) dX8_init_51 ?_
  refine re_iast E_X8_init dX8_init_52 h ?_
  clear h
  intro h24 h
  refine qc_dup E_X8_init rfl dX8_init_53 ?_
  refine qc_iconst E_X8_init 1 (by decide) dX8_init_54 ?_
  refine qc_iconst E_X8_init 1 (by decide) dX8_init_55 ?_
  refine re_iast E_X8_init dX8_init_56 h ?_
  clear h
  intro h25 h
  refine qc_dup E_X8_init rfl dX8_init_57 ?_
  refine qc_iconst E_X8_init 2 (by decide) dX8_init_58 ?_
  refine qc_iconst E_X8_init 1 (by decide) dX8_init_59 ?_
  refine re_iast E_X8_init dX8_init_60 h ?_
  clear h
  intro h26 h
  refine re_putF E_X8_init rfl rfl ck_X8 (by decide) 9 (by decide) q1666 rfl rfl rfl rfl dX8_init_61 h ?_
  clear h
  intro h27 h
  refine qc_aload_n E_X8_init (by rfl) dX8_init_64 ?_
  refine qc_iconst E_X8_init 3 (by decide) dX8_init_65 ?_
  refine re_newI hO E_X8_init q559 dX8_init_66 h ?_
  clear h
  intro w28 h29 c30 h
  refine re_putF E_X8_init rfl rfl ck_X8 (by decide) 10 (by decide) q1667 rfl rfl rfl rfl dX8_init_68 h ?_
  clear h
  intro h31 h
  refine qc_aload_n E_X8_init (by rfl) dX8_init_71 ?_
  refine qc_iconst E_X8_init 3 (by decide) dX8_init_72 ?_
  refine re_newI hO E_X8_init q559 dX8_init_73 h ?_
  clear h
  intro w32 h33 c34 h
  refine qc_dup E_X8_init rfl dX8_init_75 ?_
  refine qc_iconst E_X8_init 0 (by decide) dX8_init_76 ?_
  refine qc_bipush E_X8_init 20 (by decide) dX8_init_77 ?_
  refine re_iast E_X8_init dX8_init_79 h ?_
  clear h
  intro h35 h
  refine qc_dup E_X8_init rfl dX8_init_80 ?_
  refine qc_iconst E_X8_init 1 (by decide) dX8_init_81 ?_
  refine qc_bipush E_X8_init 20 (by decide) dX8_init_82 ?_
  refine re_iast E_X8_init dX8_init_84 h ?_
  clear h
  intro h36 h
  refine qc_dup E_X8_init rfl dX8_init_85 ?_
  refine qc_iconst E_X8_init 2 (by decide) dX8_init_86 ?_
  refine qc_bipush E_X8_init 20 (by decide) dX8_init_87 ?_
  refine re_iast E_X8_init dX8_init_89 h ?_
  clear h
  intro h37 h
  refine re_putF E_X8_init rfl rfl ck_X8 (by decide) 11 (by decide) q1668 rfl rfl rfl rfl dX8_init_90 h ?_
  clear h
  intro h38 h
  refine qc_aload_n E_X8_init (by rfl) dX8_init_93 ?_
  refine qc_iconst E_X8_init 3 (by decide) dX8_init_94 ?_
  refine re_newI hO E_X8_init q559 dX8_init_95 h ?_
  clear h
  intro w39 h40 c41 h
  refine qc_dup E_X8_init rfl dX8_init_97 ?_
  refine qc_iconst E_X8_init 0 (by decide) dX8_init_98 ?_
  refine qc_bipush E_X8_init 12 (by decide) dX8_init_99 ?_
  refine re_iast E_X8_init dX8_init_101 h ?_
  clear h
  intro h42 h
  refine qc_dup E_X8_init rfl dX8_init_102 ?_
  refine qc_iconst E_X8_init 1 (by decide) dX8_init_103 ?_
  refine qc_bipush E_X8_init 12 (by decide) dX8_init_104 ?_
  refine re_iast E_X8_init dX8_init_106 h ?_
  clear h
  intro h43 h
  refine qc_dup E_X8_init rfl dX8_init_107 ?_
  refine qc_iconst E_X8_init 2 (by decide) dX8_init_108 ?_
  refine qc_bipush E_X8_init 12 (by decide) dX8_init_109 ?_
  refine re_iast E_X8_init dX8_init_111 h ?_
  clear h
  intro h44 h
  refine re_putF E_X8_init rfl rfl ck_X8 (by decide) 12 (by decide) q1669 rfl rfl rfl rfl dX8_init_112 h ?_
  clear h
  intro h45 h
  refine qc_aload_n E_X8_init (by rfl) dX8_init_115 ?_
  refine qc_iconst E_X8_init 3 (by decide) dX8_init_116 ?_
  refine re_newI hO E_X8_init q559 dX8_init_117 h ?_
  clear h
  intro w46 h47 c48 h
  refine qc_dup E_X8_init rfl dX8_init_119 ?_
  refine qc_iconst E_X8_init 0 (by decide) dX8_init_120 ?_
  refine qc_bipush E_X8_init 60 (by decide) dX8_init_121 ?_
  refine re_iast E_X8_init dX8_init_123 h ?_
  clear h
  intro h49 h
  refine qc_dup E_X8_init rfl dX8_init_124 ?_
  refine qc_iconst E_X8_init 1 (by decide) dX8_init_125 ?_
  refine qc_bipush E_X8_init 60 (by decide) dX8_init_126 ?_
  refine re_iast E_X8_init dX8_init_128 h ?_
  clear h
  intro h50 h
  refine qc_dup E_X8_init rfl dX8_init_129 ?_
  refine qc_iconst E_X8_init 2 (by decide) dX8_init_130 ?_
  refine qc_bipush E_X8_init 60 (by decide) dX8_init_131 ?_
  refine re_iast E_X8_init dX8_init_133 h ?_
  clear h
  intro h51 h
  refine re_putF E_X8_init rfl rfl ck_X8 (by decide) 13 (by decide) q1670 rfl rfl rfl rfl dX8_init_134 h ?_
  clear h
  intro h52 h
  refine qc_aload_n E_X8_init (by rfl) dX8_init_137 ?_
  refine qc_iconst E_X8_init 3 (by decide) dX8_init_138 ?_
  refine re_newI hO E_X8_init q559 dX8_init_139 h ?_
  clear h
  intro w53 h54 c55 h
  refine re_putF E_X8_init rfl rfl ck_X8 (by decide) 14 (by decide) q1671 rfl rfl rfl rfl dX8_init_141 h ?_
  clear h
  intro h56 h
  refine qc_aload_n E_X8_init (by rfl) dX8_init_144 ?_
  refine qc_iconst E_X8_init 3 (by decide) dX8_init_145 ?_
  refine re_newZ hO E_X8_init q230 dX8_init_146 h ?_
  clear h
  intro w57 h58 c59 h
  refine re_putF E_X8_init rfl rfl ck_X8 (by decide) 15 (by decide) q1672 rfl rfl rfl rfl dX8_init_148 h ?_
  clear h
  intro h60 h
  refine qc_aload_n E_X8_init (by rfl) dX8_init_151 ?_
  refine qc_iconst E_X8_init 3 (by decide) dX8_init_152 ?_
  refine re_newI hO E_X8_init q559 dX8_init_153 h ?_
  clear h
  intro w61 h62 c63 h
  refine re_putF E_X8_init rfl rfl ck_X8 (by decide) 16 (by decide) q1673 rfl rfl rfl rfl dX8_init_155 h ?_
  clear h
  intro h64 h
  refine qc_aload_n E_X8_init (by rfl) dX8_init_158 ?_
  refine qc_iconst E_X8_init 3 (by decide) dX8_init_159 ?_
  refine re_newI hO E_X8_init q559 dX8_init_160 h ?_
  clear h
  intro w65 h66 c67 h
  refine re_putF E_X8_init rfl rfl ck_X8 (by decide) 17 (by decide) q1674 rfl rfl rfl rfl dX8_init_162 h ?_
  clear h
  intro h68 h
  refine qc_aload_n E_X8_init (by rfl) dX8_init_165 ?_
  refine qc_iconst E_X8_init 3 (by decide) dX8_init_166 ?_
  refine re_newI hO E_X8_init q559 dX8_init_167 h ?_
  clear h
  intro w69 h70 c71 h
  refine qc_dup E_X8_init rfl dX8_init_169 ?_
  refine qc_iconst E_X8_init 0 (by decide) dX8_init_170 ?_
  refine qc_iconst E_X8_init 5 (by decide) dX8_init_171 ?_
  refine re_iast E_X8_init dX8_init_172 h ?_
  clear h
  intro h72 h
  refine qc_dup E_X8_init rfl dX8_init_173 ?_
  refine qc_iconst E_X8_init 1 (by decide) dX8_init_174 ?_
  refine qc_iconst E_X8_init 1 (by decide) dX8_init_175 ?_
  refine re_iast E_X8_init dX8_init_176 h ?_
  clear h
  intro h73 h
  refine qc_dup E_X8_init rfl dX8_init_177 ?_
  refine qc_iconst E_X8_init 2 (by decide) dX8_init_178 ?_
  refine qc_iconst E_X8_init 3 (by decide) dX8_init_179 ?_
  refine re_iast E_X8_init dX8_init_180 h ?_
  clear h
  intro h74 h
  refine re_putF E_X8_init rfl rfl ck_X8 (by decide) 18 (by decide) q1675 rfl rfl rfl rfl dX8_init_181 h ?_
  clear h
  intro h75 h
  refine qc_aload_n E_X8_init (by rfl) dX8_init_184 ?_
  refine qc_iconst E_X8_init 3 (by decide) dX8_init_185 ?_
  refine re_newI hO E_X8_init q559 dX8_init_186 h ?_
  clear h
  intro w76 h77 c78 h
  refine qc_dup E_X8_init rfl dX8_init_188 ?_
  refine qc_iconst E_X8_init 0 (by decide) dX8_init_189 ?_
  refine qc_iconst E_X8_init 1 (by decide) dX8_init_190 ?_
  refine re_iast E_X8_init dX8_init_191 h ?_
  clear h
  intro h79 h
  refine qc_dup E_X8_init rfl dX8_init_192 ?_
  refine qc_iconst E_X8_init 1 (by decide) dX8_init_193 ?_
  refine qc_iconst E_X8_init 1 (by decide) dX8_init_194 ?_
  refine re_iast E_X8_init dX8_init_195 h ?_
  clear h
  intro h80 h
  refine qc_dup E_X8_init rfl dX8_init_196 ?_
  refine qc_iconst E_X8_init 2 (by decide) dX8_init_197 ?_
  refine qc_iconst E_X8_init 2 (by decide) dX8_init_198 ?_
  refine re_iast E_X8_init dX8_init_199 h ?_
  clear h
  intro h81 h
  refine re_putF E_X8_init rfl rfl ck_X8 (by decide) 19 (by decide) q1676 rfl rfl rfl rfl dX8_init_200 h ?_
  clear h
  intro h82 h
  refine qc_aload_n E_X8_init (by rfl) dX8_init_203 ?_
  refine qc_bipush E_X8_init 6 (by decide) dX8_init_204 ?_
  refine re_newI hO E_X8_init q559 dX8_init_206 h ?_
  clear h
  intro w83 h84 c85 h
  refine re_putF E_X8_init rfl rfl ck_X8 (by decide) 20 (by decide) q1677 rfl rfl rfl rfl dX8_init_208 h ?_
  clear h
  intro h86 h
  refine qc_aload_n E_X8_init (by rfl) dX8_init_211 ?_
  refine qc_bipush E_X8_init 6 (by decide) dX8_init_212 ?_
  refine re_newI hO E_X8_init q559 dX8_init_214 h ?_
  clear h
  intro w87 h88 c89 h
  refine qc_dup E_X8_init rfl dX8_init_216 ?_
  refine qc_iconst E_X8_init 0 (by decide) dX8_init_217 ?_
  refine qc_bipush E_X8_init 10 (by decide) dX8_init_218 ?_
  refine re_iast E_X8_init dX8_init_220 h ?_
  clear h
  intro h90 h
  refine qc_dup E_X8_init rfl dX8_init_221 ?_
  refine qc_iconst E_X8_init 1 (by decide) dX8_init_222 ?_
  refine qc_bipush E_X8_init 10 (by decide) dX8_init_223 ?_
  refine re_iast E_X8_init dX8_init_225 h ?_
  clear h
  intro h91 h
  refine qc_dup E_X8_init rfl dX8_init_226 ?_
  refine qc_iconst E_X8_init 2 (by decide) dX8_init_227 ?_
  refine qc_bipush E_X8_init 10 (by decide) dX8_init_228 ?_
  refine re_iast E_X8_init dX8_init_230 h ?_
  clear h
  intro h92 h
  refine qc_dup E_X8_init rfl dX8_init_231 ?_
  refine qc_iconst E_X8_init 3 (by decide) dX8_init_232 ?_
  refine qc_bipush E_X8_init 10 (by decide) dX8_init_233 ?_
  refine re_iast E_X8_init dX8_init_235 h ?_
  clear h
  intro h93 h
  refine qc_dup E_X8_init rfl dX8_init_236 ?_
  refine qc_iconst E_X8_init 4 (by decide) dX8_init_237 ?_
  refine qc_bipush E_X8_init 10 (by decide) dX8_init_238 ?_
  refine re_iast E_X8_init dX8_init_240 h ?_
  clear h
  intro h94 h
  refine qc_dup E_X8_init rfl dX8_init_241 ?_
  refine qc_iconst E_X8_init 5 (by decide) dX8_init_242 ?_
  refine qc_bipush E_X8_init 10 (by decide) dX8_init_243 ?_
  refine re_iast E_X8_init dX8_init_245 h ?_
  clear h
  intro h95 h
  refine re_putF E_X8_init rfl rfl ck_X8 (by decide) 21 (by decide) q1678 rfl rfl rfl rfl dX8_init_246 h ?_
  clear h
  intro h96 h
  refine qc_aload_n E_X8_init (by rfl) dX8_init_249 ?_
  refine qc_iconst E_X8_init 3 (by decide) dX8_init_250 ?_
  refine re_newI hO E_X8_init q559 dX8_init_251 h ?_
  clear h
  intro w97 h98 c99 h
  refine re_putF E_X8_init rfl rfl ck_X8 (by decide) 23 (by decide) q1680 rfl rfl rfl rfl dX8_init_253 h ?_
  clear h
  intro h100 h
  refine qc_aload_n E_X8_init (by rfl) dX8_init_256 ?_
  refine qc_iconst E_X8_init 3 (by decide) dX8_init_257 ?_
  refine re_newI hO E_X8_init q559 dX8_init_258 h ?_
  clear h
  intro w101 h102 c103 h
  refine re_putF E_X8_init rfl rfl ck_X8 (by decide) 25 (by decide) q1682 rfl rfl rfl rfl dX8_init_260 h ?_
  clear h
  intro h104 h
  refine qc_aload_n E_X8_init (by rfl) dX8_init_263 ?_
  refine qc_iconst E_X8_init 3 (by decide) dX8_init_264 ?_
  refine re_newI hO E_X8_init q559 dX8_init_265 h ?_
  clear h
  intro w105 h106 c107 h
  refine re_putF E_X8_init rfl rfl ck_X8 (by decide) 26 (by decide) q1683 rfl rfl rfl rfl dX8_init_267 h ?_
  clear h
  intro h108 h
  refine qc_aload_n E_X8_init (by rfl) dX8_init_270 ?_
  refine qc_iconst E_X8_init 3 (by decide) dX8_init_271 ?_
  refine re_newI hO E_X8_init q559 dX8_init_272 h ?_
  clear h
  intro w109 h110 c111 h
  refine re_putF E_X8_init rfl rfl ck_X8 (by decide) 27 (by decide) q1684 rfl rfl rfl rfl dX8_init_274 h ?_
  clear h
  intro h112 h
  refine qc_aload_n E_X8_init (by rfl) dX8_init_277 ?_
  refine qc_iconst E_X8_init 3 (by decide) dX8_init_278 ?_
  refine re_newI hO E_X8_init q559 dX8_init_279 h ?_
  clear h
  intro w113 h114 c115 h
  refine re_putF E_X8_init rfl rfl ck_X8 (by decide) 28 (by decide) q1685 rfl rfl rfl rfl dX8_init_281 h ?_
  clear h
  intro h116 h
  refine qc_aload_n E_X8_init (by rfl) dX8_init_284 ?_
  refine qc_iconst E_X8_init 4 (by decide) dX8_init_285 ?_
  refine re_newI hO E_X8_init q559 dX8_init_286 h ?_
  clear h
  intro w117 h118 c119 h
  refine re_putF E_X8_init rfl rfl ck_X8 (by decide) 30 (by decide) q1687 rfl rfl rfl rfl dX8_init_288 h ?_
  clear h
  intro h120 h
  refine qc_aload_n E_X8_init (by rfl) dX8_init_291 ?_
  refine qc_iconst E_X8_init 4 (by decide) dX8_init_292 ?_
  refine re_newI hO E_X8_init q559 dX8_init_293 h ?_
  clear h
  intro w121 h122 c123 h
  refine re_putF E_X8_init rfl rfl ck_X8 (by decide) 31 (by decide) q1688 rfl rfl rfl rfl dX8_init_295 h ?_
  clear h
  intro h124 h
  refine qc_aload_n E_X8_init (by rfl) dX8_init_298 ?_
  refine qc_iconst E_X8_init 4 (by decide) dX8_init_299 ?_
  refine re_newI hO E_X8_init q559 dX8_init_300 h ?_
  clear h
  intro w125 h126 c127 h
  refine re_putF E_X8_init rfl rfl ck_X8 (by decide) 32 (by decide) q1689 rfl rfl rfl rfl dX8_init_302 h ?_
  clear h
  intro h128 h
  refine qc_aload_n E_X8_init (by rfl) dX8_init_305 ?_
  refine qc_iconst E_X8_init 4 (by decide) dX8_init_306 ?_
  refine re_newI hO E_X8_init q559 dX8_init_307 h ?_
  clear h
  intro w129 h130 c131 h
  refine re_putF E_X8_init rfl rfl ck_X8 (by decide) 33 (by decide) q1690 rfl rfl rfl rfl dX8_init_309 h ?_
  clear h
  intro h132 h
  refine qc_aload_n E_X8_init (by rfl) dX8_init_312 ?_
  refine qc_iconst E_X8_init 3 (by decide) dX8_init_313 ?_
  refine re_newI hO E_X8_init q559 dX8_init_314 h ?_
  clear h
  intro w133 h134 c135 h
  refine re_putF E_X8_init rfl rfl ck_X8 (by decide) 35 (by decide) q1692 rfl rfl rfl rfl dX8_init_316 h ?_
  clear h
  intro h136 h
  refine qc_aload_n E_X8_init (by rfl) dX8_init_319 ?_
  refine qc_iconst E_X8_init 3 (by decide) dX8_init_320 ?_
  refine re_newI hO E_X8_init q559 dX8_init_321 h ?_
  clear h
  intro w137 h138 c139 h
  refine re_putF E_X8_init rfl rfl ck_X8 (by decide) 36 (by decide) q1693 rfl rfl rfl rfl dX8_init_323 h ?_
  clear h
  intro h140 h
  refine qc_aload_n E_X8_init (by rfl) dX8_init_326 ?_
  refine qc_bipush E_X8_init 40 (by decide) dX8_init_327 ?_
  refine re_put E_X8_init rfl ck_X8 (by decide) 37 (by decide) q1694 rfl rfl rfl dX8_init_329 h ?_
  clear h
  intro h141 h
  refine qc_aload_n E_X8_init (by rfl) dX8_init_332 ?_
  refine qc_bipush E_X8_init 6 (by decide) dX8_init_333 ?_
  refine re_newI hO E_X8_init q559 dX8_init_335 h ?_
  clear h
  intro w142 h143 c144 h
  refine re_putF E_X8_init rfl rfl ck_X8 (by decide) 40 (by decide) q1697 rfl rfl rfl rfl dX8_init_337 h ?_
  clear h
  intro h145 h
  refine qc_aload_n E_X8_init (by rfl) dX8_init_340 ?_
  refine qc_bipush E_X8_init 6 (by decide) dX8_init_341 ?_
  refine re_newI hO E_X8_init q559 dX8_init_343 h ?_
  clear h
  intro w146 h147 c148 h
  refine re_putF E_X8_init rfl rfl ck_X8 (by decide) 41 (by decide) q1698 rfl rfl rfl rfl dX8_init_345 h ?_
  clear h
  intro h149 h
  refine qc_aload_n E_X8_init (by rfl) dX8_init_348 ?_
  refine qc_bipush E_X8_init 6 (by decide) dX8_init_349 ?_
  refine re_newI hO E_X8_init q559 dX8_init_351 h ?_
  clear h
  intro w150 h151 c152 h
  refine re_putF E_X8_init rfl rfl ck_X8 (by decide) 42 (by decide) q1699 rfl rfl rfl rfl dX8_init_353 h ?_
  clear h
  intro h153 h
  refine qc_aload_n E_X8_init (by rfl) dX8_init_356 ?_
  refine qc_bipush E_X8_init 6 (by decide) dX8_init_357 ?_
  refine re_newI hO E_X8_init q559 dX8_init_359 h ?_
  clear h
  intro w154 h155 c156 h
  refine re_putF E_X8_init rfl rfl ck_X8 (by decide) 43 (by decide) q1700 rfl rfl rfl rfl dX8_init_361 h ?_
  clear h
  intro h157 h
  refine qc_aload_n E_X8_init (by rfl) dX8_init_364 ?_
  refine qc_bipush E_X8_init 6 (by decide) dX8_init_365 ?_
  refine re_newI hO E_X8_init q559 dX8_init_367 h ?_
  clear h
  intro w158 h159 c160 h
  refine re_putF E_X8_init rfl rfl ck_X8 (by decide) 44 (by decide) q1701 rfl rfl rfl rfl dX8_init_369 h ?_
  clear h
  intro h161 h
  refine qc_aload_n E_X8_init (by rfl) dX8_init_372 ?_
  refine qc_bipush E_X8_init 6 (by decide) dX8_init_373 ?_
  refine re_newI hO E_X8_init q559 dX8_init_375 h ?_
  clear h
  intro w162 h163 c164 h
  refine re_putF E_X8_init rfl rfl ck_X8 (by decide) 45 (by decide) q1702 rfl rfl rfl rfl dX8_init_377 h ?_
  clear h
  intro h165 h
  refine qc_aload_n E_X8_init (by rfl) dX8_init_380 ?_
  refine qc_bipush E_X8_init 72 (by decide) dX8_init_381 ?_
  refine re_newI hO E_X8_init q559 dX8_init_383 h ?_
  clear h
  intro w166 h167 c168 h
  refine re_putF E_X8_init rfl rfl ck_X8 (by decide) 46 (by decide) q1703 rfl rfl rfl rfl dX8_init_385 h ?_
  clear h
  intro h169 h
  refine qc_aload_n E_X8_init (by rfl) dX8_init_388 ?_
  refine qc_sipush E_X8_init 288 (by decide) dX8_init_389 ?_
  refine re_newI hO E_X8_init q559 dX8_init_392 h ?_
  clear h
  intro w170 h171 c172 h
  refine re_putF E_X8_init rfl rfl ck_X8 (by decide) 47 (by decide) q1704 rfl rfl rfl rfl dX8_init_394 h ?_
  clear h
  intro h173 h
  refine qc_aload_n E_X8_init (by rfl) dX8_init_397 ?_
  refine qc_bipush E_X8_init 6 (by decide) dX8_init_398 ?_
  refine re_newI hO E_X8_init q559 dX8_init_400 h ?_
  clear h
  intro w174 h175 c176 h
  refine re_putF E_X8_init rfl rfl ck_X8 (by decide) 48 (by decide) q1705 rfl rfl rfl rfl dX8_init_402 h ?_
  clear h
  intro h177 h
  refine qc_aload_n E_X8_init (by rfl) dX8_init_405 ?_
  refine qc_bipush E_X8_init 24 (by decide) dX8_init_406 ?_
  refine re_newI hO E_X8_init q559 dX8_init_408 h ?_
  clear h
  intro w178 h179 c180 h
  refine re_putF E_X8_init rfl rfl ck_X8 (by decide) 49 (by decide) q1706 rfl rfl rfl rfl dX8_init_410 h ?_
  clear h
  intro h181 h
  refine qc_aload_n E_X8_init (by rfl) dX8_init_413 ?_
  refine qc_bipush E_X8_init 24 (by decide) dX8_init_414 ?_
  refine re_newI hO E_X8_init q559 dX8_init_416 h ?_
  clear h
  intro w182 h183 c184 h
  refine re_putF E_X8_init rfl rfl ck_X8 (by decide) 50 (by decide) q1707 rfl rfl rfl rfl dX8_init_418 h ?_
  clear h
  intro h185 h
  refine qc_aload_n E_X8_init (by rfl) dX8_init_421 ?_
  refine qc_bipush E_X8_init 24 (by decide) dX8_init_422 ?_
  refine re_newI hO E_X8_init q559 dX8_init_424 h ?_
  clear h
  intro w186 h187 c188 h
  refine re_putF E_X8_init rfl rfl ck_X8 (by decide) 51 (by decide) q1708 rfl rfl rfl rfl dX8_init_426 h ?_
  clear h
  intro h189 h
  refine qc_aload_n E_X8_init (by rfl) dX8_init_429 ?_
  refine qc_iconst E_X8_init 3 (by decide) dX8_init_430 ?_
  refine re_newZ hO E_X8_init q230 dX8_init_431 h ?_
  clear h
  intro w190 h191 c192 h
  refine re_putF E_X8_init rfl rfl ck_X8 (by decide) 56 (by decide) q1713 rfl rfl rfl rfl dX8_init_433 h ?_
  clear h
  intro h193 h
  refine qc_aload_n E_X8_init (by rfl) dX8_init_436 ?_
  refine qc_iconst E_X8_init 3 (by decide) dX8_init_437 ?_
  refine re_newI hO E_X8_init q559 dX8_init_438 h ?_
  clear h
  intro w194 h195 c196 h
  refine re_putF E_X8_init rfl rfl ck_X8 (by decide) 57 (by decide) q1714 rfl rfl rfl rfl dX8_init_440 h ?_
  clear h
  intro h197 h
  refine qc_aload_n E_X8_init (by rfl) dX8_init_443 ?_
  refine qc_bipush E_X8_init 36 (by decide) dX8_init_444 ?_
  refine re_newI hO E_X8_init q559 dX8_init_446 h ?_
  clear h
  intro w198 h199 c200 h
  refine re_putF E_X8_init rfl rfl ck_X8 (by decide) 58 (by decide) q1715 rfl rfl rfl rfl dX8_init_448 h ?_
  clear h
  intro h201 h
  refine qc_aload_n E_X8_init (by rfl) dX8_init_451 ?_
  refine qc_sipush E_X8_init 144 (by decide) dX8_init_452 ?_
  refine re_newI hO E_X8_init q559 dX8_init_455 h ?_
  clear h
  intro w202 h203 c204 h
  refine re_putF E_X8_init rfl rfl ck_X8 (by decide) 59 (by decide) q1716 rfl rfl rfl rfl dX8_init_457 h ?_
  clear h
  intro h205 h
  refine qc_aload_n E_X8_init (by rfl) dX8_init_460 ?_
  refine qc_iconst E_X8_init 3 (by decide) dX8_init_461 ?_
  refine re_newI hO E_X8_init q559 dX8_init_462 h ?_
  clear h
  intro w206 h207 c208 h
  refine re_putF E_X8_init rfl rfl ck_X8 (by decide) 60 (by decide) q1717 rfl rfl rfl rfl dX8_init_464 h ?_
  clear h
  intro h209 h
  refine qc_aload_n E_X8_init (by rfl) dX8_init_467 ?_
  refine qc_iconst E_X8_init 3 (by decide) dX8_init_468 ?_
  refine re_newI hO E_X8_init q559 dX8_init_469 h ?_
  clear h
  intro w210 h211 c212 h
  refine re_putF E_X8_init rfl rfl ck_X8 (by decide) 61 (by decide) q1718 rfl rfl rfl rfl dX8_init_471 h ?_
  clear h
  intro h213 h
  refine qc_aload_n E_X8_init (by rfl) dX8_init_474 ?_
  refine qc_bipush E_X8_init 12 (by decide) dX8_init_475 ?_
  refine re_newI hO E_X8_init q559 dX8_init_477 h ?_
  clear h
  intro w214 h215 c216 h
  refine re_putF E_X8_init rfl rfl ck_X8 (by decide) 64 (by decide) q1721 rfl rfl rfl rfl dX8_init_479 h ?_
  clear h
  intro h217 h
  refine qc_aload_n E_X8_init (by rfl) dX8_init_482 ?_
  refine qc_iconst E_X8_init 3 (by decide) dX8_init_483 ?_
  refine re_newI hO E_X8_init q559 dX8_init_484 h ?_
  clear h
  intro w218 h219 c220 h
  refine re_putF E_X8_init rfl rfl ck_X8 (by decide) 65 (by decide) q1722 rfl rfl rfl rfl dX8_init_486 h ?_
  clear h
  intro h221 h
  refine qc_aload_n E_X8_init (by rfl) dX8_init_489 ?_
  refine qc_sipush E_X8_init 144 (by decide) dX8_init_490 ?_
  refine re_newI hO E_X8_init q559 dX8_init_493 h ?_
  clear h
  intro w222 h223 c224 h
  refine re_putF E_X8_init rfl rfl ck_X8 (by decide) 66 (by decide) q1723 rfl rfl rfl rfl dX8_init_495 h ?_
  clear h
  intro h225 h
  refine qc_aload_n E_X8_init (by rfl) dX8_init_498 ?_
  refine qc_iconst E_X8_init 3 (by decide) dX8_init_499 ?_
  refine re_newI hO E_X8_init q559 dX8_init_500 h ?_
  clear h
  intro w226 h227 c228 h
  refine re_putF E_X8_init rfl rfl ck_X8 (by decide) 67 (by decide) q1724 rfl rfl rfl rfl dX8_init_502 h ?_
  clear h
  intro h229 h
  refine qc_aload_n E_X8_init (by rfl) dX8_init_505 ?_
  refine qc_bipush E_X8_init 120 (by decide) dX8_init_506 ?_
  refine re_newI hO E_X8_init q559 dX8_init_508 h ?_
  clear h
  intro w230 h231 c232 h
  refine re_putF E_X8_init rfl rfl ck_X8 (by decide) 70 (by decide) q1727 rfl rfl rfl rfl dX8_init_510 h ?_
  clear h
  intro h233 h
  refine qc_aload_n E_X8_init (by rfl) dX8_init_513 ?_
  refine qc_bipush E_X8_init 12 (by decide) dX8_init_514 ?_
  refine re_newI hO E_X8_init q559 dX8_init_516 h ?_
  clear h
  intro w234 h235 c236 h
  refine re_putF E_X8_init rfl rfl ck_X8 (by decide) 72 (by decide) q1729 rfl rfl rfl rfl dX8_init_518 h ?_
  clear h
  intro h237 h
  refine qc_aload_n E_X8_init (by rfl) dX8_init_521 ?_
  refine qc_bipush E_X8_init 12 (by decide) dX8_init_522 ?_
  refine re_newI hO E_X8_init q559 dX8_init_524 h ?_
  clear h
  intro w238 h239 c240 h
  refine re_putF E_X8_init rfl rfl ck_X8 (by decide) 73 (by decide) q1730 rfl rfl rfl rfl dX8_init_526 h ?_
  clear h
  intro h241 h
  refine qc_aload_n E_X8_init (by rfl) dX8_init_529 ?_
  refine qc_bipush E_X8_init 12 (by decide) dX8_init_530 ?_
  refine re_newI hO E_X8_init q559 dX8_init_532 h ?_
  clear h
  intro w242 h243 c244 h
  refine re_putF E_X8_init rfl rfl ck_X8 (by decide) 74 (by decide) q1731 rfl rfl rfl rfl dX8_init_534 h ?_
  clear h
  intro h245 h
  refine qc_aload_n E_X8_init (by rfl) dX8_init_537 ?_
  refine qc_bipush E_X8_init 120 (by decide) dX8_init_538 ?_
  refine re_newI hO E_X8_init q559 dX8_init_540 h ?_
  clear h
  intro w246 h247 c248 h
  refine re_putF E_X8_init rfl rfl ck_X8 (by decide) 77 (by decide) q1734 rfl rfl rfl rfl dX8_init_542 h ?_
  clear h
  intro h249 h
  refine qc_aload_n E_X8_init (by rfl) dX8_init_545 ?_
  refine qc_iconst E_X8_init (-1) (by decide) dX8_init_546 ?_
  refine re_put E_X8_init rfl ck_X8 (by decide) 79 (by decide) q1736 rfl rfl rfl dX8_init_547 h ?_
  clear h
  intro h250 h
  refine qc_aload_n E_X8_init (by rfl) dX8_init_550 ?_
  refine qc_iconst E_X8_init 3 (by decide) dX8_init_551 ?_
  refine re_newI hO E_X8_init q559 dX8_init_552 h ?_
  clear h
  intro w251 h252 c253 h
  refine re_putF E_X8_init rfl rfl ck_X8 (by decide) 84 (by decide) q1741 rfl rfl rfl rfl dX8_init_554 h ?_
  clear h
  intro h254 h
  refine qc_aload_n E_X8_init (by rfl) dX8_init_557 ?_
  refine qc_iconst E_X8_init 4 (by decide) dX8_init_558 ?_
  refine re_newI hO E_X8_init q559 dX8_init_559 h ?_
  clear h
  intro w255 h256 c257 h
  refine re_putF E_X8_init rfl rfl ck_X8 (by decide) 86 (by decide) q1743 rfl rfl rfl rfl dX8_init_561 h ?_
  clear h
  intro h258 h
  refine qc_aload_n E_X8_init (by rfl) dX8_init_564 ?_
  refine qc_iconst E_X8_init 4 (by decide) dX8_init_565 ?_
  refine re_newI hO E_X8_init q559 dX8_init_566 h ?_
  clear h
  intro w259 h260 c261 h
  refine re_putF E_X8_init rfl rfl ck_X8 (by decide) 87 (by decide) q1744 rfl rfl rfl rfl dX8_init_568 h ?_
  clear h
  intro h262 h
  refine qc_aload_n E_X8_init (by rfl) dX8_init_571 ?_
  refine qc_iconst E_X8_init 4 (by decide) dX8_init_572 ?_
  refine re_newI hO E_X8_init q559 dX8_init_573 h ?_
  clear h
  intro w263 h264 c265 h
  refine re_putF E_X8_init rfl rfl ck_X8 (by decide) 88 (by decide) q1745 rfl rfl rfl rfl dX8_init_575 h ?_
  clear h
  intro h266 h
  refine qc_aload_n E_X8_init (by rfl) dX8_init_578 ?_
  refine qc_iconst E_X8_init 4 (by decide) dX8_init_579 ?_
  refine re_newI hO E_X8_init q559 dX8_init_580 h ?_
  clear h
  intro w267 h268 c269 h
  refine re_putF E_X8_init rfl rfl ck_X8 (by decide) 89 (by decide) q1746 rfl rfl rfl rfl dX8_init_582 h ?_
  clear h
  intro h270 h
  refine qc_aload_n E_X8_init (by rfl) dX8_init_585 ?_
  refine qc_iconst E_X8_init 4 (by decide) dX8_init_586 ?_
  refine re_newI hO E_X8_init q559 dX8_init_587 h ?_
  clear h
  intro w271 h272 c273 h
  refine re_putF E_X8_init rfl rfl ck_X8 (by decide) 90 (by decide) q1747 rfl rfl rfl rfl dX8_init_589 h ?_
  clear h
  intro h274 h
  refine qc_aload_n E_X8_init (by rfl) dX8_init_592 ?_
  refine qc_iconst E_X8_init 4 (by decide) dX8_init_593 ?_
  refine re_newI hO E_X8_init q559 dX8_init_594 h ?_
  clear h
  intro w275 h276 c277 h
  refine re_putF E_X8_init rfl rfl ck_X8 (by decide) 91 (by decide) q1748 rfl rfl rfl rfl dX8_init_596 h ?_
  clear h
  intro h278 h
  refine qc_aload_n E_X8_init (by rfl) dX8_init_599 ?_
  refine qc_iconst E_X8_init 4 (by decide) dX8_init_600 ?_
  refine re_newI hO E_X8_init q559 dX8_init_601 h ?_
  clear h
  intro w279 h280 c281 h
  refine re_putF E_X8_init rfl rfl ck_X8 (by decide) 92 (by decide) q1749 rfl rfl rfl rfl dX8_init_603 h ?_
  clear h
  intro h282 h
  refine qc_aload_n E_X8_init (by rfl) dX8_init_606 ?_
  refine qc_bipush E_X8_init 16 (by decide) dX8_init_607 ?_
  refine re_newI hO E_X8_init q559 dX8_init_609 h ?_
  clear h
  intro w283 h284 c285 h
  refine re_putF E_X8_init rfl rfl ck_X8 (by decide) 93 (by decide) q1750 rfl rfl rfl rfl dX8_init_611 h ?_
  clear h
  intro h286 h
  exact qc_vret E_X8_init rfl dX8_init_614 (⟨rfl, h⟩)
