/-! SR 19 (printed by gen4.py): the constructor of the component -/
set_option maxRecDepth 100000
theorem ck_X3 : qh_K 2 RX3 qh_no 0 (fun _ => .int) := ⟨rfl, fun w hw => (by simp [u_ws] at hw), fun k hk => absurd hk (Nat.not_lt_zero k), fun a ha => absurd ha (Nat.not_lt_zero a)⟩
theorem df_X3 : ∀ j, j < 0 → defaultValue ((fun _ => .int : Nat → FieldType) j) = vp_V [] j := fun j hj => absurd hj (Nat.not_lt_zero j)
theorem ck_X4 : qh_K 3 RX4 qh_no 0 (fun _ => .int) := ⟨rfl, fun w hw => (by simp [u_ws] at hw), fun k hk => absurd hk (Nat.not_lt_zero k), fun a ha => absurd ha (Nat.not_lt_zero a)⟩
theorem df_X4 : ∀ j, j < 0 → defaultValue ((fun _ => .int : Nat → FieldType) j) = vp_V [] j := fun j hj => absurd hj (Nat.not_lt_zero j)
theorem ck_X5 : qh_K 4 RX5 qh_no 0 (fun _ => .int) := ⟨rfl, fun w hw => (by simp [u_ws] at hw), fun k hk => absurd hk (Nat.not_lt_zero k), fun a ha => absurd ha (Nat.not_lt_zero a)⟩
theorem df_X5 : ∀ j, j < 0 → defaultValue ((fun _ => .int : Nat → FieldType) j) = vp_V [] j := fun j hj => absurd hj (Nat.not_lt_zero j)
def I_X1_init : qh_I := (yX1_init, cX1_init, 2, (Option.none : Option Jvm.ClassFile.FieldType), [])
theorem E_X1_init : I_X1_init.2.1 = cX1_init := rfl
theorem M_X1_init : qh_M I_X1_init 0 := ⟨by decide, by decide, by decide +kernel, q85, q131, by decide⟩
def T_X1_init (g : qh_G) (a0 : Nat) (hp : qc_H) (c : Nat) (K : qc_H → Prop) : Prop := eNQ g.2.2.2.1 4 hp 3 c (fun w1 h2 c3 => eN h2 c3 1 10 [.null, .int 0, .int 0, .int 0, .int 0, .int 0, .int 0, .int 0, .int 0, .int 0] (fun w4 h5 c6 => eN h5 c6 2 0 [] (fun w7 h8 c9 => T_X3_init g w7 h8 (T_X2_init g w4 w7 h8 (fun h10 => eV g.2.2.2.1 4 1 h10 w1 0 w4 (fun h11 => eN h11 c9 1 10 [.null, .int 0, .int 0, .int 0, .int 0, .int 0, .int 0, .int 0, .int 0, .int 0] (fun w12 h13 c14 => eN h13 c14 3 0 [] (fun w15 h16 c17 => T_X4_init g w15 h16 (T_X2_init g w12 w15 h16 (fun h18 => eV g.2.2.2.1 4 1 h18 w1 1 w12 (fun h19 => eN h19 c17 1 10 [.null, .int 0, .int 0, .int 0, .int 0, .int 0, .int 0, .int 0, .int 0, .int 0] (fun w20 h21 c22 => eN h21 c22 4 0 [] (fun w23 h24 c25 => T_X5_init g w23 h24 (T_X2_init g w20 w23 h24 (fun h26 => eV g.2.2.2.1 4 1 h26 w1 2 w20 (fun h27 => eP h27 a0 0 0 (.ref w1) (fun h28 => eNQ g.2.2.2.1 5 h28 6 c25 (fun w29 h30 c31 => eP h30 a0 0 1 (.ref w29) (fun h32 => eNM g.2.2.2.1 h32 c31 (fun w33 h34 c35 => eP h34 a0 0 2 (.ref w33) (fun h36 => eNL h36 c35 (fun w37 h38 c39 => eP h38 a0 0 3 (.ref w37) (fun h40 => eNL h40 c39 (fun w41 h42 c43 => eP h42 a0 0 4 (.ref w41) (fun h44 => eNL h44 c43 (fun w45 h46 c47 => eP h46 a0 0 5 (.ref w45) (fun h48 => eNL h48 c47 (fun w49 h50 c51 => eP h50 a0 0 6 (.ref w49) (fun h52 => eNL h52 c51 (fun w53 h54 c55 => eP h54 a0 0 7 (.ref w53) (fun h56 => eNL h56 c55 (fun w57 h58 c59 => eP h58 a0 0 8 (.ref w57) (fun h60 => eNL h60 c59 (fun w61 h62 c63 => eP h62 a0 0 9 (.ref w61) (fun h64 => eP h64 a0 0 10 (.int 40) (fun h65 => eN h65 c63 5 7 [.null, .null, .int 0, .int 0, .int 0, .int 0, .int 0] (fun w66 h67 c68 => eK c68 (fun c70 k69 => T_X6_init g w66 h67 k69 (fun h71 => eP h71 a0 0 12 (.ref w66) (fun h72 => ∀ X73 : Int32 → qc_H → Nat → Prop, (∀ (x74 : Int32) (h75 : qc_H) (c76 : Nat), ((6 ≤ x74 → K h75) ∧ (¬ 6 ≤ x74 → eR h75 a0 0 1 (fun v78 => eN h75 c76 6 6 [.int 0, .null, .null, .null, .int 0, .int 0] (fun w79 h80 c81 => eR h80 a0 0 0 (fun v82 => eQ g.2.2.2.1 4 h80 v82 (x74 / 2) (fun v83 => eK c81 (fun c85 k84 => T_X7_init g w79 x74 v83 h80 k84 (fun h86 => eV g.2.2.2.1 5 6 h86 v78 x74 w79 (fun h87 => X73 (x74 + 1) h87 c85))))))))) → X73 x74 h75 c76) → X73 0 h72 c70))))))))))))))))))))))))))))))))))))))))
set_option maxHeartbeats 8000000 in
theorem C_X1_init {g : qh_G} {x : qc_X} {d : Nat} {sd : String → Nat → Nat} (hO : qc_O g x) (hP : qc_P g qp_ts sd) (a0 : Nat) (hp : qc_H) (c : Nat) (K : qc_H → Prop) (hz : T_X1_init g a0 hp c K) : qc_S g x (d + 7) c I_X1_init [.ref a0] hp (oV K) := by
  refine qc_S.of (by decide) rfl (ls := [some (.ref a0), none]) rfl (Nat.le_of_ble_eq_true rfl) (ct_c rfl ct_n) ?_
  unfold T_X1_init at hz
  have h := hz
  clear hz
  refine qc_aload_n E_X1_init (by rfl) dX1_init_0 ?_
  refine qc_objInit E_X1_init rfl q132 q133 q134 dX1_init_1 (Nat.le_of_ble_eq_true rfl) ?_
  refine qc_aload_n E_X1_init (by rfl) dX1_init_4 ?_
  refine qc_iconst E_X1_init 3 (by decide) dX1_init_5 ?_
  refine re_newQ hO 4 (fun _ => rfl) E_X1_init rfl q135 (qj_N q136 rfl) dX1_init_6 h ?_
  clear h
  intro w1 h2 c3 h
  refine qc_dup E_X1_init rfl dX1_init_9 ?_
  refine qc_iconst E_X1_init 0 (by decide) dX1_init_10 ?_
  refine re_new hO E_X1_init rfl ck_X2 q135 q137 q86 df_X2 dX1_init_11 h ?_
  clear h
  intro w4 h5 c6 h
  refine qc_dup E_X1_init rfl dX1_init_14 ?_
  refine re_new hO E_X1_init rfl ck_X3 q138 q139 q87 df_X3 dX1_init_15 h ?_
  clear h
  intro w7 h8 c9 h
  refine qc_dup E_X1_init rfl dX1_init_18 ?_
  refine qc_callIN (c := c9) (k := 0) (As := []) (rest := [.ref w7, .ref w4, .ref w4, .int 0, .ref w1, .ref w1, .ref a0]) E_X1_init rfl M_X3_init rfl rfl rfl (hO.2.1 _ (qj_N q140 rfl)) q141 rfl rfl (Nat.le_of_ble_eq_true rfl) dX1_init_19 (qc_S.mono ?_ (C_X3_init (d := d + 6) hO hP w7 h8 _ h))
  clear h
  rintro _ _ ⟨rfl, rfl, h⟩
  refine K1_v ?_
  refine qc_callI (c := c9) (k := 0) (As := [.ref w7]) (rest := [.ref w4, .int 0, .ref w1, .ref w1, .ref a0]) E_X1_init rfl M_X2_init rfl rfl rfl q145 q146 rfl rfl (Nat.le_of_ble_eq_true rfl) dX1_init_22 (qc_S.mono ?_ (C_X2_init (d := d + 6) hO hP w4 w7 h8 _ h))
  clear h
  rintro _ h10 ⟨rfl, h⟩
  refine K1_v ?_
  refine re_aast (fun _ => rfl) (ci := 1) rfl (by decide) E_X1_init dX1_init_25 h ?_
  clear h
  intro h11 h
  refine qc_dup E_X1_init rfl dX1_init_26 ?_
  refine qc_iconst E_X1_init 1 (by decide) dX1_init_27 ?_
  refine re_new hO E_X1_init rfl ck_X2 q135 q137 q86 df_X2 dX1_init_28 h ?_
  clear h
  intro w12 h13 c14 h
  refine qc_dup E_X1_init rfl dX1_init_31 ?_
  refine re_new hO E_X1_init rfl ck_X4 q186 q187 q88 df_X4 dX1_init_32 h ?_
  clear h
  intro w15 h16 c17 h
  refine qc_dup E_X1_init rfl dX1_init_35 ?_
  refine qc_callIN (c := c17) (k := 0) (As := []) (rest := [.ref w15, .ref w12, .ref w12, .int 1, .ref w1, .ref w1, .ref a0]) E_X1_init rfl M_X4_init rfl rfl rfl (hO.2.1 _ (qj_N q188 rfl)) q189 rfl rfl (Nat.le_of_ble_eq_true rfl) dX1_init_36 (qc_S.mono ?_ (C_X4_init (d := d + 6) hO hP w15 h16 _ h))
  clear h
  rintro _ _ ⟨rfl, rfl, h⟩
  refine K1_v ?_
  refine qc_callI (c := c17) (k := 0) (As := [.ref w15]) (rest := [.ref w12, .int 1, .ref w1, .ref w1, .ref a0]) E_X1_init rfl M_X2_init rfl rfl rfl q145 q146 rfl rfl (Nat.le_of_ble_eq_true rfl) dX1_init_39 (qc_S.mono ?_ (C_X2_init (d := d + 6) hO hP w12 w15 h16 _ h))
  clear h
  rintro _ h18 ⟨rfl, h⟩
  refine K1_v ?_
  refine re_aast (fun _ => rfl) (ci := 1) rfl (by decide) E_X1_init dX1_init_42 h ?_
  clear h
  intro h19 h
  refine qc_dup E_X1_init rfl dX1_init_43 ?_
  refine qc_iconst E_X1_init 2 (by decide) dX1_init_44 ?_
  refine re_new hO E_X1_init rfl ck_X2 q135 q137 q86 df_X2 dX1_init_45 h ?_
  clear h
  intro w20 h21 c22 h
  refine qc_dup E_X1_init rfl dX1_init_48 ?_
  refine re_new hO E_X1_init rfl ck_X5 q193 q194 q89 df_X5 dX1_init_49 h ?_
  clear h
  intro w23 h24 c25 h
  refine qc_dup E_X1_init rfl dX1_init_52 ?_
  refine qc_callIN (c := c25) (k := 0) (As := []) (rest := [.ref w23, .ref w20, .ref w20, .int 2, .ref w1, .ref w1, .ref a0]) E_X1_init rfl M_X5_init rfl rfl rfl (hO.2.1 _ (qj_N q195 rfl)) q196 rfl rfl (Nat.le_of_ble_eq_true rfl) dX1_init_53 (qc_S.mono ?_ (C_X5_init (d := d + 6) hO hP w23 h24 _ h))
  clear h
  rintro _ _ ⟨rfl, rfl, h⟩
  refine K1_v ?_
  refine qc_callI (c := c25) (k := 0) (As := [.ref w23]) (rest := [.ref w20, .int 2, .ref w1, .ref w1, .ref a0]) E_X1_init rfl M_X2_init rfl rfl rfl q145 q146 rfl rfl (Nat.le_of_ble_eq_true rfl) dX1_init_56 (qc_S.mono ?_ (C_X2_init (d := d + 6) hO hP w20 w23 h24 _ h))
  clear h
  rintro _ h26 ⟨rfl, h⟩
  refine K1_v ?_
  refine re_aast (fun _ => rfl) (ci := 1) rfl (by decide) E_X1_init dX1_init_59 h ?_
  clear h
  intro h27 h
  refine re_putF E_X1_init rfl rfl ck_X1 (by decide) 0 (by decide) q298 rfl rfl rfl rfl dX1_init_60 h ?_
  clear h
  intro h28 h
  refine qc_aload_n E_X1_init (by rfl) dX1_init_63 ?_
  refine qc_bipush E_X1_init 6 (by decide) dX1_init_64 ?_
  refine re_newQ hO 5 (fun _ => rfl) E_X1_init rfl q200 (qj_N q201 rfl) dX1_init_66 h ?_
  clear h
  intro w29 h30 c31 h
  refine re_putF E_X1_init rfl rfl ck_X1 (by decide) 1 (by decide) q300 rfl rfl rfl rfl dX1_init_69 h ?_
  clear h
  intro h32 h
  refine qc_aload_n E_X1_init (by rfl) dX1_init_72 ?_
  refine qc_bipush E_X1_init 6 (by decide) dX1_init_73 ?_
  refine qc_iconst E_X1_init 3 (by decide) dX1_init_75 ?_
  refine re_newM hO E_X1_init rfl q202 (qj_N q203 rfl) q230 dX1_init_76 h ?_
  clear h
  intro w33 h34 c35 h
  refine re_putF E_X1_init rfl rfl ck_X1 (by decide) 2 (by decide) q301 rfl rfl rfl rfl dX1_init_80 h ?_
  clear h
  intro h36 h
  refine qc_aload_n E_X1_init (by rfl) dX1_init_83 ?_
  refine re_newL (d := d + 1) hO E_X1_init rfl q204 q206 (Nat.le_of_ble_eq_true rfl) dX1_init_84 dX1_init_87 dX1_init_88 h ?_
  clear h
  intro w37 h38 c39 h
  refine re_putF E_X1_init rfl rfl ck_X1 (by decide) 3 (by decide) q302 rfl rfl rfl rfl dX1_init_91 h ?_
  clear h
  intro h40 h
  refine qc_aload_n E_X1_init (by rfl) dX1_init_94 ?_
  refine re_newL (d := d + 1) hO E_X1_init rfl q204 q206 (Nat.le_of_ble_eq_true rfl) dX1_init_95 dX1_init_98 dX1_init_99 h ?_
  clear h
  intro w41 h42 c43 h
  refine re_putF E_X1_init rfl rfl ck_X1 (by decide) 4 (by decide) q303 rfl rfl rfl rfl dX1_init_102 h ?_
  clear h
  intro h44 h
  refine qc_aload_n E_X1_init (by rfl) dX1_init_105 ?_
  refine re_newL (d := d + 1) hO E_X1_init rfl q204 q206 (Nat.le_of_ble_eq_true rfl) dX1_init_106 dX1_init_109 dX1_init_110 h ?_
  clear h
  intro w45 h46 c47 h
  refine re_putF E_X1_init rfl rfl ck_X1 (by decide) 5 (by decide) q305 rfl rfl rfl rfl dX1_init_113 h ?_
  clear h
  intro h48 h
  refine qc_aload_n E_X1_init (by rfl) dX1_init_116 ?_
  refine re_newL (d := d + 1) hO E_X1_init rfl q204 q206 (Nat.le_of_ble_eq_true rfl) dX1_init_117 dX1_init_120 dX1_init_121 h ?_
  clear h
  intro w49 h50 c51 h
  refine re_putF E_X1_init rfl rfl ck_X1 (by decide) 6 (by decide) q306 rfl rfl rfl rfl dX1_init_124 h ?_
  clear h
  intro h52 h
  refine qc_aload_n E_X1_init (by rfl) dX1_init_127 ?_
  refine re_newL (d := d + 1) hO E_X1_init rfl q204 q206 (Nat.le_of_ble_eq_true rfl) dX1_init_128 dX1_init_131 dX1_init_132 h ?_
  clear h
  intro w53 h54 c55 h
  refine re_putF E_X1_init rfl rfl ck_X1 (by decide) 7 (by decide) q308 rfl rfl rfl rfl dX1_init_135 h ?_
  clear h
  intro h56 h
  refine qc_aload_n E_X1_init (by rfl) dX1_init_138 ?_
  refine re_newL (d := d + 1) hO E_X1_init rfl q204 q206 (Nat.le_of_ble_eq_true rfl) dX1_init_139 dX1_init_142 dX1_init_143 h ?_
  clear h
  intro w57 h58 c59 h
  refine re_putF E_X1_init rfl rfl ck_X1 (by decide) 8 (by decide) q309 rfl rfl rfl rfl dX1_init_146 h ?_
  clear h
  intro h60 h
  refine qc_aload_n E_X1_init (by rfl) dX1_init_149 ?_
  refine re_newL (d := d + 1) hO E_X1_init rfl q204 q206 (Nat.le_of_ble_eq_true rfl) dX1_init_150 dX1_init_153 dX1_init_154 h ?_
  clear h
  intro w61 h62 c63 h
  refine re_putF E_X1_init rfl rfl ck_X1 (by decide) 9 (by decide) q310 rfl rfl rfl rfl dX1_init_157 h ?_
  clear h
  intro h64 h
  refine qc_aload_n E_X1_init (by rfl) dX1_init_160 ?_
  refine qc_bipush E_X1_init 40 (by decide) dX1_init_161 ?_
  refine re_put E_X1_init rfl ck_X1 (by decide) 10 (by decide) q311 rfl rfl rfl dX1_init_163 h ?_
  clear h
  intro h65 h
  refine qc_aload_n E_X1_init (by rfl) dX1_init_166 ?_
  refine re_new hO E_X1_init rfl ck_X6 q231 q232 q93 df_X6 dX1_init_167 h ?_
  clear h
  intro w66 h67 c68 h
  refine qc_dup E_X1_init rfl dX1_init_170 ?_
  obtain ⟨c70, k69, rfl, h⟩ := h
  refine qc_callIN (c := c70) (k := k69) (As := []) (rest := [.ref w66, .ref a0]) E_X1_init rfl M_X6_init rfl rfl rfl (hO.2.1 _ (qj_N q233 rfl)) q234 rfl rfl (Nat.le_of_ble_eq_true rfl) dX1_init_171 (qc_S.mono ?_ (C_X6_init (d := d) hO hP w66 h67 k69 _ h))
  clear h
  rintro _ h71 ⟨rfl, h⟩
  refine K1_v ?_
  refine re_put E_X1_init rfl ck_X1 (by decide) 12 (by decide) q313 rfl rfl rfl dX1_init_174 h ?_
  clear h
  intro h72 h
  refine qc_iconst E_X1_init 0 (by decide) dX1_init_177 ?_
  refine qc_istore_n E_X1_init (by decide) dX1_init_178 ?_
  refine h (fun (x74 : Int32) (h75 : qc_H) (c76 : Nat) => qc_wp g x (d + 7) c76 I_X1_init 179 [some (.ref a0), some (.int x74)] [] h75 (oV K)) ?_
  clear h
  intro x74 h75 c76 h
  refine qc_iload_n E_X1_init (by rfl) dX1_init_179 ?_
  refine qc_bipush E_X1_init 6 (by decide) dX1_init_180 ?_
  refine qc_icmp_ge E_X1_init 213 dX1_init_182 (by decide) (fun (c77 : 6 ≤ x74) => ?_) (fun (c77 : ¬ 6 ≤ x74) => ?_)
  · replace h := h.1 c77
    exact qc_vret E_X1_init rfl dX1_init_213 (⟨rfl, h⟩)
  · replace h := h.2 c77
    refine qc_aload_n E_X1_init (by rfl) dX1_init_185 ?_
    refine re_getR E_X1_init rfl ck_X1 (by decide) 1 (by decide) q300 dX1_init_186 h ?_
    clear h
    intro v78 h
    refine qc_iload_n E_X1_init (by rfl) dX1_init_189 ?_
    refine re_new hO E_X1_init rfl ck_X7 q200 q264 q94 df_X7 dX1_init_190 h ?_
    clear h
    intro w79 h80 c81 h
    refine qc_dup E_X1_init rfl dX1_init_193 ?_
    refine qc_iload_n E_X1_init (by rfl) dX1_init_194 ?_
    refine qc_aload_n E_X1_init (by rfl) dX1_init_195 ?_
    refine re_getR E_X1_init rfl ck_X1 (by decide) 0 (by decide) q298 dX1_init_196 h ?_
    clear h
    intro v82 h
    refine qc_iload_n E_X1_init (by rfl) dX1_init_199 ?_
    refine qc_iconst E_X1_init 2 (by decide) dX1_init_200 ?_
    refine qc_idiv E_X1_init (by decide) dX1_init_201 ?_
    refine re_aald 4 (fun _ => rfl) E_X1_init dX1_init_202 h ?_
    clear h
    intro v83 h
    obtain ⟨c85, k84, rfl, h⟩ := h
    refine qc_callI (c := c85) (k := k84) (As := [.int x74, .ref v83]) (rest := [.ref w79, .int x74, .ref v78]) E_X1_init rfl M_X7_init rfl rfl rfl q265 q266 rfl rfl (Nat.le_of_ble_eq_true rfl) dX1_init_203 (qc_S.mono ?_ (C_X7_init (d := d) hO hP w79 x74 v83 h80 k84 _ h))
    clear h
    rintro _ h86 ⟨rfl, h⟩
    refine K1_v ?_
    refine re_aast (fun _ => rfl) (ci := 6) rfl (by decide) E_X1_init dX1_init_206 h ?_
    clear h
    intro h87 h
    refine qc_iinc E_X1_init 1 rfl (by decide) (by decide) dX1_init_207 ?_
    refine qc_goto E_X1_init 179 dX1_init_210 (by decide) ?_
    exact h
