/-! CORE 21, next part (printed by gen2.py) -/
set_option maxRecDepth 100000
def U_can (g : qh_G) (h : qc_H) (b : Nat) (a1 : Int32) (a2 : Int32) (K : Int32 → Prop) : Prop := eC h b 2 (T_X3_can g b a1 a2 h K) ∨ eC h b 3 (T_X4_can g b a1 a2 h K) ∨ eC h b 4 (T_X5_can g b a1 a2 h K)
theorem V_can {g : qh_G} {x : qc_X} {d c : Nat} {sd : String → Nat → Nat} {I : qh_I} {cc : ByteArray} {pc : Nat} {ls : List (Option Value)} {rest : List Value} {h : qc_H} {Q : qh_R → qc_H → Prop} {own : String} {index count b : Nat} {a1 : Int32} {a2 : Int32} {K : Int32 → Prop} (hO : qc_O g x) (hP : qc_P g qp_ts sd) (e : I.2.1 = cc) (ho : I.1.cls = own) (q1 : Cond.methodLink own index (⟨"QueryHarbor$Store", "can", "(II)Z"⟩ : MethodName) ∈ lw_all) (_ : True = True) (hw : (rest.map fun v => v.category).sum ≤ 8) (hd : decode cc pc = .ok (.invokeinterface index count, 5)) (hh : U_can g h b a1 a2 K) (kk : ∀ v, (v = 0 ∨ v = 1) → K v → qc_wp g x (d + 1) c I (pc + 5) ls (.int v :: rest) h Q) : qc_wp g x (d + 1) c I pc ls (.int a2 :: .int a1 :: .ref b :: rest) h Q := by
  rcases hh with ⟨⟨fz, hb⟩, h⟩ | ⟨⟨fz, hb⟩, h⟩ | ⟨⟨fz, hb⟩, h⟩
  · refine qc_callF (c := c) (k := 0) (As := [.int a1, .int a2]) (rest := rest) hO e ho M_X3_can rfl ⟨by decide, by decide, by decide +kernel⟩ q1 q1283 q1285 (qp_F hP q1272 q1271 q1286 q1284 q537) (ci := 2) rfl hb rfl rfl hw hd (qc_S.mono ?_ (C_X3_can (d := d) hO hP b a1 a2 _ _ h))
    clear h
    rintro _ _ ⟨v, rfl, z, rfl, h⟩
    exact kk v z h
  · refine qc_callF (c := c) (k := 0) (As := [.int a1, .int a2]) (rest := rest) hO e ho M_X4_can rfl ⟨by decide, by decide, by decide +kernel⟩ q1 q1278 q1280 (qp_F hP q1272 q1271 q1281 q1279 q529) (ci := 3) rfl hb rfl rfl hw hd (qc_S.mono ?_ (C_X4_can (d := d) hO hP b a1 a2 _ _ h))
    clear h
    rintro _ _ ⟨v, rfl, z, rfl, h⟩
    exact kk v z h
  · refine qc_callF (c := c) (k := 0) (As := [.int a1, .int a2]) (rest := rest) hO e ho M_X5_can rfl ⟨by decide, by decide, by decide +kernel⟩ q1 q1273 q1275 (qp_F hP q1272 q1271 q1276 q1274 q514) (ci := 4) rfl hb rfl rfl hw hd (qc_S.mono ?_ (C_X5_can (d := d) hO hP b a1 a2 _ _ h))
    clear h
    rintro _ _ ⟨v, rfl, z, rfl, h⟩
    exact kk v z h
def I_X14_init : qh_I := (yX14_init, cX14_init, 5, (Option.none : Option Jvm.ClassFile.FieldType), [])
theorem E_X14_init : I_X14_init.2.1 = cX14_init := rfl
theorem M_X14_init : qh_M I_X14_init 2 := ⟨by decide, by decide, by decide +kernel, q122, q1259, by decide⟩
def T_X14_init (g : qh_G) (a0 : Nat) (a1 : Nat) (a2 : Int32) (hp : qc_H) (c : Nat) (K : qc_H → Prop) : Prop := eP hp a0 13 10 (.ref a1) (fun h1 => eNL h1 c (fun w2 h3 c4 => eP h3 a0 13 2 (.ref w2) (fun h5 => eNL h5 c4 (fun w6 h7 c8 => eP h7 a0 13 3 (.ref w6) (fun h9 => eNL h9 c8 (fun w10 h11 c12 => eP h11 a0 13 4 (.ref w10) (fun h13 => eP h13 a0 13 0 (.int a2) (fun h14 => eR h14 a1 0 1 (fun v15 => eR h14 a1 0 5 (fun v16 => eGt h14 v16 a2 (fun p17 => eC h14 p17 17 (eB h14 p17 (fun v18 => eQ g.2.2.2.1 5 h14 v15 v18 (fun v19 => eP h14 a0 13 1 (.ref v19) (fun h20 => ∀ X21 : Int32 → qc_H → Nat → Prop, (∀ (x22 : Int32) (h23 : qc_H) (c24 : Nat), (eR h23 a1 0 7 (fun v25 => eSz h23 v25 (fun n26 => (n26 ≤ x22 → K h23) ∧ (¬ n26 ≤ x22 → eR h23 a1 0 7 (fun v28 => eGt h23 v28 x22 (fun p29 => eC h23 p29 11 (eI h23 p29 11 0 (fun v30 => (¬ v30 = a2 → X21 (x22 + 1) h23 c24) ∧ (v30 = a2 → eR h23 a0 13 2 (fun v32 => eAd g h23 v32 p29 c24 (fun h33 c34 => eR h33 a0 13 1 (fun v35 => eR h33 v35 6 1 (fun v36 => eR h33 v36 1 0 (fun v37 => eI h33 p29 11 2 (fun v38 => eI h33 p29 11 1 (fun v39 => U_can g h33 v37 v38 v39 (fun r40 => (r40 = 0 → X21 (x22 + 1) h33 c34) ∧ (¬ r40 = 0 → eR h33 a0 13 3 (fun v43 => eAd g h33 v43 p29 c34 (fun h44 c45 => X21 (x22 + 1) h44 c45)))))))))))))))))))) → X21 x22 h23 c24) → X21 0 h20 c12)))))))))))))))
set_option maxHeartbeats 8000000 in
theorem C_X14_init {g : qh_G} {x : qc_X} {d : Nat} {sd : String → Nat → Nat} (hO : qc_O g x) (hP : qc_P g qp_ts sd) (a0 : Nat) (a1 : Nat) (a2 : Int32) (hp : qc_H) (c : Nat) (K : qc_H → Prop) (hz : T_X14_init g a0 a1 a2 hp c K) : qc_S g x (d + 6) c I_X14_init [.ref a0, .ref a1, .int a2] hp (oV K) := by
  refine qc_S.of (by decide) rfl (ls := [some (.ref a0), some (.ref a1), some (.int a2), none, none]) rfl (Nat.le_of_ble_eq_true rfl) (ct_c rfl (ct_c rfl (ct_c rfl ct_n))) ?_
  unfold T_X14_init at hz
  have h := hz
  clear hz
  refine qc_aload_n E_X14_init (by rfl) dX14_init_0 ?_
  refine qc_aload_n E_X14_init (by rfl) dX14_init_1 ?_
  refine re_putF E_X14_init rfl rfl ck_X14 (by decide) 10 (by decide) q1302 rfl rfl rfl rfl dX14_init_2 h ?_
  clear h
  intro h1 h
  refine qc_aload_n E_X14_init (by rfl) dX14_init_5 ?_
  refine qc_objInit E_X14_init rfl q1260 q133 q134 dX14_init_6 (Nat.le_of_ble_eq_true rfl) ?_
  refine qc_aload_n E_X14_init (by rfl) dX14_init_9 ?_
  refine re_newL (d := d) hO E_X14_init rfl q1261 q1262 (Nat.le_of_ble_eq_true rfl) dX14_init_10 dX14_init_13 dX14_init_14 h ?_
  clear h
  intro w2 h3 c4 h
  refine re_putF E_X14_init rfl rfl ck_X14 (by decide) 2 (by decide) q1292 rfl rfl rfl rfl dX14_init_17 h ?_
  clear h
  intro h5 h
  refine qc_aload_n E_X14_init (by rfl) dX14_init_20 ?_
  refine re_newL (d := d) hO E_X14_init rfl q1261 q1262 (Nat.le_of_ble_eq_true rfl) dX14_init_21 dX14_init_24 dX14_init_25 h ?_
  clear h
  intro w6 h7 c8 h
  refine re_putF E_X14_init rfl rfl ck_X14 (by decide) 3 (by decide) q1293 rfl rfl rfl rfl dX14_init_28 h ?_
  clear h
  intro h9 h
  refine qc_aload_n E_X14_init (by rfl) dX14_init_31 ?_
  refine re_newL (d := d) hO E_X14_init rfl q1261 q1262 (Nat.le_of_ble_eq_true rfl) dX14_init_32 dX14_init_35 dX14_init_36 h ?_
  clear h
  intro w10 h11 c12 h
  refine re_put E_X14_init rfl ck_X14 (by decide) 4 (by decide) q1295 rfl rfl rfl dX14_init_39 h ?_
  clear h
  intro h13 h
  refine qc_aload_n E_X14_init (by rfl) dX14_init_42 ?_
  refine qc_iload_n E_X14_init (by rfl) dX14_init_43 ?_
  refine re_putF E_X14_init rfl rfl ck_X14 (by decide) 0 (by decide) q1288 rfl rfl rfl rfl dX14_init_44 h ?_
  clear h
  intro h14 h
  refine qc_aload_n E_X14_init (by rfl) dX14_init_47 ?_
  refine qc_aload_n E_X14_init (by rfl) dX14_init_48 ?_
  refine re_getRN E_X14_init rfl ck_X1 (by decide) 1 (by decide) (hO.2.1 _ (qj_N q299 rfl)) dX14_init_49 h ?_
  clear h
  intro v15 h
  refine qc_aload_n E_X14_init (by rfl) dX14_init_52 ?_
  refine re_getRN E_X14_init rfl ck_X1 (by decide) 5 (by decide) (hO.2.1 _ (qj_N q304 rfl)) dX14_init_53 h ?_
  clear h
  intro v16 h
  refine qc_iload_n E_X14_init (by rfl) dX14_init_56 ?_
  refine re_get (d := d) hO E_X14_init rfl q1263 (Nat.le_of_ble_eq_true rfl) dX14_init_57 h ?_
  clear h
  intro p17 h
  refine re_castS (ci := 17) hO E_X14_init rfl rfl q1264 dX14_init_60 h ?_
  clear h
  intro h
  refine re_unbox (d := d) hO E_X14_init rfl q1265 (Nat.le_of_ble_eq_true rfl) dX14_init_63 h ?_
  clear h
  intro v18 h
  refine re_aald 5 (fun _ => rfl) E_X14_init dX14_init_66 h ?_
  clear h
  intro v19 h
  refine re_putF E_X14_init rfl rfl ck_X14 (by decide) 1 (by decide) q1290 rfl rfl rfl rfl dX14_init_67 h ?_
  clear h
  intro h20 h
  refine qc_iconst E_X14_init 0 (by decide) dX14_init_70 ?_
  refine qc_istore_n E_X14_init (by decide) dX14_init_71 ?_
  refine h (fun (x22 : Int32) (h23 : qc_H) (c24 : Nat) => qc_wp g x (d + 6) c24 I_X14_init 72 [some (.ref a0), some (.ref a1), some (.int a2), some (.int x22), none] [] h23 (oV K)) ?_
  clear h
  intro x22 h23 c24 h
  refine qc_iload_n E_X14_init (by rfl) dX14_init_72 ?_
  refine qc_aload_n E_X14_init (by rfl) dX14_init_73 ?_
  refine re_getRN E_X14_init rfl ck_X1 (by decide) 7 (by decide) (hO.2.1 _ (qj_N q307 rfl)) dX14_init_74 h ?_
  clear h
  intro v25 h
  refine re_size (d := d) hO E_X14_init rfl q1266 (Nat.le_of_ble_eq_true rfl) dX14_init_77 h ?_
  clear h
  intro n26 h
  refine qc_icmp_ge E_X14_init 159 dX14_init_80 (by decide) (fun (c27 : n26 ≤ x22) => ?_) (fun (c27 : ¬ n26 ≤ x22) => ?_)
  · replace h := h.1 c27
    exact qc_vret E_X14_init rfl dX14_init_159 (⟨rfl, h⟩)
  · replace h := h.2 c27
    refine qc_aload_n E_X14_init (by rfl) dX14_init_83 ?_
    refine re_getRN E_X14_init rfl ck_X1 (by decide) 7 (by decide) (hO.2.1 _ (qj_N q307 rfl)) dX14_init_84 h ?_
    clear h
    intro v28 h
    refine qc_iload_n E_X14_init (by rfl) dX14_init_87 ?_
    refine re_get (d := d) hO E_X14_init rfl q1263 (Nat.le_of_ble_eq_true rfl) dX14_init_88 h ?_
    clear h
    intro p29 h
    refine re_castS (ci := 11) hO E_X14_init rfl rfl q1267 dX14_init_91 h ?_
    clear h
    intro h
    refine qc_astore E_X14_init (by decide) dX14_init_94 ?_
    refine qc_aload E_X14_init (by rfl) dX14_init_96 ?_
    refine re_getI E_X14_init rfl ck_X12 (by decide) 0 (by decide) q1199 dX14_init_98 h ?_
    clear h
    intro v30 h
    refine qc_iload_n E_X14_init (by rfl) dX14_init_101 ?_
    refine qc_icmp_ne E_X14_init 153 dX14_init_102 (by decide) (fun (c31 : ¬ v30 = a2) => ?_) (fun (c31 : v30 = a2) => ?_)
    · replace h := h.1 c31
      refine qc_iinc E_X14_init 1 rfl (by decide) (by decide) dX14_init_153 ?_
      refine qc_goto E_X14_init 72 dX14_init_156 (by decide) ?_
      refine qc_drop 4 ?_
      exact h
    · replace h := h.2 c31
      refine qc_aload_n E_X14_init (by rfl) dX14_init_105 ?_
      refine re_getR E_X14_init rfl ck_X14 (by decide) 2 (by decide) q1292 dX14_init_106 h ?_
      clear h
      intro v32 h
      refine qc_aload E_X14_init (by rfl) dX14_init_109 ?_
      refine re_add (d := d) hO E_X14_init rfl q1268 (Nat.le_of_ble_eq_true rfl) dX14_init_111 h ?_
      clear h
      intro h33 c34 h
      refine qc_pop E_X14_init rfl dX14_init_114 ?_
      refine qc_aload_n E_X14_init (by rfl) dX14_init_115 ?_
      refine re_getR E_X14_init rfl ck_X14 (by decide) 1 (by decide) q1290 dX14_init_116 h ?_
      clear h
      intro v35 h
      refine re_getR E_X14_init rfl ck_X7 (by decide) 1 (by decide) q274 dX14_init_119 h ?_
      clear h
      intro v36 h
      refine re_getR E_X14_init rfl ck_X2 (by decide) 0 (by decide) q150 dX14_init_122 h ?_
      clear h
      intro v37 h
      refine qc_aload E_X14_init (by rfl) dX14_init_125 ?_
      refine re_getI E_X14_init rfl ck_X12 (by decide) 2 (by decide) q1203 dX14_init_127 h ?_
      clear h
      intro v38 h
      refine qc_aload E_X14_init (by rfl) dX14_init_130 ?_
      refine re_getI E_X14_init rfl ck_X12 (by decide) 1 (by decide) q1201 dX14_init_132 h ?_
      clear h
      intro v39 h
      refine V_can (d := d + 5) (rest := []) hO hP E_X14_init rfl q1270 rfl (Nat.le_of_ble_eq_true rfl) dX14_init_135 h ?_
      clear h
      intro r40 z41 h
      refine qc_if_eq E_X14_init 153 dX14_init_140 (by decide) (fun (c42 : r40 = 0) => ?_) (fun (c42 : ¬ r40 = 0) => ?_)
      · replace h := h.1 c42
        refine qc_iinc E_X14_init 1 rfl (by decide) (by decide) dX14_init_153 ?_
        refine qc_goto E_X14_init 72 dX14_init_156 (by decide) ?_
        refine qc_drop 4 ?_
        exact h
      · replace h := h.2 c42
        refine qc_aload_n E_X14_init (by rfl) dX14_init_143 ?_
        refine re_getR E_X14_init rfl ck_X14 (by decide) 3 (by decide) q1293 dX14_init_144 h ?_
        clear h
        intro v43 h
        refine qc_aload E_X14_init (by rfl) dX14_init_147 ?_
        refine re_add (d := d) hO E_X14_init rfl q1268 (Nat.le_of_ble_eq_true rfl) dX14_init_149 h ?_
        clear h
        intro h44 c45 h
        refine qc_pop E_X14_init rfl dX14_init_152 ?_
        refine qc_iinc E_X14_init 1 rfl (by decide) (by decide) dX14_init_153 ?_
        refine qc_goto E_X14_init 72 dX14_init_156 (by decide) ?_
        refine qc_drop 4 ?_
        exact h
def I_X11_joins : qh_I := (yX11_joins, cX11_joins, 3, (Option.some Jvm.ClassFile.FieldType.boolean), [])
theorem E_X11_joins : I_X11_joins.2.1 = cX11_joins := rfl
theorem M_X11_joins : qh_M I_X11_joins 2 := ⟨by decide, by decide, by decide +kernel, q119, q1337, by decide⟩
def T_X11_joins (g : qh_G) (a0 : Nat) (a1 : Int32) (a2 : Int32) (hp : qc_H) (K : Int32 → Prop) : Prop := eI hp a0 10 0 (fun v1 => (¬ v1 = a1 → eI hp a0 10 0 (fun v3 => (¬ v3 = a2 → K 0) ∧ (v3 = a2 → eI hp a0 10 2 (fun v5 => (¬ v5 = a1 → K 0) ∧ (v5 = a1 → K 1))))) ∧ (v1 = a1 → eI hp a0 10 2 (fun v7 => (v7 = a2 → K 1) ∧ (¬ v7 = a2 → eI hp a0 10 0 (fun v9 => (¬ v9 = a2 → K 0) ∧ (v9 = a2 → eI hp a0 10 2 (fun v11 => (¬ v11 = a1 → K 0) ∧ (v11 = a1 → K 1))))))))
set_option maxHeartbeats 8000000 in
theorem C_X11_joins {g : qh_G} {x : qc_X} {d : Nat} {sd : String → Nat → Nat} (hO : qc_O g x) (hP : qc_P g qp_ts sd) (a0 : Nat) (a1 : Int32) (a2 : Int32) (hp : qc_H) (K : Int32 → Prop) (hz : T_X11_joins g a0 a1 a2 hp K) : qc_S g x (d + 0) 0 I_X11_joins [.ref a0, .int a1, .int a2] hp (oZ (fun v t => hp = t ∧ K v)) := by
  refine qc_S.of (by decide) rfl (ls := [some (.ref a0), some (.int a1), some (.int a2)]) rfl (Nat.le_of_ble_eq_true rfl) (ct_c rfl (ct_c rfl (ct_c rfl ct_n))) ?_
  unfold T_X11_joins at hz
  have h := hz
  clear hz
  refine qc_aload_n E_X11_joins (by rfl) dX11_joins_0 ?_
  refine re_getI E_X11_joins rfl ck_X11 (by decide) 0 (by decide) q1169 dX11_joins_1 h ?_
  clear h
  intro v1 h
  refine qc_iload_n E_X11_joins (by rfl) dX11_joins_4 ?_
  refine qc_icmp_ne E_X11_joins 16 dX11_joins_5 (by decide) (fun (c2 : ¬ v1 = a1) => ?_) (fun (c2 : v1 = a1) => ?_)
  · replace h := h.1 c2
    refine qc_aload_n E_X11_joins (by rfl) dX11_joins_16 ?_
    refine re_getI E_X11_joins rfl ck_X11 (by decide) 0 (by decide) q1169 dX11_joins_17 h ?_
    clear h
    intro v3 h
    refine qc_iload_n E_X11_joins (by rfl) dX11_joins_20 ?_
    refine qc_icmp_ne E_X11_joins 36 dX11_joins_21 (by decide) (fun (c4 : ¬ v3 = a2) => ?_) (fun (c4 : v3 = a2) => ?_)
    · replace h := h.1 c4
      refine qc_iconst E_X11_joins 0 (by decide) dX11_joins_36 ?_
      exact qc_zret E_X11_joins rfl (qm_nb (Or.inl rfl)) dX11_joins_37 (⟨_, rfl, (Or.inl rfl), rfl, h⟩)
    · replace h := h.2 c4
      refine qc_aload_n E_X11_joins (by rfl) dX11_joins_24 ?_
      refine re_getI E_X11_joins rfl ck_X11 (by decide) 2 (by decide) q1172 dX11_joins_25 h ?_
      clear h
      intro v5 h
      refine qc_iload_n E_X11_joins (by rfl) dX11_joins_28 ?_
      refine qc_icmp_ne E_X11_joins 36 dX11_joins_29 (by decide) (fun (c6 : ¬ v5 = a1) => ?_) (fun (c6 : v5 = a1) => ?_)
      · replace h := h.1 c6
        refine qc_iconst E_X11_joins 0 (by decide) dX11_joins_36 ?_
        exact qc_zret E_X11_joins rfl (qm_nb (Or.inl rfl)) dX11_joins_37 (⟨_, rfl, (Or.inl rfl), rfl, h⟩)
      · replace h := h.2 c6
        refine qc_iconst E_X11_joins 1 (by decide) dX11_joins_32 ?_
        refine qc_goto E_X11_joins 37 dX11_joins_33 (by decide) ?_
        exact qc_zret E_X11_joins rfl (qm_nb (Or.inr rfl)) dX11_joins_37 (⟨_, rfl, (Or.inr rfl), rfl, h⟩)
  · replace h := h.2 c2
    refine qc_aload_n E_X11_joins (by rfl) dX11_joins_8 ?_
    refine re_getI E_X11_joins rfl ck_X11 (by decide) 2 (by decide) q1172 dX11_joins_9 h ?_
    clear h
    intro v7 h
    refine qc_iload_n E_X11_joins (by rfl) dX11_joins_12 ?_
    refine qc_icmp_eq E_X11_joins 32 dX11_joins_13 (by decide) (fun (c8 : v7 = a2) => ?_) (fun (c8 : ¬ v7 = a2) => ?_)
    · replace h := h.1 c8
      refine qc_iconst E_X11_joins 1 (by decide) dX11_joins_32 ?_
      refine qc_goto E_X11_joins 37 dX11_joins_33 (by decide) ?_
      exact qc_zret E_X11_joins rfl (qm_nb (Or.inr rfl)) dX11_joins_37 (⟨_, rfl, (Or.inr rfl), rfl, h⟩)
    · replace h := h.2 c8
      refine qc_aload_n E_X11_joins (by rfl) dX11_joins_16 ?_
      refine re_getI E_X11_joins rfl ck_X11 (by decide) 0 (by decide) q1169 dX11_joins_17 h ?_
      clear h
      intro v9 h
      refine qc_iload_n E_X11_joins (by rfl) dX11_joins_20 ?_
      refine qc_icmp_ne E_X11_joins 36 dX11_joins_21 (by decide) (fun (c10 : ¬ v9 = a2) => ?_) (fun (c10 : v9 = a2) => ?_)
      · replace h := h.1 c10
        refine qc_iconst E_X11_joins 0 (by decide) dX11_joins_36 ?_
        exact qc_zret E_X11_joins rfl (qm_nb (Or.inl rfl)) dX11_joins_37 (⟨_, rfl, (Or.inl rfl), rfl, h⟩)
      · replace h := h.2 c10
        refine qc_aload_n E_X11_joins (by rfl) dX11_joins_24 ?_
        refine re_getI E_X11_joins rfl ck_X11 (by decide) 2 (by decide) q1172 dX11_joins_25 h ?_
        clear h
        intro v11 h
        refine qc_iload_n E_X11_joins (by rfl) dX11_joins_28 ?_
        refine qc_icmp_ne E_X11_joins 36 dX11_joins_29 (by decide) (fun (c12 : ¬ v11 = a1) => ?_) (fun (c12 : v11 = a1) => ?_)
        · replace h := h.1 c12
          refine qc_iconst E_X11_joins 0 (by decide) dX11_joins_36 ?_
          exact qc_zret E_X11_joins rfl (qm_nb (Or.inl rfl)) dX11_joins_37 (⟨_, rfl, (Or.inl rfl), rfl, h⟩)
        · replace h := h.2 c12
          refine qc_iconst E_X11_joins 1 (by decide) dX11_joins_32 ?_
          refine qc_goto E_X11_joins 37 dX11_joins_33 (by decide) ?_
          exact qc_zret E_X11_joins rfl (qm_nb (Or.inr rfl)) dX11_joins_37 (⟨_, rfl, (Or.inr rfl), rfl, h⟩)
def I_X1_linkOf : qh_I := (yX1_linkOf, cX1_linkOf, 9, (Option.some (Jvm.ClassFile.FieldType.object "QueryHarbor$Link")), [])
theorem E_X1_linkOf : I_X1_linkOf.2.1 = cX1_linkOf := rfl
theorem M_X1_linkOf : qh_M I_X1_linkOf 2 := ⟨by decide, by decide, by decide +kernel, q85, q1333, by decide⟩
def T_X1_linkOf (g : qh_G) (a0 : Nat) (a1 : Nat) (a2 : Nat) (hp : qc_H) (K : Option Nat → Prop) : Prop := ∀ X1 : Int32 → Prop, (∀ (x2 : Int32), (eR hp a0 0 6 (fun v3 => eSz hp v3 (fun n4 => (n4 ≤ x2 → K none) ∧ (¬ n4 ≤ x2 → eR hp a0 0 6 (fun v6 => eGt hp v6 x2 (fun p7 => eC hp p7 10 (eT g.2.2.2.1 7 hp a2 (fun v8 => ∀ X9 : Int32 → Prop, (∀ (x10 : Int32), ((v8 ≤ x10 → X1 (x2 + 1)) ∧ (¬ v8 ≤ x10 → eQ g.2.2.2.1 7 hp a2 x10 (fun v12 => eI hp v12 13 5 (fun v13 => (v13 = 0 → X9 (x10 + 1)) ∧ (¬ v13 = 0 → eI hp a1 13 0 (fun v15 => eI hp v12 13 0 (fun v16 => eC hp p7 10 (T_X11_joins g p7 v15 v16 hp (fun r17 => (r17 = 0 → X9 (x10 + 1)) ∧ (¬ r17 = 0 → K (some p7))))))))))) → X9 x10) → X9 0)))))))) → X1 x2) → X1 0
set_option maxHeartbeats 8000000 in
theorem C_X1_linkOf {g : qh_G} {x : qc_X} {d : Nat} {sd : String → Nat → Nat} (hO : qc_O g x) (hP : qc_P g qp_ts sd) (a0 : Nat) (a1 : Nat) (a2 : Nat) (hp : qc_H) (K : Option Nat → Prop) (hz : T_X1_linkOf g a0 a1 a2 hp K) : qc_S g x (d + 6) 0 I_X1_linkOf [.ref a0, .ref a1, .ref a2] hp (oO (fun v t => hp = t ∧ K v)) := by
  refine qc_S.of (by decide) rfl (ls := [some (.ref a0), some (.ref a1), some (.ref a2), none, none, none, none, none, none]) rfl (Nat.le_of_ble_eq_true rfl) (ct_c rfl (ct_c rfl (ct_c rfl ct_n))) ?_
  unfold T_X1_linkOf at hz
  have h := hz
  clear hz
  refine qc_iconst E_X1_linkOf 0 (by decide) dX1_linkOf_0 ?_
  refine qc_istore_n E_X1_linkOf (by decide) dX1_linkOf_1 ?_
  refine h (fun (x2 : Int32) => qc_wp g x (d + 6) 0 I_X1_linkOf 2 [some (.ref a0), some (.ref a1), some (.ref a2), some (.int x2), none, none, none, none, none] [] hp (oO (fun v t => hp = t ∧ K v))) ?_
  clear h
  intro x2 h
  refine qc_iload_n E_X1_linkOf (by rfl) dX1_linkOf_2 ?_
  refine qc_aload_n E_X1_linkOf (by rfl) dX1_linkOf_3 ?_
  refine re_getR E_X1_linkOf rfl ck_X1 (by decide) 6 (by decide) q306 dX1_linkOf_4 h ?_
  clear h
  intro v3 h
  refine re_size (d := d) hO E_X1_linkOf rfl q366 (Nat.le_of_ble_eq_true rfl) dX1_linkOf_7 h ?_
  clear h
  intro n4 h
  refine qc_icmp_ge E_X1_linkOf 91 dX1_linkOf_10 (by decide) (fun (c5 : n4 ≤ x2) => ?_) (fun (c5 : ¬ n4 ≤ x2) => ?_)
  · replace h := h.1 c5
    refine qc_null E_X1_linkOf dX1_linkOf_91 ?_
    exact re_aretO (r := none) E_X1_linkOf rfl (Or.inl ⟨_, rfl⟩) dX1_linkOf_92 (⟨_, rfl, rfl, h⟩)
  · replace h := h.2 c5
    refine qc_aload_n E_X1_linkOf (by rfl) dX1_linkOf_13 ?_
    refine re_getR E_X1_linkOf rfl ck_X1 (by decide) 6 (by decide) q306 dX1_linkOf_14 h ?_
    clear h
    intro v6 h
    refine qc_iload_n E_X1_linkOf (by rfl) dX1_linkOf_17 ?_
    refine re_get (d := d) hO E_X1_linkOf rfl q1013 (Nat.le_of_ble_eq_true rfl) dX1_linkOf_18 h ?_
    clear h
    intro p7 h
    refine re_castS (ci := 10) hO E_X1_linkOf rfl rfl q1163 dX1_linkOf_21 h ?_
    clear h
    intro h
    refine qc_astore E_X1_linkOf (by decide) dX1_linkOf_24 ?_
    refine qc_aload_n E_X1_linkOf (by rfl) dX1_linkOf_26 ?_
    refine qc_astore E_X1_linkOf (by decide) dX1_linkOf_27 ?_
    refine qc_aload E_X1_linkOf (by rfl) dX1_linkOf_29 ?_
    refine re_alen E_X1_linkOf 7 (fun _ => rfl) dX1_linkOf_31 h ?_
    clear h
    intro v8 h
    refine qc_istore E_X1_linkOf (by decide) dX1_linkOf_32 ?_
    refine qc_iconst E_X1_linkOf 0 (by decide) dX1_linkOf_34 ?_
    refine qc_istore E_X1_linkOf (by decide) dX1_linkOf_35 ?_
    refine h (fun (x10 : Int32) => qc_wp g x (d + 6) 0 I_X1_linkOf 37 [some (.ref a0), some (.ref a1), some (.ref a2), some (.int x2), some (.ref p7), some (.ref a2), some (.int v8), some (.int x10), none] [] hp (oO (fun v t => hp = t ∧ K v))) ?_
    clear h
    intro x10 h
    refine qc_iload E_X1_linkOf (by rfl) dX1_linkOf_37 ?_
    refine qc_iload E_X1_linkOf (by rfl) dX1_linkOf_39 ?_
    refine qc_icmp_ge E_X1_linkOf 85 dX1_linkOf_41 (by decide) (fun (c11 : v8 ≤ x10) => ?_) (fun (c11 : ¬ v8 ≤ x10) => ?_)
    · replace h := h.1 c11
      refine qc_iinc E_X1_linkOf 1 rfl (by decide) (by decide) dX1_linkOf_85 ?_
      refine qc_goto E_X1_linkOf 2 dX1_linkOf_88 (by decide) ?_
      refine qc_drop 4 ?_
      refine qc_drop 5 ?_
      refine qc_drop 6 ?_
      refine qc_drop 7 ?_
      exact h
    · replace h := h.2 c11
      refine qc_aload E_X1_linkOf (by rfl) dX1_linkOf_44 ?_
      refine qc_iload E_X1_linkOf (by rfl) dX1_linkOf_46 ?_
      refine re_aald 7 (fun _ => rfl) E_X1_linkOf dX1_linkOf_48 h ?_
      clear h
      intro v12 h
      refine qc_astore E_X1_linkOf (by decide) dX1_linkOf_49 ?_
      refine qc_aload E_X1_linkOf (by rfl) dX1_linkOf_51 ?_
      refine re_getI E_X1_linkOf rfl ck_X14 (by decide) 5 (by decide) q1297 dX1_linkOf_53 h ?_
      clear h
      intro v13 h
      refine qc_if_eq E_X1_linkOf 79 dX1_linkOf_56 (by decide) (fun (c14 : v13 = 0) => ?_) (fun (c14 : ¬ v13 = 0) => ?_)
      · replace h := h.1 c14
        refine qc_iinc E_X1_linkOf 1 rfl (by decide) (by decide) dX1_linkOf_79 ?_
        refine qc_goto E_X1_linkOf 37 dX1_linkOf_82 (by decide) ?_
        refine qc_drop 8 ?_
        exact h
      · replace h := h.2 c14
        refine qc_aload E_X1_linkOf (by rfl) dX1_linkOf_59 ?_
        refine qc_aload_n E_X1_linkOf (by rfl) dX1_linkOf_61 ?_
        refine re_getI E_X1_linkOf rfl ck_X14 (by decide) 0 (by decide) q1289 dX1_linkOf_62 h ?_
        clear h
        intro v15 h
        refine qc_aload E_X1_linkOf (by rfl) dX1_linkOf_65 ?_
        refine re_getI E_X1_linkOf rfl ck_X14 (by decide) 0 (by decide) q1289 dX1_linkOf_67 h ?_
        clear h
        intro v16 h
        obtain ⟨⟨fz, hb⟩, h⟩ := h
        refine qc_callV (c := 0) (k := 0) (As := [.int v15, .int v16]) (rest := []) hO E_X1_linkOf rfl M_X11_joins rfl q1334 q1335 q1336 (ci := 10) rfl rfl hb rfl rfl (Nat.le_of_ble_eq_true rfl) dX1_linkOf_70 (qc_S.mono ?_ (C_X11_joins (d := d + 5) hO hP p7 v15 v16 hp _ h))
        clear h
        clear hb
        rintro _ _ ⟨r17, rfl, z18, rfl, h⟩
        refine K1_i ?_
        refine qc_if_eq E_X1_linkOf 79 dX1_linkOf_73 (by decide) (fun (c19 : r17 = 0) => ?_) (fun (c19 : ¬ r17 = 0) => ?_)
        · replace h := h.1 c19
          refine qc_iinc E_X1_linkOf 1 rfl (by decide) (by decide) dX1_linkOf_79 ?_
          refine qc_goto E_X1_linkOf 37 dX1_linkOf_82 (by decide) ?_
          refine qc_drop 8 ?_
          exact h
        · replace h := h.2 c19
          refine qc_aload E_X1_linkOf (by rfl) dX1_linkOf_76 ?_
          exact re_aretO (r := some p7) E_X1_linkOf rfl (Or.inl ⟨_, rfl⟩) dX1_linkOf_78 (⟨_, rfl, rfl, h⟩)
def I_X14_guess : qh_I := (yX14_guess, cX14_guess, 1, (Option.some Jvm.ClassFile.FieldType.int), [])
theorem E_X14_guess : I_X14_guess.2.1 = cX14_guess := rfl
theorem M_X14_guess : qh_M I_X14_guess 0 := ⟨by decide, by decide, by decide +kernel, q122, q1341, by decide⟩
def T_X14_guess (g : qh_G) (a0 : Nat) (hp : qc_H) (K : Int32 → Prop) : Prop := eR hp a0 13 1 (fun v1 => eI hp v1 6 5 (fun v2 => eR hp a0 13 3 (fun v3 => eSz hp v3 (fun n4 => ∀ u5 : Int32, u5 = (if 1 < (v2 >>> (n4 &&& 31)) then (v2 >>> (n4 &&& 31)) else 1) → K u5))))
set_option maxHeartbeats 8000000 in
theorem C_X14_guess {g : qh_G} {x : qc_X} {d : Nat} {sd : String → Nat → Nat} (hO : qc_O g x) (hP : qc_P g qp_ts sd) (a0 : Nat) (hp : qc_H) (K : Int32 → Prop) (hz : T_X14_guess g a0 hp K) : qc_S g x (d + 6) 0 I_X14_guess [.ref a0] hp (oI (fun v t => hp = t ∧ K v)) := by
  refine qc_S.of (by decide) rfl (ls := [some (.ref a0)]) rfl (Nat.le_of_ble_eq_true rfl) (ct_c rfl ct_n) ?_
  unfold T_X14_guess at hz
  have h := hz
  clear hz
  refine qc_iconst E_X14_guess 1 (by decide) dX14_guess_0 ?_
  refine qc_aload_n E_X14_guess (by rfl) dX14_guess_1 ?_
  refine re_getR E_X14_guess rfl ck_X14 (by decide) 1 (by decide) q1290 dX14_guess_2 h ?_
  clear h
  intro v1 h
  refine re_getI E_X14_guess rfl ck_X7 (by decide) 5 (by decide) q283 dX14_guess_5 h ?_
  clear h
  intro v2 h
  refine qc_aload_n E_X14_guess (by rfl) dX14_guess_8 ?_
  refine re_getR E_X14_guess rfl ck_X14 (by decide) 3 (by decide) q1293 dX14_guess_9 h ?_
  clear h
  intro v3 h
  refine re_size (d := d) hO E_X14_guess rfl q1266 (Nat.le_of_ble_eq_true rfl) dX14_guess_12 h ?_
  clear h
  intro n4 h
  refine qc_ishr E_X14_guess dX14_guess_15 ?_
  refine qc_mmax E_X14_guess rfl q1342 q630 q106 q631 (Nat.le_of_ble_eq_true rfl) dX14_guess_16 ?_
  obtain ⟨u5, eu5⟩ : ∃ z : Int32, z = (if 1 < (v2 >>> (n4 &&& 31)) then (v2 >>> (n4 &&& 31)) else 1) := ⟨_, rfl⟩
  replace h := h u5 eu5
  rw [← eu5]
  exact qc_iret E_X14_guess rfl dX14_guess_19 (⟨_, rfl, rfl, h⟩)
def I_X1_next : qh_I := (yX1_next, cX1_next, 10, (Option.some (Jvm.ClassFile.FieldType.object "QueryHarbor$Seat")), [])
theorem E_X1_next : I_X1_next.2.1 = cX1_next := rfl
theorem M_X1_next : qh_M I_X1_next 1 := ⟨by decide, by decide, by decide +kernel, q85, q1329, by decide⟩
def T_X1_next (g : qh_G) (a0 : Nat) (a1 : Nat) (hp : qc_H) (K : Option Nat → Prop) : Prop := eT g.2.2.2.1 7 hp a1 (fun v1 => ∀ X2 : Option Nat → Int32 → Int32 → Prop, (∀ (x3 : Option Nat) (x4 : Int32) (x5 : Int32), ((v1 ≤ x5 → K x3) ∧ (¬ v1 ≤ x5 → eQ g.2.2.2.1 7 hp a1 x5 (fun v7 => eI hp v7 13 5 (fun v8 => (¬ v8 = 0 → X2 x3 x4 (x5 + 1)) ∧ (v8 = 0 → eC hp a0 0 (T_X1_linkOf g a0 v7 a1 hp (fun r10 => ∀ J13 : Int32 → Prop, (∀ (x14 : Int32), (∀ J27 : Option Nat → Int32 → Prop, (∀ (x28 : Option Nat) (x29 : Int32), (∀ J31 : Option Nat → Prop, (∀ (x32 : Option Nat), (∀ J34 : Int32 → Prop, (∀ (x35 : Int32), (X2 x32 x35 (x5 + 1)) → J34 x35) → (¬ x32 = (some v7) → J34 x4) ∧ (x32 = (some v7) → J34 x14)) → J31 x32) → (x29 = 0 → J31 x28) ∧ (¬ x29 = 0 → J31 (some v7))) → J27 x28 x29) → (x3 = none → J27 none 1) ∧ (∀ y15, x3 = some y15 → (x14 = 0 → (¬ x14 = x4 → J27 (some y15) 0) ∧ (x14 = x4 → eC hp v7 13 (T_X14_guess g v7 hp (fun r19 => eC hp y15 13 (T_X14_guess g y15 hp (fun r20 => (r20 ≤ r19 → J27 (some y15) 0) ∧ (¬ r20 ≤ r19 → J27 (some y15) 1))))))) ∧ (¬ x14 = 0 → (x4 = 0 → J27 (some y15) 1) ∧ (¬ x4 = 0 → (¬ x14 = x4 → J27 (some y15) 0) ∧ (x14 = x4 → eC hp v7 13 (T_X14_guess g v7 hp (fun r24 => eC hp y15 13 (T_X14_guess g y15 hp (fun r25 => (r25 ≤ r24 → J27 (some y15) 0) ∧ (¬ r25 ≤ r24 → J27 (some y15) 1)))))))))) → J13 x14) → (r10 = none → J13 0) ∧ (∀ y11, r10 = some y11 → J13 1)))))))) → X2 x3 x4 x5) → X2 none 0 0)
set_option maxHeartbeats 8000000 in
theorem C_X1_next {g : qh_G} {x : qc_X} {d : Nat} {sd : String → Nat → Nat} (hO : qc_O g x) (hP : qc_P g qp_ts sd) (a0 : Nat) (a1 : Nat) (hp : qc_H) (K : Option Nat → Prop) (hz : T_X1_next g a0 a1 hp K) : qc_S g x (d + 7) 0 I_X1_next [.ref a0, .ref a1] hp (oO (fun v t => hp = t ∧ K v)) := by
  refine qc_S.of (by decide) rfl (ls := [some (.ref a0), some (.ref a1), none, none, none, none, none, none, none, none]) rfl (Nat.le_of_ble_eq_true rfl) (ct_c rfl (ct_c rfl ct_n)) ?_
  unfold T_X1_next at hz
  have h := hz
  clear hz
  refine qc_null E_X1_next dX1_next_0 ?_
  refine qc_astoreN_n E_X1_next (by decide) dX1_next_1 ?_
  refine qc_iconst E_X1_next 0 (by decide) dX1_next_2 ?_
  refine qc_istore_n E_X1_next (by decide) dX1_next_3 ?_
  refine qc_aload_n E_X1_next (by rfl) dX1_next_4 ?_
  refine qc_astore E_X1_next (by decide) dX1_next_5 ?_
  refine qc_aload E_X1_next (by rfl) dX1_next_7 ?_
  refine re_alen E_X1_next 7 (fun _ => rfl) dX1_next_9 h ?_
  clear h
  intro v1 h
  refine qc_istore E_X1_next (by decide) dX1_next_10 ?_
  refine qc_iconst E_X1_next 0 (by decide) dX1_next_12 ?_
  refine qc_istore E_X1_next (by decide) dX1_next_13 ?_
  refine h (fun (x3 : Option Nat) (x4 : Int32) (x5 : Int32) => qc_wp g x (d + 7) 0 I_X1_next 15 [some (.ref a0), some (.ref a1), some (va_rf x3), some (.int x4), some (.ref a1), some (.int v1), some (.int x5), none, none, none] [] hp (oO (fun v t => hp = t ∧ K v))) ?_
  clear h
  intro x3 x4 x5 h
  refine qc_iload E_X1_next (by rfl) dX1_next_15 ?_
  refine qc_iload E_X1_next (by rfl) dX1_next_17 ?_
  refine qc_icmp_ge E_X1_next 123 dX1_next_19 (by decide) (fun (c6 : v1 ≤ x5) => ?_) (fun (c6 : ¬ v1 ≤ x5) => ?_)
  · replace h := h.1 c6
    refine re_aloadO_n E_X1_next (by rfl) dX1_next_123 ?_
    exact re_aretO E_X1_next rfl (Or.inl ⟨_, rfl⟩) dX1_next_124 (⟨_, rfl, rfl, h⟩)
  · replace h := h.2 c6
    refine qc_aload E_X1_next (by rfl) dX1_next_22 ?_
    refine qc_iload E_X1_next (by rfl) dX1_next_24 ?_
    refine re_aald 7 (fun _ => rfl) E_X1_next dX1_next_26 h ?_
    clear h
    intro v7 h
    refine qc_astore E_X1_next (by decide) dX1_next_27 ?_
    refine qc_aload E_X1_next (by rfl) dX1_next_29 ?_
    refine re_getI E_X1_next rfl ck_X14 (by decide) 5 (by decide) q1297 dX1_next_31 h ?_
    clear h
    intro v8 h
    refine qc_if_ne E_X1_next 117 dX1_next_34 (by decide) (fun (c9 : ¬ v8 = 0) => ?_) (fun (c9 : v8 = 0) => ?_)
    · replace h := h.1 c9
      refine qc_iinc E_X1_next 1 rfl (by decide) (by decide) dX1_next_117 ?_
      refine qc_goto E_X1_next 15 dX1_next_120 (by decide) ?_
      refine qc_drop 7 ?_
      exact h
    · replace h := h.2 c9
      refine qc_aload_n E_X1_next (by rfl) dX1_next_37 ?_
      refine qc_aload E_X1_next (by rfl) dX1_next_38 ?_
      refine qc_aload_n E_X1_next (by rfl) dX1_next_40 ?_
      obtain ⟨⟨fz, hb⟩, h⟩ := h
      refine qc_callV (c := 0) (k := 0) (As := [.ref v7, .ref a1]) (rest := []) hO E_X1_next rfl M_X1_linkOf rfl q1330 q1332 qs16 (ci := 0) rfl rfl hb rfl rfl (Nat.le_of_ble_eq_true rfl) dX1_next_41 (qc_S.mono ?_ (C_X1_linkOf (d := d) hO hP a0 v7 a1 hp _ h))
      clear h
      clear hb
      rintro _ _ ⟨r10, rfl, rfl, h⟩
      refine K1_o ?_
      have jz := h (fun (x14 : Int32) => qc_wp g x (d + 7) 0 I_X1_next 52 [some (.ref a0), some (.ref a1), some (va_rf x3), some (.int x4), some (.ref a1), some (.int v1), some (.int x5), some (.ref v7), none, none] [.int x14] hp (oO (fun v t => hp = t ∧ K v)))
      clear h
      have h := jz (by
        intro x14 h
        refine qc_istore E_X1_next (by decide) dX1_next_52 ?_
        refine re_aloadO_n E_X1_next (by rfl) dX1_next_54 ?_
        have jz := h (fun (x28 : Option Nat) (x29 : Int32) => qc_wp g x (d + 7) 0 I_X1_next 90 [some (.ref a0), some (.ref a1), some (va_rf x28), some (.int x4), some (.ref a1), some (.int v1), some (.int x5), some (.ref v7), some (.int x14), none] [.int x29] hp (oO (fun v t => hp = t ∧ K v)))
        clear h
        have h := jz (by
          intro x28 x29 h
          refine qc_istore E_X1_next (by decide) dX1_next_90 ?_
          refine qc_iload E_X1_next (by rfl) dX1_next_92 ?_
          have jz := h (fun (x32 : Option Nat) => qc_wp g x (d + 7) 0 I_X1_next 103 [some (.ref a0), some (.ref a1), none, some (.int x4), some (.ref a1), some (.int v1), some (.int x5), some (.ref v7), some (.int x14), none] [va_rf x32] hp (oO (fun v t => hp = t ∧ K v)))
          clear h
          have h := jz (by
            intro x32 h
            refine re_astoreO_n E_X1_next (by decide) dX1_next_103 ?_
            refine re_aloadO_n E_X1_next (by rfl) dX1_next_104 ?_
            refine qc_aload E_X1_next (by rfl) dX1_next_105 ?_
            have jz := h (fun (x35 : Int32) => qc_wp g x (d + 7) 0 I_X1_next 116 [some (.ref a0), some (.ref a1), some (va_rf x32), none, some (.ref a1), some (.int v1), some (.int x5), none, none, none] [.int x35] hp (oO (fun v t => hp = t ∧ K v)))
            clear h
            have h := jz (by
              intro x35 h
              refine qc_istore_n E_X1_next (by decide) dX1_next_116 ?_
              refine qc_iinc E_X1_next 1 rfl (by decide) (by decide) dX1_next_117 ?_
              refine qc_goto E_X1_next 15 dX1_next_120 (by decide) ?_
              exact h)
            clear jz
            refine qc_acmp_ne (rx := x32) (ry := (some v7)) E_X1_next 115 dX1_next_107 (by decide) (fun (c33 : ¬ x32 = (some v7)) => ?_) (fun (c33 : x32 = (some v7)) => ?_)
            · replace h := h.1 c33
              refine qc_iload_n E_X1_next (by rfl) dX1_next_115 ?_
              refine qc_drop 3 ?_
              refine qc_drop 7 ?_
              refine qc_drop 8 ?_
              exact h
            · replace h := h.2 c33
              refine qc_iload E_X1_next (by rfl) dX1_next_110 ?_
              refine qc_goto E_X1_next 116 dX1_next_112 (by decide) ?_
              refine qc_drop 3 ?_
              refine qc_drop 7 ?_
              refine qc_drop 8 ?_
              exact h)
          clear jz
          refine qc_if_eq E_X1_next 102 dX1_next_94 (by decide) (fun (c30 : x29 = 0) => ?_) (fun (c30 : ¬ x29 = 0) => ?_)
          · replace h := h.1 c30
            refine re_aloadO_n E_X1_next (by rfl) dX1_next_102 ?_
            refine qc_drop 2 ?_
            refine qc_drop 9 ?_
            exact h
          · replace h := h.2 c30
            refine qc_aload E_X1_next (by rfl) dX1_next_97 ?_
            refine qc_goto E_X1_next 103 dX1_next_99 (by decide) ?_
            refine qc_drop 2 ?_
            refine qc_drop 9 ?_
            exact h)
        clear jz
        refine re_ifnullO E_X1_next 85 dX1_next_55 (by decide) (fun c16 => ?_) (fun y15 c16 => ?_)
        · replace h := h.1 c16
          subst c16
          refine qc_iconst E_X1_next 1 (by decide) dX1_next_85 ?_
          refine qc_goto E_X1_next 90 dX1_next_86 (by decide) ?_
          exact h
        · replace h := h.2 y15 c16
          subst c16
          refine qc_iload E_X1_next (by rfl) dX1_next_58 ?_
          refine qc_if_eq E_X1_next 67 dX1_next_60 (by decide) (fun (c17 : x14 = 0) => ?_) (fun (c17 : ¬ x14 = 0) => ?_)
          · replace h := h.1 c17
            refine qc_iload E_X1_next (by rfl) dX1_next_67 ?_
            refine qc_iload_n E_X1_next (by rfl) dX1_next_69 ?_
            refine qc_icmp_ne E_X1_next 89 dX1_next_70 (by decide) (fun (c18 : ¬ x14 = x4) => ?_) (fun (c18 : x14 = x4) => ?_)
            · replace h := h.1 c18
              refine qc_iconst E_X1_next 0 (by decide) dX1_next_89 ?_
              exact h
            · replace h := h.2 c18
              refine qc_aload E_X1_next (by rfl) dX1_next_73 ?_
              obtain ⟨⟨fz, hb⟩, h⟩ := h
              refine qc_callV (c := 0) (k := 0) (As := []) (rest := []) hO E_X1_next rfl M_X14_guess rfl q1338 q1339 q1340 (ci := 13) rfl rfl hb rfl rfl (Nat.le_of_ble_eq_true rfl) dX1_next_75 (qc_S.mono ?_ (C_X14_guess (d := d) hO hP v7 hp _ h))
              clear h
              clear hb
              rintro _ _ ⟨r19, rfl, rfl, h⟩
              refine K1_i ?_
              refine qc_aload_n E_X1_next (by rfl) dX1_next_78 ?_
              obtain ⟨⟨fz, hb⟩, h⟩ := h
              refine qc_callV (c := 0) (k := 0) (As := []) (rest := [.int r19]) hO E_X1_next rfl M_X14_guess rfl q1338 q1339 q1340 (ci := 13) rfl rfl hb rfl rfl (Nat.le_of_ble_eq_true rfl) dX1_next_79 (qc_S.mono ?_ (C_X14_guess (d := d) hO hP y15 hp _ h))
              clear h
              clear hb
              rintro _ _ ⟨r20, rfl, rfl, h⟩
              refine K1_i ?_
              refine qc_icmp_ge E_X1_next 89 dX1_next_82 (by decide) (fun (c21 : r20 ≤ r19) => ?_) (fun (c21 : ¬ r20 ≤ r19) => ?_)
              · replace h := h.1 c21
                refine qc_iconst E_X1_next 0 (by decide) dX1_next_89 ?_
                exact h
              · replace h := h.2 c21
                refine qc_iconst E_X1_next 1 (by decide) dX1_next_85 ?_
                refine qc_goto E_X1_next 90 dX1_next_86 (by decide) ?_
                exact h
          · replace h := h.2 c17
            refine qc_iload_n E_X1_next (by rfl) dX1_next_63 ?_
            refine qc_if_eq E_X1_next 85 dX1_next_64 (by decide) (fun (c22 : x4 = 0) => ?_) (fun (c22 : ¬ x4 = 0) => ?_)
            · replace h := h.1 c22
              refine qc_iconst E_X1_next 1 (by decide) dX1_next_85 ?_
              refine qc_goto E_X1_next 90 dX1_next_86 (by decide) ?_
              exact h
            · replace h := h.2 c22
              refine qc_iload E_X1_next (by rfl) dX1_next_67 ?_
              refine qc_iload_n E_X1_next (by rfl) dX1_next_69 ?_
              refine qc_icmp_ne E_X1_next 89 dX1_next_70 (by decide) (fun (c23 : ¬ x14 = x4) => ?_) (fun (c23 : x14 = x4) => ?_)
              · replace h := h.1 c23
                refine qc_iconst E_X1_next 0 (by decide) dX1_next_89 ?_
                exact h
              · replace h := h.2 c23
                refine qc_aload E_X1_next (by rfl) dX1_next_73 ?_
                obtain ⟨⟨fz, hb⟩, h⟩ := h
                refine qc_callV (c := 0) (k := 0) (As := []) (rest := []) hO E_X1_next rfl M_X14_guess rfl q1338 q1339 q1340 (ci := 13) rfl rfl hb rfl rfl (Nat.le_of_ble_eq_true rfl) dX1_next_75 (qc_S.mono ?_ (C_X14_guess (d := d) hO hP v7 hp _ h))
                clear h
                clear hb
                rintro _ _ ⟨r24, rfl, rfl, h⟩
                refine K1_i ?_
                refine qc_aload_n E_X1_next (by rfl) dX1_next_78 ?_
                obtain ⟨⟨fz, hb⟩, h⟩ := h
                refine qc_callV (c := 0) (k := 0) (As := []) (rest := [.int r24]) hO E_X1_next rfl M_X14_guess rfl q1338 q1339 q1340 (ci := 13) rfl rfl hb rfl rfl (Nat.le_of_ble_eq_true rfl) dX1_next_79 (qc_S.mono ?_ (C_X14_guess (d := d) hO hP y15 hp _ h))
                clear h
                clear hb
                rintro _ _ ⟨r25, rfl, rfl, h⟩
                refine K1_i ?_
                refine qc_icmp_ge E_X1_next 89 dX1_next_82 (by decide) (fun (c26 : r25 ≤ r24) => ?_) (fun (c26 : ¬ r25 ≤ r24) => ?_)
                · replace h := h.1 c26
                  refine qc_iconst E_X1_next 0 (by decide) dX1_next_89 ?_
                  exact h
                · replace h := h.2 c26
                  refine qc_iconst E_X1_next 1 (by decide) dX1_next_85 ?_
                  refine qc_goto E_X1_next 90 dX1_next_86 (by decide) ?_
                  exact h)
      clear jz
      refine re_ifnullO E_X1_next 51 dX1_next_44 (by decide) (fun c12 => ?_) (fun y11 c12 => ?_)
      · replace h := h.1 c12
        subst c12
        refine qc_iconst E_X1_next 0 (by decide) dX1_next_51 ?_
        exact h
      · replace h := h.2 y11 c12
        subst c12
        refine qc_iconst E_X1_next 1 (by decide) dX1_next_47 ?_
        refine qc_goto E_X1_next 52 dX1_next_48 (by decide) ?_
        exact h
def I_X12_followsFrom : qh_I := (yX12_followsFrom, cX12_followsFrom, 5, (Option.some Jvm.ClassFile.FieldType.boolean), [])
theorem E_X12_followsFrom : I_X12_followsFrom.2.1 = cX12_followsFrom := rfl
theorem M_X12_followsFrom : qh_M I_X12_followsFrom 1 := ⟨by decide, by decide, by decide +kernel, q120, q1357, by decide⟩
def T_X12_followsFrom (g : qh_G) (a0 : Nat) (a1 : Nat) (hp : qc_H) (K : Int32 → Prop) : Prop := eI hp a0 11 1 (fun v1 => eI hp a1 11 1 (fun v2 => (v1 = v2 → eI hp a0 11 2 (fun v4 => eI hp a1 11 2 (fun v5 => ∀ J10 : Int32 → Prop, (∀ (x11 : Int32), (eI hp a0 11 2 (fun v12 => ∀ J29 : Int32 → Prop, (∀ (x30 : Int32), (eI hp a0 11 2 (fun v31 => ∀ J48 : Int32 → Prop, (∀ (x49 : Int32), ((¬ x11 = 0 → K 1) ∧ (x11 = 0 → (¬ x30 = 0 → K 1) ∧ (x30 = 0 → (x49 = 0 → K 0) ∧ (¬ x49 = 0 → K 1)))) → J48 x49) → (¬ v31 = 2 → J48 0) ∧ (v31 = 2 → eI hp a1 11 2 (fun v33 => (¬ v33 = 2 → eI hp a1 11 2 (fun v35 => (¬ v35 = 0 → J48 0) ∧ (v35 = 0 → eI hp a1 11 3 (fun v37 => eI hp a0 11 3 (fun v38 => (v37 ≤ v38 → J48 0) ∧ (¬ v37 ≤ v38 → J48 1)))))) ∧ (v33 = 2 → eI hp a1 11 3 (fun v40 => eI hp a0 11 3 (fun v41 => (v41 ≤ v40 → J48 1) ∧ (¬ v41 ≤ v40 → eI hp a1 11 2 (fun v43 => (¬ v43 = 0 → J48 0) ∧ (v43 = 0 → eI hp a1 11 3 (fun v45 => eI hp a0 11 3 (fun v46 => (v45 ≤ v46 → J48 0) ∧ (¬ v45 ≤ v46 → J48 1))))))))))))) → J29 x30) → (¬ v12 = 1 → J29 0) ∧ (v12 = 1 → eI hp a1 11 2 (fun v14 => (¬ v14 = 1 → eI hp a1 11 2 (fun v16 => (¬ v16 = 0 → J29 0) ∧ (v16 = 0 → eI hp a1 11 3 (fun v18 => eI hp a0 11 3 (fun v19 => (v19 ≤ v18 → J29 0) ∧ (¬ v19 ≤ v18 → J29 1)))))) ∧ (v14 = 1 → eI hp a1 11 3 (fun v21 => eI hp a0 11 3 (fun v22 => (v21 ≤ v22 → J29 1) ∧ (¬ v21 ≤ v22 → eI hp a1 11 2 (fun v24 => (¬ v24 = 0 → J29 0) ∧ (v24 = 0 → eI hp a1 11 3 (fun v26 => eI hp a0 11 3 (fun v27 => (v27 ≤ v26 → J29 0) ∧ (¬ v27 ≤ v26 → J29 1))))))))))))) → J10 x11) → (¬ v4 = v5 → J10 0) ∧ (v4 = v5 → eI hp a0 11 3 (fun v7 => eI hp a1 11 3 (fun v8 => (¬ v7 = v8 → J10 0) ∧ (v7 = v8 → J10 1))))))) ∧ (¬ v1 = v2 → K 0)))
set_option maxHeartbeats 8000000 in
theorem C_X12_followsFrom {g : qh_G} {x : qc_X} {d : Nat} {sd : String → Nat → Nat} (hO : qc_O g x) (hP : qc_P g qp_ts sd) (a0 : Nat) (a1 : Nat) (hp : qc_H) (K : Int32 → Prop) (hz : T_X12_followsFrom g a0 a1 hp K) : qc_S g x (d + 0) 0 I_X12_followsFrom [.ref a0, .ref a1] hp (oZ (fun v t => hp = t ∧ K v)) := by
  refine qc_S.of (by decide) rfl (ls := [some (.ref a0), some (.ref a1), none, none, none]) rfl (Nat.le_of_ble_eq_true rfl) (ct_c rfl (ct_c rfl ct_n)) ?_
  unfold T_X12_followsFrom at hz
  have h := hz
  clear hz
  refine qc_aload_n E_X12_followsFrom (by rfl) dX12_followsFrom_0 ?_
  refine re_getI E_X12_followsFrom rfl ck_X12 (by decide) 1 (by decide) q1200 dX12_followsFrom_1 h ?_
  clear h
  intro v1 h
  refine qc_aload_n E_X12_followsFrom (by rfl) dX12_followsFrom_4 ?_
  refine re_getI E_X12_followsFrom rfl ck_X12 (by decide) 1 (by decide) q1200 dX12_followsFrom_5 h ?_
  clear h
  intro v2 h
  refine qc_icmp_eq E_X12_followsFrom 13 dX12_followsFrom_8 (by decide) (fun (c3 : v1 = v2) => ?_) (fun (c3 : ¬ v1 = v2) => ?_)
  · replace h := h.1 c3
    refine qc_aload_n E_X12_followsFrom (by rfl) dX12_followsFrom_13 ?_
    refine re_getI E_X12_followsFrom rfl ck_X12 (by decide) 2 (by decide) q1202 dX12_followsFrom_14 h ?_
    clear h
    intro v4 h
    refine qc_aload_n E_X12_followsFrom (by rfl) dX12_followsFrom_17 ?_
    refine re_getI E_X12_followsFrom rfl ck_X12 (by decide) 2 (by decide) q1202 dX12_followsFrom_18 h ?_
    clear h
    intro v5 h
    have jz := h (fun (x11 : Int32) => qc_wp g x (d + 0) 0 I_X12_followsFrom 40 [some (.ref a0), some (.ref a1), none, none, none] [.int x11] hp (oZ (fun v t => hp = t ∧ K v)))
    clear h
    have h := jz (by
      intro x11 h
      refine qc_istore_n E_X12_followsFrom (by decide) dX12_followsFrom_40 ?_
      refine qc_aload_n E_X12_followsFrom (by rfl) dX12_followsFrom_41 ?_
      refine re_getI E_X12_followsFrom rfl ck_X12 (by decide) 2 (by decide) q1202 dX12_followsFrom_42 h ?_
      clear h
      intro v12 h
      refine qc_iconst E_X12_followsFrom 1 (by decide) dX12_followsFrom_45 ?_
      have jz := h (fun (x30 : Int32) => qc_wp g x (d + 0) 0 I_X12_followsFrom 91 [some (.ref a0), some (.ref a1), some (.int x11), none, none] [.int x30] hp (oZ (fun v t => hp = t ∧ K v)))
      clear h
      have h := jz (by
        intro x30 h
        refine qc_istore_n E_X12_followsFrom (by decide) dX12_followsFrom_91 ?_
        refine qc_aload_n E_X12_followsFrom (by rfl) dX12_followsFrom_92 ?_
        refine re_getI E_X12_followsFrom rfl ck_X12 (by decide) 2 (by decide) q1202 dX12_followsFrom_93 h ?_
        clear h
        intro v31 h
        refine qc_iconst E_X12_followsFrom 2 (by decide) dX12_followsFrom_96 ?_
        have jz := h (fun (x49 : Int32) => qc_wp g x (d + 0) 0 I_X12_followsFrom 142 [none, none, some (.int x11), some (.int x30), none] [.int x49] hp (oZ (fun v t => hp = t ∧ K v)))
        clear h
        have h := jz (by
          intro x49 h
          refine qc_istore E_X12_followsFrom (by decide) dX12_followsFrom_142 ?_
          refine qc_iload_n E_X12_followsFrom (by rfl) dX12_followsFrom_144 ?_
          refine qc_if_ne E_X12_followsFrom 157 dX12_followsFrom_145 (by decide) (fun (c50 : ¬ x11 = 0) => ?_) (fun (c50 : x11 = 0) => ?_)
          · replace h := h.1 c50
            refine qc_iconst E_X12_followsFrom 1 (by decide) dX12_followsFrom_157 ?_
            refine qc_goto E_X12_followsFrom 162 dX12_followsFrom_158 (by decide) ?_
            exact qc_zret E_X12_followsFrom rfl (qm_nb (Or.inr rfl)) dX12_followsFrom_162 (⟨_, rfl, (Or.inr rfl), rfl, h⟩)
          · replace h := h.2 c50
            refine qc_iload_n E_X12_followsFrom (by rfl) dX12_followsFrom_148 ?_
            refine qc_if_ne E_X12_followsFrom 157 dX12_followsFrom_149 (by decide) (fun (c51 : ¬ x30 = 0) => ?_) (fun (c51 : x30 = 0) => ?_)
            · replace h := h.1 c51
              refine qc_iconst E_X12_followsFrom 1 (by decide) dX12_followsFrom_157 ?_
              refine qc_goto E_X12_followsFrom 162 dX12_followsFrom_158 (by decide) ?_
              exact qc_zret E_X12_followsFrom rfl (qm_nb (Or.inr rfl)) dX12_followsFrom_162 (⟨_, rfl, (Or.inr rfl), rfl, h⟩)
            · replace h := h.2 c51
              refine qc_iload E_X12_followsFrom (by rfl) dX12_followsFrom_152 ?_
              refine qc_if_eq E_X12_followsFrom 161 dX12_followsFrom_154 (by decide) (fun (c52 : x49 = 0) => ?_) (fun (c52 : ¬ x49 = 0) => ?_)
              · replace h := h.1 c52
                refine qc_iconst E_X12_followsFrom 0 (by decide) dX12_followsFrom_161 ?_
                exact qc_zret E_X12_followsFrom rfl (qm_nb (Or.inl rfl)) dX12_followsFrom_162 (⟨_, rfl, (Or.inl rfl), rfl, h⟩)
              · replace h := h.2 c52
                refine qc_iconst E_X12_followsFrom 1 (by decide) dX12_followsFrom_157 ?_
                refine qc_goto E_X12_followsFrom 162 dX12_followsFrom_158 (by decide) ?_
                exact qc_zret E_X12_followsFrom rfl (qm_nb (Or.inr rfl)) dX12_followsFrom_162 (⟨_, rfl, (Or.inr rfl), rfl, h⟩))
        clear jz
        refine qc_icmp_ne E_X12_followsFrom 141 dX12_followsFrom_97 (by decide) (fun (c32 : ¬ v31 = 2) => ?_) (fun (c32 : v31 = 2) => ?_)
        · replace h := h.1 c32
          refine qc_iconst E_X12_followsFrom 0 (by decide) dX12_followsFrom_141 ?_
          refine qc_drop 0 ?_
          refine qc_drop 1 ?_
          exact h
        · replace h := h.2 c32
          refine qc_aload_n E_X12_followsFrom (by rfl) dX12_followsFrom_100 ?_
          refine re_getI E_X12_followsFrom rfl ck_X12 (by decide) 2 (by decide) q1202 dX12_followsFrom_101 h ?_
          clear h
          intro v33 h
          refine qc_iconst E_X12_followsFrom 2 (by decide) dX12_followsFrom_104 ?_
          refine qc_icmp_ne E_X12_followsFrom 119 dX12_followsFrom_105 (by decide) (fun (c34 : ¬ v33 = 2) => ?_) (fun (c34 : v33 = 2) => ?_)
          · replace h := h.1 c34
            refine qc_aload_n E_X12_followsFrom (by rfl) dX12_followsFrom_119 ?_
            refine re_getI E_X12_followsFrom rfl ck_X12 (by decide) 2 (by decide) q1202 dX12_followsFrom_120 h ?_
            clear h
            intro v35 h
            refine qc_if_ne E_X12_followsFrom 141 dX12_followsFrom_123 (by decide) (fun (c36 : ¬ v35 = 0) => ?_) (fun (c36 : v35 = 0) => ?_)
            · replace h := h.1 c36
              refine qc_iconst E_X12_followsFrom 0 (by decide) dX12_followsFrom_141 ?_
              refine qc_drop 0 ?_
              refine qc_drop 1 ?_
              exact h
            · replace h := h.2 c36
              refine qc_aload_n E_X12_followsFrom (by rfl) dX12_followsFrom_126 ?_
              refine re_getI E_X12_followsFrom rfl ck_X12 (by decide) 3 (by decide) q1204 dX12_followsFrom_127 h ?_
              clear h
              intro v37 h
              refine qc_aload_n E_X12_followsFrom (by rfl) dX12_followsFrom_130 ?_
              refine re_getI E_X12_followsFrom rfl ck_X12 (by decide) 3 (by decide) q1204 dX12_followsFrom_131 h ?_
              clear h
              intro v38 h
              refine qc_icmp_le E_X12_followsFrom 141 dX12_followsFrom_134 (by decide) (fun (c39 : v37 ≤ v38) => ?_) (fun (c39 : ¬ v37 ≤ v38) => ?_)
              · replace h := h.1 c39
                refine qc_iconst E_X12_followsFrom 0 (by decide) dX12_followsFrom_141 ?_
                refine qc_drop 0 ?_
                refine qc_drop 1 ?_
                exact h
              · replace h := h.2 c39
                refine qc_iconst E_X12_followsFrom 1 (by decide) dX12_followsFrom_137 ?_
                refine qc_goto E_X12_followsFrom 142 dX12_followsFrom_138 (by decide) ?_
                refine qc_drop 0 ?_
                refine qc_drop 1 ?_
                exact h
          · replace h := h.2 c34
            refine qc_aload_n E_X12_followsFrom (by rfl) dX12_followsFrom_108 ?_
            refine re_getI E_X12_followsFrom rfl ck_X12 (by decide) 3 (by decide) q1204 dX12_followsFrom_109 h ?_
            clear h
            intro v40 h
            refine qc_aload_n E_X12_followsFrom (by rfl) dX12_followsFrom_112 ?_
            refine re_getI E_X12_followsFrom rfl ck_X12 (by decide) 3 (by decide) q1204 dX12_followsFrom_113 h ?_
            clear h
            intro v41 h
            refine qc_icmp_ge E_X12_followsFrom 137 dX12_followsFrom_116 (by decide) (fun (c42 : v41 ≤ v40) => ?_) (fun (c42 : ¬ v41 ≤ v40) => ?_)
            · replace h := h.1 c42
              refine qc_iconst E_X12_followsFrom 1 (by decide) dX12_followsFrom_137 ?_
              refine qc_goto E_X12_followsFrom 142 dX12_followsFrom_138 (by decide) ?_
              refine qc_drop 0 ?_
              refine qc_drop 1 ?_
              exact h
            · replace h := h.2 c42
              refine qc_aload_n E_X12_followsFrom (by rfl) dX12_followsFrom_119 ?_
              refine re_getI E_X12_followsFrom rfl ck_X12 (by decide) 2 (by decide) q1202 dX12_followsFrom_120 h ?_
              clear h
              intro v43 h
              refine qc_if_ne E_X12_followsFrom 141 dX12_followsFrom_123 (by decide) (fun (c44 : ¬ v43 = 0) => ?_) (fun (c44 : v43 = 0) => ?_)
              · replace h := h.1 c44
                refine qc_iconst E_X12_followsFrom 0 (by decide) dX12_followsFrom_141 ?_
                refine qc_drop 0 ?_
                refine qc_drop 1 ?_
                exact h
              · replace h := h.2 c44
                refine qc_aload_n E_X12_followsFrom (by rfl) dX12_followsFrom_126 ?_
                refine re_getI E_X12_followsFrom rfl ck_X12 (by decide) 3 (by decide) q1204 dX12_followsFrom_127 h ?_
                clear h
                intro v45 h
                refine qc_aload_n E_X12_followsFrom (by rfl) dX12_followsFrom_130 ?_
                refine re_getI E_X12_followsFrom rfl ck_X12 (by decide) 3 (by decide) q1204 dX12_followsFrom_131 h ?_
                clear h
                intro v46 h
                refine qc_icmp_le E_X12_followsFrom 141 dX12_followsFrom_134 (by decide) (fun (c47 : v45 ≤ v46) => ?_) (fun (c47 : ¬ v45 ≤ v46) => ?_)
                · replace h := h.1 c47
                  refine qc_iconst E_X12_followsFrom 0 (by decide) dX12_followsFrom_141 ?_
                  refine qc_drop 0 ?_
                  refine qc_drop 1 ?_
                  exact h
                · replace h := h.2 c47
                  refine qc_iconst E_X12_followsFrom 1 (by decide) dX12_followsFrom_137 ?_
                  refine qc_goto E_X12_followsFrom 142 dX12_followsFrom_138 (by decide) ?_
                  refine qc_drop 0 ?_
                  refine qc_drop 1 ?_
                  exact h)
      clear jz
      refine qc_icmp_ne E_X12_followsFrom 90 dX12_followsFrom_46 (by decide) (fun (c13 : ¬ v12 = 1) => ?_) (fun (c13 : v12 = 1) => ?_)
      · replace h := h.1 c13
        refine qc_iconst E_X12_followsFrom 0 (by decide) dX12_followsFrom_90 ?_
        exact h
      · replace h := h.2 c13
        refine qc_aload_n E_X12_followsFrom (by rfl) dX12_followsFrom_49 ?_
        refine re_getI E_X12_followsFrom rfl ck_X12 (by decide) 2 (by decide) q1202 dX12_followsFrom_50 h ?_
        clear h
        intro v14 h
        refine qc_iconst E_X12_followsFrom 1 (by decide) dX12_followsFrom_53 ?_
        refine qc_icmp_ne E_X12_followsFrom 68 dX12_followsFrom_54 (by decide) (fun (c15 : ¬ v14 = 1) => ?_) (fun (c15 : v14 = 1) => ?_)
        · replace h := h.1 c15
          refine qc_aload_n E_X12_followsFrom (by rfl) dX12_followsFrom_68 ?_
          refine re_getI E_X12_followsFrom rfl ck_X12 (by decide) 2 (by decide) q1202 dX12_followsFrom_69 h ?_
          clear h
          intro v16 h
          refine qc_if_ne E_X12_followsFrom 90 dX12_followsFrom_72 (by decide) (fun (c17 : ¬ v16 = 0) => ?_) (fun (c17 : v16 = 0) => ?_)
          · replace h := h.1 c17
            refine qc_iconst E_X12_followsFrom 0 (by decide) dX12_followsFrom_90 ?_
            exact h
          · replace h := h.2 c17
            refine qc_aload_n E_X12_followsFrom (by rfl) dX12_followsFrom_75 ?_
            refine re_getI E_X12_followsFrom rfl ck_X12 (by decide) 3 (by decide) q1204 dX12_followsFrom_76 h ?_
            clear h
            intro v18 h
            refine qc_aload_n E_X12_followsFrom (by rfl) dX12_followsFrom_79 ?_
            refine re_getI E_X12_followsFrom rfl ck_X12 (by decide) 3 (by decide) q1204 dX12_followsFrom_80 h ?_
            clear h
            intro v19 h
            refine qc_icmp_ge E_X12_followsFrom 90 dX12_followsFrom_83 (by decide) (fun (c20 : v19 ≤ v18) => ?_) (fun (c20 : ¬ v19 ≤ v18) => ?_)
            · replace h := h.1 c20
              refine qc_iconst E_X12_followsFrom 0 (by decide) dX12_followsFrom_90 ?_
              exact h
            · replace h := h.2 c20
              refine qc_iconst E_X12_followsFrom 1 (by decide) dX12_followsFrom_86 ?_
              refine qc_goto E_X12_followsFrom 91 dX12_followsFrom_87 (by decide) ?_
              exact h
        · replace h := h.2 c15
          refine qc_aload_n E_X12_followsFrom (by rfl) dX12_followsFrom_57 ?_
          refine re_getI E_X12_followsFrom rfl ck_X12 (by decide) 3 (by decide) q1204 dX12_followsFrom_58 h ?_
          clear h
          intro v21 h
          refine qc_aload_n E_X12_followsFrom (by rfl) dX12_followsFrom_61 ?_
          refine re_getI E_X12_followsFrom rfl ck_X12 (by decide) 3 (by decide) q1204 dX12_followsFrom_62 h ?_
          clear h
          intro v22 h
          refine qc_icmp_le E_X12_followsFrom 86 dX12_followsFrom_65 (by decide) (fun (c23 : v21 ≤ v22) => ?_) (fun (c23 : ¬ v21 ≤ v22) => ?_)
          · replace h := h.1 c23
            refine qc_iconst E_X12_followsFrom 1 (by decide) dX12_followsFrom_86 ?_
            refine qc_goto E_X12_followsFrom 91 dX12_followsFrom_87 (by decide) ?_
            exact h
          · replace h := h.2 c23
            refine qc_aload_n E_X12_followsFrom (by rfl) dX12_followsFrom_68 ?_
            refine re_getI E_X12_followsFrom rfl ck_X12 (by decide) 2 (by decide) q1202 dX12_followsFrom_69 h ?_
            clear h
            intro v24 h
            refine qc_if_ne E_X12_followsFrom 90 dX12_followsFrom_72 (by decide) (fun (c25 : ¬ v24 = 0) => ?_) (fun (c25 : v24 = 0) => ?_)
            · replace h := h.1 c25
              refine qc_iconst E_X12_followsFrom 0 (by decide) dX12_followsFrom_90 ?_
              exact h
            · replace h := h.2 c25
              refine qc_aload_n E_X12_followsFrom (by rfl) dX12_followsFrom_75 ?_
              refine re_getI E_X12_followsFrom rfl ck_X12 (by decide) 3 (by decide) q1204 dX12_followsFrom_76 h ?_
              clear h
              intro v26 h
              refine qc_aload_n E_X12_followsFrom (by rfl) dX12_followsFrom_79 ?_
              refine re_getI E_X12_followsFrom rfl ck_X12 (by decide) 3 (by decide) q1204 dX12_followsFrom_80 h ?_
              clear h
              intro v27 h
              refine qc_icmp_ge E_X12_followsFrom 90 dX12_followsFrom_83 (by decide) (fun (c28 : v27 ≤ v26) => ?_) (fun (c28 : ¬ v27 ≤ v26) => ?_)
              · replace h := h.1 c28
                refine qc_iconst E_X12_followsFrom 0 (by decide) dX12_followsFrom_90 ?_
                exact h
              · replace h := h.2 c28
                refine qc_iconst E_X12_followsFrom 1 (by decide) dX12_followsFrom_86 ?_
                refine qc_goto E_X12_followsFrom 91 dX12_followsFrom_87 (by decide) ?_
                exact h)
    clear jz
    refine qc_icmp_ne E_X12_followsFrom 39 dX12_followsFrom_21 (by decide) (fun (c6 : ¬ v4 = v5) => ?_) (fun (c6 : v4 = v5) => ?_)
    · replace h := h.1 c6
      refine qc_iconst E_X12_followsFrom 0 (by decide) dX12_followsFrom_39 ?_
      exact h
    · replace h := h.2 c6
      refine qc_aload_n E_X12_followsFrom (by rfl) dX12_followsFrom_24 ?_
      refine re_getI E_X12_followsFrom rfl ck_X12 (by decide) 3 (by decide) q1204 dX12_followsFrom_25 h ?_
      clear h
      intro v7 h
      refine qc_aload_n E_X12_followsFrom (by rfl) dX12_followsFrom_28 ?_
      refine re_getI E_X12_followsFrom rfl ck_X12 (by decide) 3 (by decide) q1204 dX12_followsFrom_29 h ?_
      clear h
      intro v8 h
      refine qc_icmp_ne E_X12_followsFrom 39 dX12_followsFrom_32 (by decide) (fun (c9 : ¬ v7 = v8) => ?_) (fun (c9 : v7 = v8) => ?_)
      · replace h := h.1 c9
        refine qc_iconst E_X12_followsFrom 0 (by decide) dX12_followsFrom_39 ?_
        exact h
      · replace h := h.2 c9
        refine qc_iconst E_X12_followsFrom 1 (by decide) dX12_followsFrom_35 ?_
        refine qc_goto E_X12_followsFrom 40 dX12_followsFrom_36 (by decide) ?_
        exact h
  · replace h := h.2 c3
    refine qc_iconst E_X12_followsFrom 0 (by decide) dX12_followsFrom_11 ?_
    exact qc_zret E_X12_followsFrom rfl (qm_nb (Or.inl rfl)) dX12_followsFrom_12 (⟨_, rfl, (Or.inl rfl), rfl, h⟩)
def I_X1_follows : qh_I := (yX1_follows, cX1_follows, 4, (Option.some Jvm.ClassFile.FieldType.boolean), [])
theorem E_X1_follows : I_X1_follows.2.1 = cX1_follows := rfl
theorem M_X1_follows : qh_M I_X1_follows 2 := ⟨by decide, by decide, by decide +kernel, q85, q1353, by decide⟩
def T_X1_follows (g : qh_G) (a1 : Nat) (a2 : Nat) (hp : qc_H) (K : Int32 → Prop) : Prop := ∀ X1 : Int32 → Int32 → Prop, (∀ (x2 : Int32) (x3 : Int32), (eSz hp a2 (fun n4 => (n4 ≤ x3 → (x2 = 0 ∨ x2 = 1) ∧ K x2) ∧ (¬ n4 ≤ x3 → eGt hp a2 x3 (fun p7 => eC hp p7 11 (eC hp a1 11 (T_X12_followsFrom g a1 p7 hp (fun r8 => X1 (x2 ||| r8) (x3 + 1)))))))) → X1 x2 x3) → X1 0 0
set_option maxHeartbeats 8000000 in
theorem C_X1_follows {g : qh_G} {x : qc_X} {d : Nat} {sd : String → Nat → Nat} (hO : qc_O g x) (hP : qc_P g qp_ts sd) (a1 : Nat) (a2 : Nat) (hp : qc_H) (K : Int32 → Prop) (hz : T_X1_follows g a1 a2 hp K) : qc_S g x (d + 6) 0 I_X1_follows [.ref a1, .ref a2] hp (oZ (fun v t => hp = t ∧ K v)) := by
  refine qc_S.of (by decide) rfl (ls := [some (.ref a1), some (.ref a2), none, none]) rfl (Nat.le_of_ble_eq_true rfl) (ct_c rfl (ct_c rfl ct_n)) ?_
  unfold T_X1_follows at hz
  have h := hz
  clear hz
  refine qc_iconst E_X1_follows 0 (by decide) dX1_follows_0 ?_
  refine qc_istore_n E_X1_follows (by decide) dX1_follows_1 ?_
  refine qc_iconst E_X1_follows 0 (by decide) dX1_follows_2 ?_
  refine qc_istore_n E_X1_follows (by decide) dX1_follows_3 ?_
  refine h (fun (x2 : Int32) (x3 : Int32) => qc_wp g x (d + 6) 0 I_X1_follows 4 [some (.ref a1), some (.ref a2), some (.int x2), some (.int x3)] [] hp (oZ (fun v t => hp = t ∧ K v))) ?_
  clear h
  intro x2 x3 h
  refine qc_iload_n E_X1_follows (by rfl) dX1_follows_4 ?_
  refine qc_aload_n E_X1_follows (by rfl) dX1_follows_5 ?_
  refine re_size (d := d) hO E_X1_follows rfl q366 (Nat.le_of_ble_eq_true rfl) dX1_follows_6 h ?_
  clear h
  intro n4 h
  refine qc_icmp_ge E_X1_follows 33 dX1_follows_9 (by decide) (fun (c5 : n4 ≤ x3) => ?_) (fun (c5 : ¬ n4 ≤ x3) => ?_)
  · replace h := h.1 c5
    refine qc_iload_n E_X1_follows (by rfl) dX1_follows_33 ?_
    obtain ⟨o6, h⟩ := h
    exact qc_zret E_X1_follows rfl (qm_nb o6) dX1_follows_34 (⟨_, rfl, o6, rfl, h⟩)
  · replace h := h.2 c5
    refine qc_iload_n E_X1_follows (by rfl) dX1_follows_12 ?_
    refine qc_aload_n E_X1_follows (by rfl) dX1_follows_13 ?_
    refine qc_aload_n E_X1_follows (by rfl) dX1_follows_14 ?_
    refine qc_iload_n E_X1_follows (by rfl) dX1_follows_15 ?_
    refine re_get (d := d) hO E_X1_follows rfl q1013 (Nat.le_of_ble_eq_true rfl) dX1_follows_16 h ?_
    clear h
    intro p7 h
    refine re_castS (ci := 11) hO E_X1_follows rfl rfl q1192 dX1_follows_19 h ?_
    clear h
    intro h
    obtain ⟨⟨fz, hb⟩, h⟩ := h
    refine qc_callV (c := 0) (k := 0) (As := [.ref p7]) (rest := [.int x2]) hO E_X1_follows rfl M_X12_followsFrom rfl q1354 q1355 q1356 (ci := 11) rfl rfl hb rfl rfl (Nat.le_of_ble_eq_true rfl) dX1_follows_22 (qc_S.mono ?_ (C_X12_followsFrom (d := d + 5) hO hP a1 p7 hp _ h))
    clear h
    clear hb
    rintro _ _ ⟨r8, rfl, z9, rfl, h⟩
    refine K1_i ?_
    refine qc_ior E_X1_follows dX1_follows_25 ?_
    refine qc_istore_n E_X1_follows (by decide) dX1_follows_26 ?_
    refine qc_iinc E_X1_follows 1 rfl (by decide) (by decide) dX1_follows_27 ?_
    refine qc_goto E_X1_follows 4 dX1_follows_30 (by decide) ?_
    exact h
def I_X1_entryFor : qh_I := (yX1_entryFor, cX1_entryFor, 8, (Option.some (Jvm.ClassFile.FieldType.object "QueryHarbor$Entry")), [])
theorem E_X1_entryFor : I_X1_entryFor.2.1 = cX1_entryFor := rfl
theorem M_X1_entryFor : qh_M I_X1_entryFor 2 := ⟨by decide, by decide, by decide +kernel, q85, q1350, by decide⟩
def T_X1_entryFor (g : qh_G) (a0 : Nat) (a1 : Nat) (a2 : Int32) (hp : qc_H) (K : Option Nat → Prop) : Prop := ∀ X1 : Option Nat → Int32 → Prop, (∀ (x2 : Option Nat) (x3 : Int32), (eR hp a0 0 4 (fun v4 => eSz hp v4 (fun n5 => (n5 ≤ x3 → K x2) ∧ (¬ n5 ≤ x3 → eR hp a0 0 4 (fun v7 => eGt hp v7 x3 (fun p8 => eC hp p8 14 (eR hp p8 14 0 (fun v9 => eR hp a1 13 1 (fun v10 => ∀ J15 : Int32 → Prop, (∀ (x16 : Int32), (∀ X17 : Int32 → Int32 → Prop, (∀ (x18 : Int32) (x19 : Int32), (eR hp p8 14 1 (fun v20 => eSz hp v20 (fun n21 => (n21 ≤ x19 → ∀ J24 : Option Nat → Prop, (∀ (x25 : Option Nat), (X1 x25 (x3 + 1)) → J24 x25) → (x18 = 0 → J24 x2) ∧ (¬ x18 = 0 → J24 (some p8))) ∧ (¬ n21 ≤ x19 → eR hp p8 14 1 (fun v26 => eGt hp v26 x19 (fun p27 => eC hp p27 11 (eR hp a1 13 3 (fun v28 => T_X1_follows g p27 v28 hp (fun r29 => X17 (x18 &&& r29) (x19 + 1)))))))))) → X17 x18 x19) → X17 x16 0) → J15 x16) → (¬ (some v9) = (some v10) → J15 0) ∧ ((some v9) = (some v10) → eI hp a0 0 15 (fun v12 => eI hp p8 14 3 (fun v13 => (a2 < (v12 - v13) → J15 0) ∧ (¬ a2 < (v12 - v13) → J15 1))))))))))))) → X1 x2 x3) → X1 none 0
set_option maxHeartbeats 8000000 in
theorem C_X1_entryFor {g : qh_G} {x : qc_X} {d : Nat} {sd : String → Nat → Nat} (hO : qc_O g x) (hP : qc_P g qp_ts sd) (a0 : Nat) (a1 : Nat) (a2 : Int32) (hp : qc_H) (K : Option Nat → Prop) (hz : T_X1_entryFor g a0 a1 a2 hp K) : qc_S g x (d + 7) 0 I_X1_entryFor [.ref a0, .ref a1, .int a2] hp (oO (fun v t => hp = t ∧ K v)) := by
  refine qc_S.of (by decide) rfl (ls := [some (.ref a0), some (.ref a1), some (.int a2), none, none, none, none, none]) rfl (Nat.le_of_ble_eq_true rfl) (ct_c rfl (ct_c rfl (ct_c rfl ct_n))) ?_
  unfold T_X1_entryFor at hz
  have h := hz
  clear hz
  refine qc_null E_X1_entryFor dX1_entryFor_0 ?_
  refine qc_astoreN_n E_X1_entryFor (by decide) dX1_entryFor_1 ?_
  refine qc_iconst E_X1_entryFor 0 (by decide) dX1_entryFor_2 ?_
  refine qc_istore E_X1_entryFor (by decide) dX1_entryFor_3 ?_
  refine h (fun (x2 : Option Nat) (x3 : Int32) => qc_wp g x (d + 7) 0 I_X1_entryFor 5 [some (.ref a0), some (.ref a1), some (.int a2), some (va_rf x2), some (.int x3), none, none, none] [] hp (oO (fun v t => hp = t ∧ K v))) ?_
  clear h
  intro x2 x3 h
  refine qc_iload E_X1_entryFor (by rfl) dX1_entryFor_5 ?_
  refine qc_aload_n E_X1_entryFor (by rfl) dX1_entryFor_7 ?_
  refine re_getR E_X1_entryFor rfl ck_X1 (by decide) 4 (by decide) q303 dX1_entryFor_8 h ?_
  clear h
  intro v4 h
  refine re_size (d := d + 1) hO E_X1_entryFor rfl q366 (Nat.le_of_ble_eq_true rfl) dX1_entryFor_11 h ?_
  clear h
  intro n5 h
  refine qc_icmp_ge E_X1_entryFor 129 dX1_entryFor_14 (by decide) (fun (c6 : n5 ≤ x3) => ?_) (fun (c6 : ¬ n5 ≤ x3) => ?_)
  · replace h := h.1 c6
    refine re_aloadO_n E_X1_entryFor (by rfl) dX1_entryFor_129 ?_
    exact re_aretO E_X1_entryFor rfl (Or.inl ⟨_, rfl⟩) dX1_entryFor_130 (⟨_, rfl, rfl, h⟩)
  · replace h := h.2 c6
    refine qc_aload_n E_X1_entryFor (by rfl) dX1_entryFor_17 ?_
    refine re_getR E_X1_entryFor rfl ck_X1 (by decide) 4 (by decide) q303 dX1_entryFor_18 h ?_
    clear h
    intro v7 h
    refine qc_iload E_X1_entryFor (by rfl) dX1_entryFor_21 ?_
    refine re_get (d := d + 1) hO E_X1_entryFor rfl q1013 (Nat.le_of_ble_eq_true rfl) dX1_entryFor_23 h ?_
    clear h
    intro p8 h
    refine re_castS (ci := 14) hO E_X1_entryFor rfl rfl q1026 dX1_entryFor_26 h ?_
    clear h
    intro h
    refine qc_astore E_X1_entryFor (by decide) dX1_entryFor_29 ?_
    refine qc_aload E_X1_entryFor (by rfl) dX1_entryFor_31 ?_
    refine re_getR E_X1_entryFor rfl ck_X17 (by decide) 0 (by decide) q1486 dX1_entryFor_33 h ?_
    clear h
    intro v9 h
    refine qc_aload_n E_X1_entryFor (by rfl) dX1_entryFor_36 ?_
    refine re_getR E_X1_entryFor rfl ck_X14 (by decide) 1 (by decide) q1291 dX1_entryFor_37 h ?_
    clear h
    intro v10 h
    have jz := h (fun (x16 : Int32) => qc_wp g x (d + 7) 0 I_X1_entryFor 62 [some (.ref a0), some (.ref a1), some (.int a2), some (va_rf x2), some (.int x3), some (.ref p8), none, none] [.int x16] hp (oO (fun v t => hp = t ∧ K v)))
    clear h
    have h := jz (by
      intro x16 h
      refine qc_istore E_X1_entryFor (by decide) dX1_entryFor_62 ?_
      refine qc_iconst E_X1_entryFor 0 (by decide) dX1_entryFor_64 ?_
      refine qc_istore E_X1_entryFor (by decide) dX1_entryFor_65 ?_
      refine h (fun (x18 : Int32) (x19 : Int32) => qc_wp g x (d + 7) 0 I_X1_entryFor 67 [some (.ref a0), some (.ref a1), some (.int a2), some (va_rf x2), some (.int x3), some (.ref p8), some (.int x18), some (.int x19)] [] hp (oO (fun v t => hp = t ∧ K v))) ?_
      clear h
      intro x18 x19 h
      refine qc_iload E_X1_entryFor (by rfl) dX1_entryFor_67 ?_
      refine qc_aload E_X1_entryFor (by rfl) dX1_entryFor_69 ?_
      refine re_getR E_X1_entryFor rfl ck_X17 (by decide) 1 (by decide) q1488 dX1_entryFor_71 h ?_
      clear h
      intro v20 h
      refine re_size (d := d + 1) hO E_X1_entryFor rfl q366 (Nat.le_of_ble_eq_true rfl) dX1_entryFor_74 h ?_
      clear h
      intro n21 h
      refine qc_icmp_ge E_X1_entryFor 111 dX1_entryFor_77 (by decide) (fun (c22 : n21 ≤ x19) => ?_) (fun (c22 : ¬ n21 ≤ x19) => ?_)
      · replace h := h.1 c22
        refine qc_iload E_X1_entryFor (by rfl) dX1_entryFor_111 ?_
        have jz := h (fun (x25 : Option Nat) => qc_wp g x (d + 7) 0 I_X1_entryFor 122 [some (.ref a0), some (.ref a1), some (.int a2), none, some (.int x3), none, none, none] [va_rf x25] hp (oO (fun v t => hp = t ∧ K v)))
        clear h
        have h := jz (by
          intro x25 h
          refine re_astoreO_n E_X1_entryFor (by decide) dX1_entryFor_122 ?_
          refine qc_iinc E_X1_entryFor 1 rfl (by decide) (by decide) dX1_entryFor_123 ?_
          refine qc_goto E_X1_entryFor 5 dX1_entryFor_126 (by decide) ?_
          exact h)
        clear jz
        refine qc_if_eq E_X1_entryFor 121 dX1_entryFor_113 (by decide) (fun (c23 : x18 = 0) => ?_) (fun (c23 : ¬ x18 = 0) => ?_)
        · replace h := h.1 c23
          refine re_aloadO_n E_X1_entryFor (by rfl) dX1_entryFor_121 ?_
          refine qc_drop 3 ?_
          refine qc_drop 5 ?_
          refine qc_drop 6 ?_
          refine qc_drop 7 ?_
          exact h
        · replace h := h.2 c23
          refine qc_aload E_X1_entryFor (by rfl) dX1_entryFor_116 ?_
          refine qc_goto E_X1_entryFor 122 dX1_entryFor_118 (by decide) ?_
          refine qc_drop 3 ?_
          refine qc_drop 5 ?_
          refine qc_drop 6 ?_
          refine qc_drop 7 ?_
          exact h
      · replace h := h.2 c22
        refine qc_iload E_X1_entryFor (by rfl) dX1_entryFor_80 ?_
        refine qc_aload E_X1_entryFor (by rfl) dX1_entryFor_82 ?_
        refine re_getR E_X1_entryFor rfl ck_X17 (by decide) 1 (by decide) q1488 dX1_entryFor_84 h ?_
        clear h
        intro v26 h
        refine qc_iload E_X1_entryFor (by rfl) dX1_entryFor_87 ?_
        refine re_get (d := d + 1) hO E_X1_entryFor rfl q1013 (Nat.le_of_ble_eq_true rfl) dX1_entryFor_89 h ?_
        clear h
        intro p27 h
        refine re_castS (ci := 11) hO E_X1_entryFor rfl rfl q1192 dX1_entryFor_92 h ?_
        clear h
        intro h
        refine qc_aload_n E_X1_entryFor (by rfl) dX1_entryFor_95 ?_
        refine re_getR E_X1_entryFor rfl ck_X14 (by decide) 3 (by decide) q1294 dX1_entryFor_96 h ?_
        clear h
        intro v28 h
        refine qc_callS (c := 0) (k := 0) (As := [.ref p27, .ref v28]) (rest := [.int x18]) E_X1_entryFor rfl M_X1_follows rfl q1351 q1352 rfl rfl (Nat.le_of_ble_eq_true rfl) dX1_entryFor_99 (qc_S.mono ?_ (C_X1_follows (d := d) hO hP p27 v28 hp _ h))
        clear h
        rintro _ _ ⟨r29, rfl, z30, rfl, h⟩
        refine K1_i ?_
        refine qc_iand E_X1_entryFor dX1_entryFor_102 ?_
        refine qc_istore E_X1_entryFor (by decide) dX1_entryFor_103 ?_
        refine qc_iinc E_X1_entryFor 1 rfl (by decide) (by decide) dX1_entryFor_105 ?_
        refine qc_goto E_X1_entryFor 67 dX1_entryFor_108 (by decide) ?_
        exact h)
    clear jz
    refine qc_acmp_ne (rx := (some v9)) (ry := (some v10)) E_X1_entryFor 61 dX1_entryFor_40 (by decide) (fun (c11 : ¬ (some v9) = (some v10)) => ?_) (fun (c11 : (some v9) = (some v10)) => ?_)
    · replace h := h.1 c11
      refine qc_iconst E_X1_entryFor 0 (by decide) dX1_entryFor_61 ?_
      exact h
    · replace h := h.2 c11
      refine qc_aload_n E_X1_entryFor (by rfl) dX1_entryFor_43 ?_
      refine re_getI E_X1_entryFor rfl ck_X1 (by decide) 15 (by decide) q316 dX1_entryFor_44 h ?_
      clear h
      intro v12 h
      refine qc_aload E_X1_entryFor (by rfl) dX1_entryFor_47 ?_
      refine re_getI E_X1_entryFor rfl ck_X17 (by decide) 3 (by decide) q1492 dX1_entryFor_49 h ?_
      clear h
      intro v13 h
      refine qc_isub E_X1_entryFor dX1_entryFor_52 ?_
      refine qc_iload_n E_X1_entryFor (by rfl) dX1_entryFor_53 ?_
      refine qc_icmp_gt E_X1_entryFor 61 dX1_entryFor_54 (by decide) (fun (c14 : a2 < (v12 - v13)) => ?_) (fun (c14 : ¬ a2 < (v12 - v13)) => ?_)
      · replace h := h.1 c14
        refine qc_iconst E_X1_entryFor 0 (by decide) dX1_entryFor_61 ?_
        exact h
      · replace h := h.2 c14
        refine qc_iconst E_X1_entryFor 1 (by decide) dX1_entryFor_57 ?_
        refine qc_goto E_X1_entryFor 62 dX1_entryFor_58 (by decide) ?_
        exact h
def I_X11_columnOf : qh_I := (yX11_columnOf, cX11_columnOf, 2, (Option.some Jvm.ClassFile.FieldType.int), [])
theorem E_X11_columnOf : I_X11_columnOf.2.1 = cX11_columnOf := rfl
theorem M_X11_columnOf : qh_M I_X11_columnOf 1 := ⟨by decide, by decide, by decide +kernel, q119, q1366, by decide⟩
def T_X11_columnOf (g : qh_G) (a0 : Nat) (a1 : Int32) (hp : qc_H) (K : Int32 → Prop) : Prop := eI hp a0 10 0 (fun v1 => (¬ a1 = v1 → eI hp a0 10 3 (fun v3 => K v3)) ∧ (a1 = v1 → eI hp a0 10 1 (fun v4 => K v4)))
set_option maxHeartbeats 8000000 in
theorem C_X11_columnOf {g : qh_G} {x : qc_X} {d : Nat} {sd : String → Nat → Nat} (hO : qc_O g x) (hP : qc_P g qp_ts sd) (a0 : Nat) (a1 : Int32) (hp : qc_H) (K : Int32 → Prop) (hz : T_X11_columnOf g a0 a1 hp K) : qc_S g x (d + 0) 0 I_X11_columnOf [.ref a0, .int a1] hp (oI (fun v t => hp = t ∧ K v)) := by
  refine qc_S.of (by decide) rfl (ls := [some (.ref a0), some (.int a1)]) rfl (Nat.le_of_ble_eq_true rfl) (ct_c rfl (ct_c rfl ct_n)) ?_
  unfold T_X11_columnOf at hz
  have h := hz
  clear hz
  refine qc_iload_n E_X11_columnOf (by rfl) dX11_columnOf_0 ?_
  refine qc_aload_n E_X11_columnOf (by rfl) dX11_columnOf_1 ?_
  refine re_getI E_X11_columnOf rfl ck_X11 (by decide) 0 (by decide) q1169 dX11_columnOf_2 h ?_
  clear h
  intro v1 h
  refine qc_icmp_ne E_X11_columnOf 15 dX11_columnOf_5 (by decide) (fun (c2 : ¬ a1 = v1) => ?_) (fun (c2 : a1 = v1) => ?_)
  · replace h := h.1 c2
    refine qc_aload_n E_X11_columnOf (by rfl) dX11_columnOf_15 ?_
    refine re_getI E_X11_columnOf rfl ck_X11 (by decide) 3 (by decide) q1174 dX11_columnOf_16 h ?_
    clear h
    intro v3 h
    exact qc_iret E_X11_columnOf rfl dX11_columnOf_19 (⟨_, rfl, rfl, h⟩)
  · replace h := h.2 c2
    refine qc_aload_n E_X11_columnOf (by rfl) dX11_columnOf_8 ?_
    refine re_getI E_X11_columnOf rfl ck_X11 (by decide) 1 (by decide) q1171 dX11_columnOf_9 h ?_
    clear h
    intro v4 h
    refine qc_goto E_X11_columnOf 19 dX11_columnOf_12 (by decide) ?_
    exact qc_iret E_X11_columnOf rfl dX11_columnOf_19 (⟨_, rfl, rfl, h⟩)
def I_X1_keysOf : qh_I := (yX1_keysOf, cX1_keysOf, 6, (Option.some (Jvm.ClassFile.FieldType.object "java/util/ArrayList")), [])
theorem E_X1_keysOf : I_X1_keysOf.2.1 = cX1_keysOf := rfl
theorem M_X1_keysOf : qh_M I_X1_keysOf 2 := ⟨by decide, by decide, by decide +kernel, q85, q1371, by decide⟩
def T_X1_keysOf (g : qh_G) (a1 : Nat) (a2 : Int32) (hp : qc_H) (c : Nat) (K : Nat → qc_H → Prop) : Prop := eNL hp c (fun w1 h2 c3 => ∀ X4 : Int32 → qc_H → Nat → Prop, (∀ (x5 : Int32) (h6 : qc_H) (c7 : Nat), (eSz h6 a1 (fun n8 => (n8 ≤ x5 → K w1 h6) ∧ (¬ n8 ≤ x5 → eGt h6 a1 x5 (fun p10 => eC h6 p10 8 (eR h6 p10 8 1 (fun v11 => eA g.2.2.2.1 h6 v11 a2 (fun v12 => ∀ X13 : Int32 → Prop, (∀ (x14 : Int32), (eSz h6 w1 (fun n15 => ∀ J20 : Prop, ((T_X1_isNumber g v12 h6 (fun r21 => (r21 = 0 → X4 (x5 + 1) h6 c7) ∧ (¬ r21 = 0 → eSz h6 w1 (fun n24 => (x14 = n24 → eBx h6 v12 c7 (fun w28 h26 c27 => eAI g h26 w1 x14 w28 c27 (fun h29 c30 => X4 (x5 + 1) h29 c30))) ∧ (¬ x14 = n24 → eGt h6 w1 x14 (fun p31 => eC h6 p31 17 (eB h6 p31 (fun v32 => (v32 = v12 → X4 (x5 + 1) h6 c7) ∧ (¬ v32 = v12 → eBx h6 v12 c7 (fun w36 h34 c35 => eAI g h34 w1 x14 w36 c35 (fun h37 c38 => X4 (x5 + 1) h37 c38))))))))))) → J20) → (n15 ≤ x14 → J20) ∧ (¬ n15 ≤ x14 → eGt h6 w1 x14 (fun p17 => eC h6 p17 17 (eB h6 p17 (fun v18 => (v12 ≤ v18 → J20) ∧ (¬ v12 ≤ v18 → X13 (x14 + 1)))))))) → X13 x14) → X13 0))))))) → X4 x5 h6 c7) → X4 0 h2 c3)
set_option maxHeartbeats 8000000 in
theorem C_X1_keysOf {g : qh_G} {x : qc_X} {d : Nat} {sd : String → Nat → Nat} (hO : qc_O g x) (hP : qc_P g qp_ts sd) (a1 : Nat) (a2 : Int32) (hp : qc_H) (c : Nat) (K : Nat → qc_H → Prop) (hz : T_X1_keysOf g a1 a2 hp c K) : qc_S g x (d + 6) c I_X1_keysOf [.ref a1, .int a2] hp (oR K) := by
  refine qc_S.of (by decide) rfl (ls := [some (.ref a1), some (.int a2), none, none, none, none]) rfl (Nat.le_of_ble_eq_true rfl) (ct_c rfl (ct_c rfl ct_n)) ?_
  unfold T_X1_keysOf at hz
  have h := hz
  clear hz
  refine re_newL (d := d) hO E_X1_keysOf rfl q204 q206 (Nat.le_of_ble_eq_true rfl) dX1_keysOf_0 dX1_keysOf_3 dX1_keysOf_4 h ?_
  clear h
  intro w1 h2 c3 h
  refine qc_astore_n E_X1_keysOf (by decide) dX1_keysOf_7 ?_
  refine qc_iconst E_X1_keysOf 0 (by decide) dX1_keysOf_8 ?_
  refine qc_istore_n E_X1_keysOf (by decide) dX1_keysOf_9 ?_
  refine h (fun (x5 : Int32) (h6 : qc_H) (c7 : Nat) => qc_wp g x (d + 6) c7 I_X1_keysOf 10 [some (.ref a1), some (.int a2), some (.ref w1), some (.int x5), none, none] [] h6 (oR K)) ?_
  clear h
  intro x5 h6 c7 h
  refine qc_iload_n E_X1_keysOf (by rfl) dX1_keysOf_10 ?_
  refine qc_aload_n E_X1_keysOf (by rfl) dX1_keysOf_11 ?_
  refine re_size (d := d) hO E_X1_keysOf rfl q366 (Nat.le_of_ble_eq_true rfl) dX1_keysOf_12 h ?_
  clear h
  intro n8 h
  refine qc_icmp_ge E_X1_keysOf 119 dX1_keysOf_15 (by decide) (fun (c9 : n8 ≤ x5) => ?_) (fun (c9 : ¬ n8 ≤ x5) => ?_)
  · replace h := h.1 c9
    refine qc_aload_n E_X1_keysOf (by rfl) dX1_keysOf_119 ?_
    exact qc_aret E_X1_keysOf rfl (Or.inl ⟨_, rfl⟩) (Or.inr ⟨_, rfl⟩) dX1_keysOf_120 (⟨_, rfl, h⟩)
  · replace h := h.2 c9
    refine qc_aload_n E_X1_keysOf (by rfl) dX1_keysOf_18 ?_
    refine qc_iload_n E_X1_keysOf (by rfl) dX1_keysOf_19 ?_
    refine re_get (d := d) hO E_X1_keysOf rfl q1013 (Nat.le_of_ble_eq_true rfl) dX1_keysOf_20 h ?_
    clear h
    intro p10 h
    refine re_castS (ci := 8) hO E_X1_keysOf rfl rfl q633 dX1_keysOf_23 h ?_
    clear h
    intro h
    refine re_getR E_X1_keysOf rfl ck_X9 (by decide) 1 (by decide) q646 dX1_keysOf_26 h ?_
    clear h
    intro v11 h
    refine qc_iload_n E_X1_keysOf (by rfl) dX1_keysOf_29 ?_
    refine re_iald E_X1_keysOf dX1_keysOf_30 h ?_
    clear h
    intro v12 h
    refine qc_istore E_X1_keysOf (by decide) dX1_keysOf_31 ?_
    refine qc_iconst E_X1_keysOf 0 (by decide) dX1_keysOf_33 ?_
    refine qc_istore E_X1_keysOf (by decide) dX1_keysOf_34 ?_
    refine h (fun (x14 : Int32) => qc_wp g x (d + 6) c7 I_X1_keysOf 36 [some (.ref a1), some (.int a2), some (.ref w1), some (.int x5), some (.int v12), some (.int x14)] [] h6 (oR K)) ?_
    clear h
    intro x14 h
    refine qc_iload E_X1_keysOf (by rfl) dX1_keysOf_36 ?_
    refine qc_aload_n E_X1_keysOf (by rfl) dX1_keysOf_38 ?_
    refine re_size (d := d) hO E_X1_keysOf rfl q366 (Nat.le_of_ble_eq_true rfl) dX1_keysOf_39 h ?_
    clear h
    intro n15 h
    have jz := h (qc_wp g x (d + 6) c7 I_X1_keysOf 68 [some (.ref a1), some (.int a2), some (.ref w1), some (.int x5), some (.int v12), some (.int x14)] [] h6 (oR K))
    clear h
    have h := jz (by
      intro h
      refine qc_iload E_X1_keysOf (by rfl) dX1_keysOf_68 ?_
      refine qc_callS (c := c7) (k := 0) (As := [.int v12]) (rest := []) E_X1_keysOf rfl M_X1_isNumber rfl q1191 q527 rfl rfl (Nat.le_of_ble_eq_true rfl) dX1_keysOf_70 (qc_S.mono ?_ (C_X1_isNumber (d := d + 5) hO hP v12 h6 _ h))
      clear h
      rintro _ _ ⟨r21, rfl, z22, rfl, h⟩
      refine K1_i ?_
      refine qc_if_eq E_X1_keysOf 113 dX1_keysOf_73 (by decide) (fun (c23 : r21 = 0) => ?_) (fun (c23 : ¬ r21 = 0) => ?_)
      · replace h := h.1 c23
        refine qc_iinc E_X1_keysOf 1 rfl (by decide) (by decide) dX1_keysOf_113 ?_
        refine qc_goto E_X1_keysOf 10 dX1_keysOf_116 (by decide) ?_
        refine qc_drop 4 ?_
        refine qc_drop 5 ?_
        exact h
      · replace h := h.2 c23
        refine qc_iload E_X1_keysOf (by rfl) dX1_keysOf_76 ?_
        refine qc_aload_n E_X1_keysOf (by rfl) dX1_keysOf_78 ?_
        refine re_size (d := d) hO E_X1_keysOf rfl q366 (Nat.le_of_ble_eq_true rfl) dX1_keysOf_79 h ?_
        clear h
        intro n24 h
        refine qc_icmp_eq E_X1_keysOf 102 dX1_keysOf_82 (by decide) (fun (c25 : x14 = n24) => ?_) (fun (c25 : ¬ x14 = n24) => ?_)
        · replace h := h.1 c25
          refine qc_aload_n E_X1_keysOf (by rfl) dX1_keysOf_102 ?_
          refine qc_iload E_X1_keysOf (by rfl) dX1_keysOf_103 ?_
          refine qc_iload E_X1_keysOf (by rfl) dX1_keysOf_105 ?_
          refine re_box (d := d) hO E_X1_keysOf rfl q962 (Nat.le_of_ble_eq_true rfl) dX1_keysOf_107 h ?_
          clear h
          intro w28 h26 c27 h
          refine re_addI (d := d) hO E_X1_keysOf rfl q1372 (Nat.le_of_ble_eq_true rfl) dX1_keysOf_110 h ?_
          clear h
          intro h29 c30 h
          refine qc_iinc E_X1_keysOf 1 rfl (by decide) (by decide) dX1_keysOf_113 ?_
          refine qc_goto E_X1_keysOf 10 dX1_keysOf_116 (by decide) ?_
          refine qc_drop 4 ?_
          refine qc_drop 5 ?_
          exact h
        · replace h := h.2 c25
          refine qc_aload_n E_X1_keysOf (by rfl) dX1_keysOf_85 ?_
          refine qc_iload E_X1_keysOf (by rfl) dX1_keysOf_86 ?_
          refine re_get (d := d) hO E_X1_keysOf rfl q1013 (Nat.le_of_ble_eq_true rfl) dX1_keysOf_88 h ?_
          clear h
          intro p31 h
          refine re_castS (ci := 17) hO E_X1_keysOf rfl rfl q1158 dX1_keysOf_91 h ?_
          clear h
          intro h
          refine re_unbox (d := d) hO E_X1_keysOf rfl q1159 (Nat.le_of_ble_eq_true rfl) dX1_keysOf_94 h ?_
          clear h
          intro v32 h
          refine qc_iload E_X1_keysOf (by rfl) dX1_keysOf_97 ?_
          refine qc_icmp_eq E_X1_keysOf 113 dX1_keysOf_99 (by decide) (fun (c33 : v32 = v12) => ?_) (fun (c33 : ¬ v32 = v12) => ?_)
          · replace h := h.1 c33
            refine qc_iinc E_X1_keysOf 1 rfl (by decide) (by decide) dX1_keysOf_113 ?_
            refine qc_goto E_X1_keysOf 10 dX1_keysOf_116 (by decide) ?_
            refine qc_drop 4 ?_
            refine qc_drop 5 ?_
            exact h
          · replace h := h.2 c33
            refine qc_aload_n E_X1_keysOf (by rfl) dX1_keysOf_102 ?_
            refine qc_iload E_X1_keysOf (by rfl) dX1_keysOf_103 ?_
            refine qc_iload E_X1_keysOf (by rfl) dX1_keysOf_105 ?_
            refine re_box (d := d) hO E_X1_keysOf rfl q962 (Nat.le_of_ble_eq_true rfl) dX1_keysOf_107 h ?_
            clear h
            intro w36 h34 c35 h
            refine re_addI (d := d) hO E_X1_keysOf rfl q1372 (Nat.le_of_ble_eq_true rfl) dX1_keysOf_110 h ?_
            clear h
            intro h37 c38 h
            refine qc_iinc E_X1_keysOf 1 rfl (by decide) (by decide) dX1_keysOf_113 ?_
            refine qc_goto E_X1_keysOf 10 dX1_keysOf_116 (by decide) ?_
            refine qc_drop 4 ?_
            refine qc_drop 5 ?_
            exact h)
    clear jz
    refine qc_icmp_ge E_X1_keysOf 68 dX1_keysOf_42 (by decide) (fun (c16 : n15 ≤ x14) => ?_) (fun (c16 : ¬ n15 ≤ x14) => ?_)
    · replace h := h.1 c16
      exact h
    · replace h := h.2 c16
      refine qc_aload_n E_X1_keysOf (by rfl) dX1_keysOf_45 ?_
      refine qc_iload E_X1_keysOf (by rfl) dX1_keysOf_46 ?_
      refine re_get (d := d) hO E_X1_keysOf rfl q1013 (Nat.le_of_ble_eq_true rfl) dX1_keysOf_48 h ?_
      clear h
      intro p17 h
      refine re_castS (ci := 17) hO E_X1_keysOf rfl rfl q1158 dX1_keysOf_51 h ?_
      clear h
      intro h
      refine re_unbox (d := d) hO E_X1_keysOf rfl q1159 (Nat.le_of_ble_eq_true rfl) dX1_keysOf_54 h ?_
      clear h
      intro v18 h
      refine qc_iload E_X1_keysOf (by rfl) dX1_keysOf_57 ?_
      refine qc_icmp_ge E_X1_keysOf 68 dX1_keysOf_59 (by decide) (fun (c19 : v12 ≤ v18) => ?_) (fun (c19 : ¬ v12 ≤ v18) => ?_)
      · replace h := h.1 c19
        exact h
      · replace h := h.2 c19
        refine qc_iinc E_X1_keysOf 1 rfl (by decide) (by decide) dX1_keysOf_62 ?_
        refine qc_goto E_X1_keysOf 36 dX1_keysOf_65 (by decide) ?_
        exact h
def I_X3_fee : qh_I := (yX3_fee, cX3_fee, 1, (Option.some Jvm.ClassFile.FieldType.int), [])
theorem E_X3_fee : I_X3_fee.2.1 = cX3_fee := rfl
theorem M_X3_fee : qh_M I_X3_fee 0 := ⟨by decide, by decide, by decide +kernel, q87, q1395, by decide⟩
def T_X3_fee (g : qh_G) (a0 : Nat) (hp : qc_H) (K : Int32 → Prop) : Prop := K 5
set_option maxHeartbeats 8000000 in
theorem C_X3_fee {g : qh_G} {x : qc_X} {d : Nat} {sd : String → Nat → Nat} (hO : qc_O g x) (hP : qc_P g qp_ts sd) (a0 : Nat) (hp : qc_H) (K : Int32 → Prop) (hz : T_X3_fee g a0 hp K) : qc_S g x (d + 0) 0 I_X3_fee [.ref a0] hp (oI (fun v t => hp = t ∧ K v)) := by
  refine qc_S.of (by decide) rfl (ls := [some (.ref a0)]) rfl (Nat.le_of_ble_eq_true rfl) (ct_c rfl ct_n) ?_
  unfold T_X3_fee at hz
  have h := hz
  clear hz
  refine qc_iconst E_X3_fee 5 (by decide) dX3_fee_0 ?_
  exact qc_iret E_X3_fee rfl dX3_fee_1 (⟨_, rfl, rfl, h⟩)
def I_X4_fee : qh_I := (yX4_fee, cX4_fee, 1, (Option.some Jvm.ClassFile.FieldType.int), [])
theorem E_X4_fee : I_X4_fee.2.1 = cX4_fee := rfl
theorem M_X4_fee : qh_M I_X4_fee 0 := ⟨by decide, by decide, by decide +kernel, q88, q1390, by decide⟩
def T_X4_fee (g : qh_G) (a0 : Nat) (hp : qc_H) (K : Int32 → Prop) : Prop := K 1
set_option maxHeartbeats 8000000 in
theorem C_X4_fee {g : qh_G} {x : qc_X} {d : Nat} {sd : String → Nat → Nat} (hO : qc_O g x) (hP : qc_P g qp_ts sd) (a0 : Nat) (hp : qc_H) (K : Int32 → Prop) (hz : T_X4_fee g a0 hp K) : qc_S g x (d + 0) 0 I_X4_fee [.ref a0] hp (oI (fun v t => hp = t ∧ K v)) := by
  refine qc_S.of (by decide) rfl (ls := [some (.ref a0)]) rfl (Nat.le_of_ble_eq_true rfl) (ct_c rfl ct_n) ?_
  unfold T_X4_fee at hz
  have h := hz
  clear hz
  refine qc_iconst E_X4_fee 1 (by decide) dX4_fee_0 ?_
  exact qc_iret E_X4_fee rfl dX4_fee_1 (⟨_, rfl, rfl, h⟩)
def I_X5_fee : qh_I := (yX5_fee, cX5_fee, 1, (Option.some Jvm.ClassFile.FieldType.int), [])
theorem E_X5_fee : I_X5_fee.2.1 = cX5_fee := rfl
theorem M_X5_fee : qh_M I_X5_fee 0 := ⟨by decide, by decide, by decide +kernel, q89, q1385, by decide⟩
def T_X5_fee (g : qh_G) (a0 : Nat) (hp : qc_H) (K : Int32 → Prop) : Prop := K 3
set_option maxHeartbeats 8000000 in
theorem C_X5_fee {g : qh_G} {x : qc_X} {d : Nat} {sd : String → Nat → Nat} (hO : qc_O g x) (hP : qc_P g qp_ts sd) (a0 : Nat) (hp : qc_H) (K : Int32 → Prop) (hz : T_X5_fee g a0 hp K) : qc_S g x (d + 0) 0 I_X5_fee [.ref a0] hp (oI (fun v t => hp = t ∧ K v)) := by
  refine qc_S.of (by decide) rfl (ls := [some (.ref a0)]) rfl (Nat.le_of_ble_eq_true rfl) (ct_c rfl ct_n) ?_
  unfold T_X5_fee at hz
  have h := hz
  clear hz
  refine qc_iconst E_X5_fee 3 (by decide) dX5_fee_0 ?_
  exact qc_iret E_X5_fee rfl dX5_fee_1 (⟨_, rfl, rfl, h⟩)
def U_fee (g : qh_G) (h : qc_H) (b : Nat) (K : Int32 → Prop) : Prop := eC h b 2 (T_X3_fee g b h K) ∨ eC h b 3 (T_X4_fee g b h K) ∨ eC h b 4 (T_X5_fee g b h K)
theorem V_fee {g : qh_G} {x : qc_X} {d c : Nat} {sd : String → Nat → Nat} {I : qh_I} {cc : ByteArray} {pc : Nat} {ls : List (Option Value)} {rest : List Value} {h : qc_H} {Q : qh_R → qc_H → Prop} {own : String} {index count b : Nat} {K : Int32 → Prop} (hO : qc_O g x) (hP : qc_P g qp_ts sd) (e : I.2.1 = cc) (ho : I.1.cls = own) (q1 : Cond.methodLink own index (⟨"QueryHarbor$Store", "fee", "()I"⟩ : MethodName) ∈ lw_all) (_ : True = True) (hw : (rest.map fun v => v.category).sum ≤ 8) (hd : decode cc pc = .ok (.invokeinterface index count, 5)) (hh : U_fee g h b K) (kk : ∀ v, K v → qc_wp g x (d + 1) c I (pc + 5) ls (.int v :: rest) h Q) : qc_wp g x (d + 1) c I pc ls (.ref b :: rest) h Q := by
  rcases hh with ⟨⟨fz, hb⟩, h⟩ | ⟨⟨fz, hb⟩, h⟩ | ⟨⟨fz, hb⟩, h⟩
  · refine qc_callF (c := c) (k := 0) (As := []) (rest := rest) hO e ho M_X3_fee rfl ⟨by decide, by decide, by decide +kernel⟩ q1 q1391 q1393 (qp_F hP q1380 q1379 q1394 q1392 q537) (ci := 2) rfl hb rfl rfl hw hd (qc_S.mono ?_ (C_X3_fee (d := d) hO hP b _ _ h))
    clear h
    rintro _ _ ⟨v, rfl, rfl, h⟩
    exact kk v h
  · refine qc_callF (c := c) (k := 0) (As := []) (rest := rest) hO e ho M_X4_fee rfl ⟨by decide, by decide, by decide +kernel⟩ q1 q1386 q1388 (qp_F hP q1380 q1379 q1389 q1387 q529) (ci := 3) rfl hb rfl rfl hw hd (qc_S.mono ?_ (C_X4_fee (d := d) hO hP b _ _ h))
    clear h
    rintro _ _ ⟨v, rfl, rfl, h⟩
    exact kk v h
  · refine qc_callF (c := c) (k := 0) (As := []) (rest := rest) hO e ho M_X5_fee rfl ⟨by decide, by decide, by decide +kernel⟩ q1 q1381 q1383 (qp_F hP q1380 q1379 q1384 q1382 q514) (ci := 4) rfl hb rfl rfl hw hd (qc_S.mono ?_ (C_X5_fee (d := d) hO hP b _ _ h))
    clear h
    rintro _ _ ⟨v, rfl, rfl, h⟩
    exact kk v h
def I_X19_freight : qh_I := (yX19_freight, cX19_freight, 1, (Option.some Jvm.ClassFile.FieldType.int), [])
theorem E_X19_freight : I_X19_freight.2.1 = cX19_freight := rfl
theorem M_X19_freight : qh_M I_X19_freight 0 := ⟨by decide, by decide, by decide +kernel, q2332, q1408, by decide⟩
def T_X19_freight (g : qh_G) (a0 : Nat) (hp : qc_H) (K : Int32 → Prop) : Prop := K 1
set_option maxHeartbeats 8000000 in
theorem C_X19_freight {g : qh_G} {x : qc_X} {d : Nat} {sd : String → Nat → Nat} (hO : qc_O g x) (hP : qc_P g qp_ts sd) (a0 : Nat) (hp : qc_H) (K : Int32 → Prop) (hz : T_X19_freight g a0 hp K) : qc_S g x (d + 0) 0 I_X19_freight [.ref a0] hp (oI (fun v t => hp = t ∧ K v)) := by
  refine qc_S.of (by decide) rfl (ls := [some (.ref a0)]) rfl (Nat.le_of_ble_eq_true rfl) (ct_c rfl ct_n) ?_
  unfold T_X19_freight at hz
  have h := hz
  clear hz
  refine qc_iconst E_X19_freight 1 (by decide) dX19_freight_0 ?_
  exact qc_iret E_X19_freight rfl dX19_freight_1 (⟨_, rfl, rfl, h⟩)
def I_X5_freight : qh_I := (yX5_freight, cX5_freight, 1, (Option.some Jvm.ClassFile.FieldType.int), [])
theorem E_X5_freight : I_X5_freight.2.1 = cX5_freight := rfl
theorem M_X5_freight : qh_M I_X5_freight 0 := ⟨by decide, by decide, by decide +kernel, q89, q1404, by decide⟩
def T_X5_freight (g : qh_G) (a0 : Nat) (hp : qc_H) (K : Int32 → Prop) : Prop := K 2
set_option maxHeartbeats 8000000 in
theorem C_X5_freight {g : qh_G} {x : qc_X} {d : Nat} {sd : String → Nat → Nat} (hO : qc_O g x) (hP : qc_P g qp_ts sd) (a0 : Nat) (hp : qc_H) (K : Int32 → Prop) (hz : T_X5_freight g a0 hp K) : qc_S g x (d + 0) 0 I_X5_freight [.ref a0] hp (oI (fun v t => hp = t ∧ K v)) := by
  refine qc_S.of (by decide) rfl (ls := [some (.ref a0)]) rfl (Nat.le_of_ble_eq_true rfl) (ct_c rfl ct_n) ?_
  unfold T_X5_freight at hz
  have h := hz
  clear hz
  refine qc_iconst E_X5_freight 2 (by decide) dX5_freight_0 ?_
  exact qc_iret E_X5_freight rfl dX5_freight_1 (⟨_, rfl, rfl, h⟩)
def U_freight (g : qh_G) (h : qc_H) (b : Nat) (K : Int32 → Prop) : Prop := eC h b 2 (T_X19_freight g b h K) ∨ eC h b 3 (T_X19_freight g b h K) ∨ eC h b 4 (T_X5_freight g b h K)
theorem V_freight {g : qh_G} {x : qc_X} {d c : Nat} {sd : String → Nat → Nat} {I : qh_I} {cc : ByteArray} {pc : Nat} {ls : List (Option Value)} {rest : List Value} {h : qc_H} {Q : qh_R → qc_H → Prop} {own : String} {index count b : Nat} {K : Int32 → Prop} (hO : qc_O g x) (hP : qc_P g qp_ts sd) (e : I.2.1 = cc) (ho : I.1.cls = own) (q1 : Cond.methodLink own index (⟨"QueryHarbor$Store", "freight", "()I"⟩ : MethodName) ∈ lw_all) (_ : True = True) (hw : (rest.map fun v => v.category).sum ≤ 8) (hd : decode cc pc = .ok (.invokeinterface index count, 5)) (hh : U_freight g h b K) (kk : ∀ v, K v → qc_wp g x (d + 1) c I (pc + 5) ls (.int v :: rest) h Q) : qc_wp g x (d + 1) c I pc ls (.ref b :: rest) h Q := by
  rcases hh with ⟨⟨fz, hb⟩, h⟩ | ⟨⟨fz, hb⟩, h⟩ | ⟨⟨fz, hb⟩, h⟩
  · refine qc_callFD (c := c) (k := 0) (As := []) (rest := rest) hO e ho M_X19_freight rfl ⟨by decide, by decide, by decide +kernel⟩ q1 q1406 (qp_D hP (by decide) q1399 q1398 q1407 q537) (ci := 2) rfl hb rfl rfl hw hd (qc_S.mono ?_ (C_X19_freight (d := d) hO hP b _ _ h))
    clear h
    rintro _ _ ⟨v, rfl, rfl, h⟩
    exact kk v h
  · refine qc_callFD (c := c) (k := 0) (As := []) (rest := rest) hO e ho M_X19_freight rfl ⟨by decide, by decide, by decide +kernel⟩ q1 q1406 (qp_D hP (by decide) q1399 q1398 q1407 q529) (ci := 3) rfl hb rfl rfl hw hd (qc_S.mono ?_ (C_X19_freight (d := d) hO hP b _ _ h))
    clear h
    rintro _ _ ⟨v, rfl, rfl, h⟩
    exact kk v h
  · refine qc_callF (c := c) (k := 0) (As := []) (rest := rest) hO e ho M_X5_freight rfl ⟨by decide, by decide, by decide +kernel⟩ q1 q1400 q1402 (qp_F hP q1399 q1398 q1403 q1401 q514) (ci := 4) rfl hb rfl rfl hw hd (qc_S.mono ?_ (C_X5_freight (d := d) hO hP b _ _ h))
    clear h
    rintro _ _ ⟨v, rfl, rfl, h⟩
    exact kk v h
def I_X14_scanCost : qh_I := (yX14_scanCost, cX14_scanCost, 1, (Option.some Jvm.ClassFile.FieldType.int), [])
theorem E_X14_scanCost : I_X14_scanCost.2.1 = cX14_scanCost := rfl
theorem M_X14_scanCost : qh_M I_X14_scanCost 0 := ⟨by decide, by decide, by decide +kernel, q122, q1376, by decide⟩
def T_X14_scanCost (g : qh_G) (a0 : Nat) (hp : qc_H) (K : Int32 → Prop) : Prop := eR hp a0 13 1 (fun v1 => eR hp v1 6 1 (fun v2 => eR hp v2 1 0 (fun v3 => U_fee g hp v3 (fun r4 => eR hp a0 13 1 (fun v5 => eR hp v5 6 1 (fun v6 => eR hp v6 1 0 (fun v7 => U_freight g hp v7 (fun r8 => eC hp a0 13 (T_X14_guess g a0 hp (fun r9 => K (r4 + (r8 * r9))))))))))))
set_option maxHeartbeats 8000000 in
theorem C_X14_scanCost {g : qh_G} {x : qc_X} {d : Nat} {sd : String → Nat → Nat} (hO : qc_O g x) (hP : qc_P g qp_ts sd) (a0 : Nat) (hp : qc_H) (K : Int32 → Prop) (hz : T_X14_scanCost g a0 hp K) : qc_S g x (d + 7) 0 I_X14_scanCost [.ref a0] hp (oI (fun v t => hp = t ∧ K v)) := by
  refine qc_S.of (by decide) rfl (ls := [some (.ref a0)]) rfl (Nat.le_of_ble_eq_true rfl) (ct_c rfl ct_n) ?_
  unfold T_X14_scanCost at hz
  have h := hz
  clear hz
  refine qc_aload_n E_X14_scanCost (by rfl) dX14_scanCost_0 ?_
  refine re_getR E_X14_scanCost rfl ck_X14 (by decide) 1 (by decide) q1290 dX14_scanCost_1 h ?_
  clear h
  intro v1 h
  refine re_getR E_X14_scanCost rfl ck_X7 (by decide) 1 (by decide) q274 dX14_scanCost_4 h ?_
  clear h
  intro v2 h
  refine re_getR E_X14_scanCost rfl ck_X2 (by decide) 0 (by decide) q150 dX14_scanCost_7 h ?_
  clear h
  intro v3 h
  refine V_fee (d := d + 6) (rest := []) hO hP E_X14_scanCost rfl q1378 rfl (Nat.le_of_ble_eq_true rfl) dX14_scanCost_10 h ?_
  clear h
  intro r4 h
  refine qc_aload_n E_X14_scanCost (by rfl) dX14_scanCost_15 ?_
  refine re_getR E_X14_scanCost rfl ck_X14 (by decide) 1 (by decide) q1290 dX14_scanCost_16 h ?_
  clear h
  intro v5 h
  refine re_getR E_X14_scanCost rfl ck_X7 (by decide) 1 (by decide) q274 dX14_scanCost_19 h ?_
  clear h
  intro v6 h
  refine re_getR E_X14_scanCost rfl ck_X2 (by decide) 0 (by decide) q150 dX14_scanCost_22 h ?_
  clear h
  intro v7 h
  refine V_freight (d := d + 6) (rest := [.int r4]) hO hP E_X14_scanCost rfl q1397 rfl (Nat.le_of_ble_eq_true rfl) dX14_scanCost_25 h ?_
  clear h
  intro r8 h
  refine qc_aload_n E_X14_scanCost (by rfl) dX14_scanCost_30 ?_
  obtain ⟨⟨fz, hb⟩, h⟩ := h
  refine qc_callV (c := 0) (k := 0) (As := []) (rest := [.int r8, .int r4]) hO E_X14_scanCost rfl M_X14_guess rfl q1410 q1339 q1340 (ci := 13) rfl rfl hb rfl rfl (Nat.le_of_ble_eq_true rfl) dX14_scanCost_31 (qc_S.mono ?_ (C_X14_guess (d := d) hO hP a0 hp _ h))
  clear h
  clear hb
  rintro _ _ ⟨r9, rfl, rfl, h⟩
  refine K1_i ?_
  refine qc_imul E_X14_scanCost dX14_scanCost_34 ?_
  refine qc_iadd E_X14_scanCost dX14_scanCost_35 ?_
  exact qc_iret E_X14_scanCost rfl dX14_scanCost_36 (⟨_, rfl, rfl, h⟩)
def I_X1_attempt : qh_I := (yX1_attempt, cX1_attempt, 6, (Option.none : Option Jvm.ClassFile.FieldType), [])
theorem E_X1_attempt : I_X1_attempt.2.1 = cX1_attempt := rfl
theorem M_X1_attempt : qh_M I_X1_attempt 4 := ⟨by decide, by decide, by decide +kernel, q85, q1428, by decide⟩
theorem thr_X1_attempt_179 {g : qh_G} {x : qc_X} {d c : Nat} {ls : List (Option Value)} {h : qc_H} {Q : qh_R → qc_H → Prop} {sd : String → Nat → Nat} (hO : qc_O g x) (hP : qc_P g qp_ts sd) (hq : Q (.inr "QueryHarbor$Failed") h) : qc_wp g x (d + 4) (c + 7) I_X1_attempt 179 ls [] h Q := fun τ hR => qh_throwF (d := d + 4) (c := c + 1) (own := RX1) (text := "failed") (sa := sd "QueryHarbor" 332) E_X1_attempt rfl hP.1 q1424 q1449 q124 q1458 q1459 q1460 (hP.2.2.2.2.2 ("QueryHarbor", 332, "failed") (by decide)) hP.2.2.2.1 hP.2.2.2.2.1 dX1_attempt_179 dX1_attempt_182 dX1_attempt_183 dX1_attempt_186 dX1_attempt_189 (by decide) ⟨h, hR, hq⟩
theorem thr_X1_attempt_68 {g : qh_G} {x : qc_X} {d c : Nat} {ls : List (Option Value)} {h : qc_H} {Q : qh_R → qc_H → Prop} {sd : String → Nat → Nat} (hO : qc_O g x) (hP : qc_P g qp_ts sd) (hq : Q (.inr "QueryHarbor$NoAnswer") h) : qc_wp g x (d + 4) (c + 7) I_X1_attempt 68 ls [] h Q := fun τ hR => qh_throwA (d := d + 4) (c := c + 1) (own := RX1) (text := "deadline") (sa := sd "QueryHarbor" 316) (n1 := 1) (r := none) E_X1_attempt rfl hP.1 q1362 q1429 q123 q1438 q1439 q1440 (hP.2.2.2.2.2 ("QueryHarbor", 316, "deadline") (by decide)) hP.2.2.2.1 hP.2.2.2.2.1 dX1_attempt_68 dX1_attempt_71 dX1_attempt_72 (Or.inl ⟨dX1_attempt_75, rfl, rfl⟩) dX1_attempt_76 dX1_attempt_79 (by decide) ⟨h, hR, hq⟩
def T_X1_attempt (g : qh_G) (a0 : Nat) (a1 : Nat) (a2 : Int32) (a3 : Int32) (a4 : Nat) (hp : qc_H) (c : Nat) (K : qc_H → Prop) (KX : String → qc_H → Prop) : Prop := eI hp a1 1 8 (fun v1 => eI hp a0 0 15 (fun v2 => ∀ J7 : Int32 → Prop, (∀ (x8 : Int32), (∀ J12 : qc_H → Prop, (∀ (h13 : qc_H), ((a3 = ((-1)) → eI h13 a1 1 8 (fun v15 => eI h13 a0 0 15 (fun v16 => ∀ J19 : Int32 → Prop, (∀ (x20 : Int32), (eP h13 a1 1 9 (.int x20) (fun h21 => eI h21 a0 0 15 (fun v22 => eP h21 a1 1 8 (.int (v22 / 10)) (fun h23 => eI h23 a4 5 5 (fun v24 => eP h23 a4 5 5 (.int (v24 + 1)) (fun h25 => eI h25 a4 5 4 (fun v26 => eR h25 a1 1 0 (fun v27 => U_fee g h25 v27 (fun r28 => eP h25 a4 5 4 (.int (v26 + r28)) (fun h29 => eI h29 a0 0 15 (fun v30 => eI h29 a1 1 1 (fun v31 => eC h29 a0 0 (T_X1_goTo g a0 (v30 + v31) h29 (fun h32 => eI h32 a1 1 6 (fun v33 => (v33 ≤ 0 → K h32) ∧ (¬ v33 ≤ 0 → eI h32 a1 1 6 (fun v35 => eP h32 a1 1 6 (.int (v35 - 1)) (fun h36 => eTh c (KX "QueryHarbor$Failed" h36))))))))))))))))))) → J19 x20) → (¬ v15 = (v16 / 10) → J19 1) ∧ (v15 = (v16 / 10) → eI h13 a1 1 9 (fun v18 => J19 (v18 + 1)))))) ∧ (¬ a3 = ((-1)) → eI h13 a0 0 15 (fun v37 => ((v37 - a2) ≤ a3 → eI h13 a1 1 8 (fun v39 => eI h13 a0 0 15 (fun v40 => ∀ J43 : Int32 → Prop, (∀ (x44 : Int32), (eP h13 a1 1 9 (.int x44) (fun h45 => eI h45 a0 0 15 (fun v46 => eP h45 a1 1 8 (.int (v46 / 10)) (fun h47 => eI h47 a4 5 5 (fun v48 => eP h47 a4 5 5 (.int (v48 + 1)) (fun h49 => eI h49 a4 5 4 (fun v50 => eR h49 a1 1 0 (fun v51 => U_fee g h49 v51 (fun r52 => eP h49 a4 5 4 (.int (v50 + r52)) (fun h53 => eI h53 a0 0 15 (fun v54 => eI h53 a1 1 1 (fun v55 => eC h53 a0 0 (T_X1_goTo g a0 (v54 + v55) h53 (fun h56 => eI h56 a1 1 6 (fun v57 => (v57 ≤ 0 → K h56) ∧ (¬ v57 ≤ 0 → eI h56 a1 1 6 (fun v59 => eP h56 a1 1 6 (.int (v59 - 1)) (fun h60 => eTh c (KX "QueryHarbor$Failed" h60))))))))))))))))))) → J43 x44) → (¬ v39 = (v40 / 10) → J43 1) ∧ (v39 = (v40 / 10) → eI h13 a1 1 9 (fun v42 => J43 (v42 + 1)))))) ∧ (¬ (v37 - a2) ≤ a3 → eTh c (KX "QueryHarbor$NoAnswer" h13))))) → J12 h13) → (x8 = 0 → J12 hp) ∧ (¬ x8 = 0 → eI hp a0 0 15 (fun v10 => eC hp a0 0 (T_X1_goTo g a0 (((v10 / 10) + 1) * 10) hp (fun h11 => J12 h11))))) → J7 x8) → (¬ v1 = (v2 / 10) → J7 0) ∧ (v1 = (v2 / 10) → eI hp a1 1 9 (fun v4 => eI hp a1 1 3 (fun v5 => (v4 < v5 → J7 0) ∧ (¬ v4 < v5 → J7 1))))))
set_option maxHeartbeats 8000000 in
theorem C_X1_attempt {g : qh_G} {x : qc_X} {d : Nat} {sd : String → Nat → Nat} (hO : qc_O g x) (hP : qc_P g qp_ts sd) (a0 : Nat) (a1 : Nat) (a2 : Int32) (a3 : Int32) (a4 : Nat) (hp : qc_H) (c : Nat) (K : qc_H → Prop) (KX : String → qc_H → Prop) (hz : T_X1_attempt g a0 a1 a2 a3 a4 hp c K KX) : qc_S g x (d + 8) c I_X1_attempt [.ref a0, .ref a1, .int a2, .int a3, .ref a4] hp (oX (oV K) KX) := by
  refine qc_S.of (by decide) rfl (ls := [some (.ref a0), some (.ref a1), some (.int a2), some (.int a3), some (.ref a4), none]) rfl (Nat.le_of_ble_eq_true rfl) (ct_c rfl (ct_c rfl (ct_c rfl (ct_c rfl (ct_c rfl ct_n))))) ?_
  unfold T_X1_attempt at hz
  have h := hz
  clear hz
  refine qc_aload_n E_X1_attempt (by rfl) dX1_attempt_0 ?_
  refine re_getI E_X1_attempt rfl ck_X2 (by decide) 8 (by decide) q163 dX1_attempt_1 h ?_
  clear h
  intro v1 h
  refine qc_aload_n E_X1_attempt (by rfl) dX1_attempt_4 ?_
  refine re_getI E_X1_attempt rfl ck_X1 (by decide) 15 (by decide) q316 dX1_attempt_5 h ?_
  clear h
  intro v2 h
  refine qc_bipush E_X1_attempt 10 (by decide) dX1_attempt_8 ?_
  refine qc_idiv E_X1_attempt (by decide) dX1_attempt_10 ?_
  have jz := h (fun (x8 : Int32) => qc_wp g x (d + 8) c I_X1_attempt 30 [some (.ref a0), some (.ref a1), some (.int a2), some (.int a3), some (.ref a4), none] [.int x8] hp (oX (oV K) KX))
  clear h
  have h := jz (by
    intro x8 h
    refine qc_istore E_X1_attempt (by decide) dX1_attempt_30 ?_
    refine qc_iload E_X1_attempt (by rfl) dX1_attempt_32 ?_
    have jz := h (fun (h13 : qc_H) => qc_wp g x (d + 8) c I_X1_attempt 53 [some (.ref a0), some (.ref a1), some (.int a2), some (.int a3), some (.ref a4), none] [] h13 (oX (oV K) KX))
    clear h
    have h := jz (by
      intro h13 h
      refine qc_iload_n E_X1_attempt (by rfl) dX1_attempt_53 ?_
      refine qc_iconst E_X1_attempt (-1) (by decide) dX1_attempt_54 ?_
      refine qc_icmp_eq E_X1_attempt 80 dX1_attempt_55 (by decide) (fun (c14 : a3 = ((-1))) => ?_) (fun (c14 : ¬ a3 = ((-1))) => ?_)
      · replace h := h.1 c14
        refine qc_aload_n E_X1_attempt (by rfl) dX1_attempt_80 ?_
        refine qc_aload_n E_X1_attempt (by rfl) dX1_attempt_81 ?_
        refine re_getI E_X1_attempt rfl ck_X2 (by decide) 8 (by decide) q163 dX1_attempt_82 h ?_
        clear h
        intro v15 h
        refine qc_aload_n E_X1_attempt (by rfl) dX1_attempt_85 ?_
        refine re_getI E_X1_attempt rfl ck_X1 (by decide) 15 (by decide) q316 dX1_attempt_86 h ?_
        clear h
        intro v16 h
        refine qc_bipush E_X1_attempt 10 (by decide) dX1_attempt_89 ?_
        refine qc_idiv E_X1_attempt (by decide) dX1_attempt_91 ?_
        have jz := h (fun (x20 : Int32) => qc_wp g x (d + 8) c I_X1_attempt 105 [some (.ref a0), some (.ref a1), none, none, some (.ref a4), none] [.int x20, .ref a1] h13 (oX (oV K) KX))
        clear h
        have h := jz (by
          intro x20 h
          refine re_put E_X1_attempt rfl ck_X2 (by decide) 9 (by decide) q164 rfl rfl rfl dX1_attempt_105 h ?_
          clear h
          intro h21 h
          refine qc_aload_n E_X1_attempt (by rfl) dX1_attempt_108 ?_
          refine qc_aload_n E_X1_attempt (by rfl) dX1_attempt_109 ?_
          refine re_getI E_X1_attempt rfl ck_X1 (by decide) 15 (by decide) q316 dX1_attempt_110 h ?_
          clear h
          intro v22 h
          refine qc_bipush E_X1_attempt 10 (by decide) dX1_attempt_113 ?_
          refine qc_idiv E_X1_attempt (by decide) dX1_attempt_115 ?_
          refine re_put E_X1_attempt rfl ck_X2 (by decide) 8 (by decide) q163 rfl rfl rfl dX1_attempt_116 h ?_
          clear h
          intro h23 h
          refine qc_aload E_X1_attempt (by rfl) dX1_attempt_119 ?_
          refine qc_dup E_X1_attempt rfl dX1_attempt_121 ?_
          refine re_getI E_X1_attempt rfl ck_X6 (by decide) 5 (by decide) q247 dX1_attempt_122 h ?_
          clear h
          intro v24 h
          refine qc_iconst E_X1_attempt 1 (by decide) dX1_attempt_125 ?_
          refine qc_iadd E_X1_attempt dX1_attempt_126 ?_
          refine re_put E_X1_attempt rfl ck_X6 (by decide) 5 (by decide) q247 rfl rfl rfl dX1_attempt_127 h ?_
          clear h
          intro h25 h
          refine qc_aload E_X1_attempt (by rfl) dX1_attempt_130 ?_
          refine qc_dup E_X1_attempt rfl dX1_attempt_132 ?_
          refine re_getI E_X1_attempt rfl ck_X6 (by decide) 4 (by decide) q246 dX1_attempt_133 h ?_
          clear h
          intro v26 h
          refine qc_aload_n E_X1_attempt (by rfl) dX1_attempt_136 ?_
          refine re_getR E_X1_attempt rfl ck_X2 (by decide) 0 (by decide) q151 dX1_attempt_137 h ?_
          clear h
          intro v27 h
          refine V_fee (d := d + 7) (rest := [.int v26, .ref a4]) hO hP E_X1_attempt rfl q1412 rfl (Nat.le_of_ble_eq_true rfl) dX1_attempt_140 h ?_
          clear h
          intro r28 h
          refine qc_iadd E_X1_attempt dX1_attempt_145 ?_
          refine re_put E_X1_attempt rfl ck_X6 (by decide) 4 (by decide) q246 rfl rfl rfl dX1_attempt_146 h ?_
          clear h
          intro h29 h
          refine qc_aload_n E_X1_attempt (by rfl) dX1_attempt_149 ?_
          refine qc_aload_n E_X1_attempt (by rfl) dX1_attempt_150 ?_
          refine re_getI E_X1_attempt rfl ck_X1 (by decide) 15 (by decide) q316 dX1_attempt_151 h ?_
          clear h
          intro v30 h
          refine qc_aload_n E_X1_attempt (by rfl) dX1_attempt_154 ?_
          refine re_getI E_X1_attempt rfl ck_X2 (by decide) 1 (by decide) q153 dX1_attempt_155 h ?_
          clear h
          intro v31 h
          refine qc_iadd E_X1_attempt dX1_attempt_158 ?_
          obtain ⟨⟨fz, hb⟩, h⟩ := h
          refine qc_callV (c := c) (k := 0) (As := [.int (v30 + v31)]) (rest := []) hO E_X1_attempt rfl M_X1_goTo rfl q1009 q1011 qs8 (ci := 0) rfl rfl hb rfl rfl (Nat.le_of_ble_eq_true rfl) dX1_attempt_159 (qc_S.mono ?_ (C_X1_goTo (d := d) hO hP a0 (v30 + v31) h29 _ h))
          clear h
          clear hb
          rintro _ h32 ⟨rfl, h⟩
          refine K1_v ?_
          refine qc_aload_n E_X1_attempt (by rfl) dX1_attempt_162 ?_
          refine re_getI E_X1_attempt rfl ck_X2 (by decide) 6 (by decide) q161 dX1_attempt_163 h ?_
          clear h
          intro v33 h
          refine qc_if_le E_X1_attempt 190 dX1_attempt_166 (by decide) (fun (c34 : v33 ≤ 0) => ?_) (fun (c34 : ¬ v33 ≤ 0) => ?_)
          · replace h := h.1 c34
            exact qc_vret E_X1_attempt rfl dX1_attempt_190 (Or.inl (⟨rfl, h⟩))
          · replace h := h.2 c34
            refine qc_aload_n E_X1_attempt (by rfl) dX1_attempt_169 ?_
            refine qc_dup E_X1_attempt rfl dX1_attempt_170 ?_
            refine re_getI E_X1_attempt rfl ck_X2 (by decide) 6 (by decide) q161 dX1_attempt_171 h ?_
            clear h
            intro v35 h
            refine qc_iconst E_X1_attempt 1 (by decide) dX1_attempt_174 ?_
            refine qc_isub E_X1_attempt dX1_attempt_175 ?_
            refine re_put E_X1_attempt rfl ck_X2 (by decide) 6 (by decide) q161 rfl rfl rfl dX1_attempt_176 h ?_
            clear h
            intro h36 h
            obtain ⟨cz, rfl, h⟩ := h
            exact thr_X1_attempt_179 (d := d + 4) hO hP (Or.inr ⟨_, rfl, h⟩))
        clear jz
        refine qc_icmp_ne E_X1_attempt 104 dX1_attempt_92 (by decide) (fun (c17 : ¬ v15 = (v16 / 10)) => ?_) (fun (c17 : v15 = (v16 / 10)) => ?_)
        · replace h := h.1 c17
          refine qc_iconst E_X1_attempt 1 (by decide) dX1_attempt_104 ?_
          refine qc_drop 2 ?_
          refine qc_drop 3 ?_
          exact h
        · replace h := h.2 c17
          refine qc_aload_n E_X1_attempt (by rfl) dX1_attempt_95 ?_
          refine re_getI E_X1_attempt rfl ck_X2 (by decide) 9 (by decide) q164 dX1_attempt_96 h ?_
          clear h
          intro v18 h
          refine qc_iconst E_X1_attempt 1 (by decide) dX1_attempt_99 ?_
          refine qc_iadd E_X1_attempt dX1_attempt_100 ?_
          refine qc_goto E_X1_attempt 105 dX1_attempt_101 (by decide) ?_
          refine qc_drop 2 ?_
          refine qc_drop 3 ?_
          exact h
      · replace h := h.2 c14
        refine qc_aload_n E_X1_attempt (by rfl) dX1_attempt_58 ?_
        refine re_getI E_X1_attempt rfl ck_X1 (by decide) 15 (by decide) q316 dX1_attempt_59 h ?_
        clear h
        intro v37 h
        refine qc_iload_n E_X1_attempt (by rfl) dX1_attempt_62 ?_
        refine qc_isub E_X1_attempt dX1_attempt_63 ?_
        refine qc_iload_n E_X1_attempt (by rfl) dX1_attempt_64 ?_
        refine qc_icmp_le E_X1_attempt 80 dX1_attempt_65 (by decide) (fun (c38 : (v37 - a2) ≤ a3) => ?_) (fun (c38 : ¬ (v37 - a2) ≤ a3) => ?_)
        · replace h := h.1 c38
          refine qc_aload_n E_X1_attempt (by rfl) dX1_attempt_80 ?_
          refine qc_aload_n E_X1_attempt (by rfl) dX1_attempt_81 ?_
          refine re_getI E_X1_attempt rfl ck_X2 (by decide) 8 (by decide) q163 dX1_attempt_82 h ?_
          clear h
          intro v39 h
          refine qc_aload_n E_X1_attempt (by rfl) dX1_attempt_85 ?_
          refine re_getI E_X1_attempt rfl ck_X1 (by decide) 15 (by decide) q316 dX1_attempt_86 h ?_
          clear h
          intro v40 h
          refine qc_bipush E_X1_attempt 10 (by decide) dX1_attempt_89 ?_
          refine qc_idiv E_X1_attempt (by decide) dX1_attempt_91 ?_
          have jz := h (fun (x44 : Int32) => qc_wp g x (d + 8) c I_X1_attempt 105 [some (.ref a0), some (.ref a1), none, none, some (.ref a4), none] [.int x44, .ref a1] h13 (oX (oV K) KX))
          clear h
          have h := jz (by
            intro x44 h
            refine re_put E_X1_attempt rfl ck_X2 (by decide) 9 (by decide) q164 rfl rfl rfl dX1_attempt_105 h ?_
            clear h
            intro h45 h
            refine qc_aload_n E_X1_attempt (by rfl) dX1_attempt_108 ?_
            refine qc_aload_n E_X1_attempt (by rfl) dX1_attempt_109 ?_
            refine re_getI E_X1_attempt rfl ck_X1 (by decide) 15 (by decide) q316 dX1_attempt_110 h ?_
            clear h
            intro v46 h
            refine qc_bipush E_X1_attempt 10 (by decide) dX1_attempt_113 ?_
            refine qc_idiv E_X1_attempt (by decide) dX1_attempt_115 ?_
            refine re_put E_X1_attempt rfl ck_X2 (by decide) 8 (by decide) q163 rfl rfl rfl dX1_attempt_116 h ?_
            clear h
            intro h47 h
            refine qc_aload E_X1_attempt (by rfl) dX1_attempt_119 ?_
            refine qc_dup E_X1_attempt rfl dX1_attempt_121 ?_
            refine re_getI E_X1_attempt rfl ck_X6 (by decide) 5 (by decide) q247 dX1_attempt_122 h ?_
            clear h
            intro v48 h
            refine qc_iconst E_X1_attempt 1 (by decide) dX1_attempt_125 ?_
            refine qc_iadd E_X1_attempt dX1_attempt_126 ?_
            refine re_put E_X1_attempt rfl ck_X6 (by decide) 5 (by decide) q247 rfl rfl rfl dX1_attempt_127 h ?_
            clear h
            intro h49 h
            refine qc_aload E_X1_attempt (by rfl) dX1_attempt_130 ?_
            refine qc_dup E_X1_attempt rfl dX1_attempt_132 ?_
            refine re_getI E_X1_attempt rfl ck_X6 (by decide) 4 (by decide) q246 dX1_attempt_133 h ?_
            clear h
            intro v50 h
            refine qc_aload_n E_X1_attempt (by rfl) dX1_attempt_136 ?_
            refine re_getR E_X1_attempt rfl ck_X2 (by decide) 0 (by decide) q151 dX1_attempt_137 h ?_
            clear h
            intro v51 h
            refine V_fee (d := d + 7) (rest := [.int v50, .ref a4]) hO hP E_X1_attempt rfl q1412 rfl (Nat.le_of_ble_eq_true rfl) dX1_attempt_140 h ?_
            clear h
            intro r52 h
            refine qc_iadd E_X1_attempt dX1_attempt_145 ?_
            refine re_put E_X1_attempt rfl ck_X6 (by decide) 4 (by decide) q246 rfl rfl rfl dX1_attempt_146 h ?_
            clear h
            intro h53 h
            refine qc_aload_n E_X1_attempt (by rfl) dX1_attempt_149 ?_
            refine qc_aload_n E_X1_attempt (by rfl) dX1_attempt_150 ?_
            refine re_getI E_X1_attempt rfl ck_X1 (by decide) 15 (by decide) q316 dX1_attempt_151 h ?_
            clear h
            intro v54 h
            refine qc_aload_n E_X1_attempt (by rfl) dX1_attempt_154 ?_
            refine re_getI E_X1_attempt rfl ck_X2 (by decide) 1 (by decide) q153 dX1_attempt_155 h ?_
            clear h
            intro v55 h
            refine qc_iadd E_X1_attempt dX1_attempt_158 ?_
            obtain ⟨⟨fz, hb⟩, h⟩ := h
            refine qc_callV (c := c) (k := 0) (As := [.int (v54 + v55)]) (rest := []) hO E_X1_attempt rfl M_X1_goTo rfl q1009 q1011 qs8 (ci := 0) rfl rfl hb rfl rfl (Nat.le_of_ble_eq_true rfl) dX1_attempt_159 (qc_S.mono ?_ (C_X1_goTo (d := d) hO hP a0 (v54 + v55) h53 _ h))
            clear h
            clear hb
            rintro _ h56 ⟨rfl, h⟩
            refine K1_v ?_
            refine qc_aload_n E_X1_attempt (by rfl) dX1_attempt_162 ?_
            refine re_getI E_X1_attempt rfl ck_X2 (by decide) 6 (by decide) q161 dX1_attempt_163 h ?_
            clear h
            intro v57 h
            refine qc_if_le E_X1_attempt 190 dX1_attempt_166 (by decide) (fun (c58 : v57 ≤ 0) => ?_) (fun (c58 : ¬ v57 ≤ 0) => ?_)
            · replace h := h.1 c58
              exact qc_vret E_X1_attempt rfl dX1_attempt_190 (Or.inl (⟨rfl, h⟩))
            · replace h := h.2 c58
              refine qc_aload_n E_X1_attempt (by rfl) dX1_attempt_169 ?_
              refine qc_dup E_X1_attempt rfl dX1_attempt_170 ?_
              refine re_getI E_X1_attempt rfl ck_X2 (by decide) 6 (by decide) q161 dX1_attempt_171 h ?_
              clear h
              intro v59 h
              refine qc_iconst E_X1_attempt 1 (by decide) dX1_attempt_174 ?_
              refine qc_isub E_X1_attempt dX1_attempt_175 ?_
              refine re_put E_X1_attempt rfl ck_X2 (by decide) 6 (by decide) q161 rfl rfl rfl dX1_attempt_176 h ?_
              clear h
              intro h60 h
              obtain ⟨cz, rfl, h⟩ := h
              exact thr_X1_attempt_179 (d := d + 4) hO hP (Or.inr ⟨_, rfl, h⟩))
          clear jz
          refine qc_icmp_ne E_X1_attempt 104 dX1_attempt_92 (by decide) (fun (c41 : ¬ v39 = (v40 / 10)) => ?_) (fun (c41 : v39 = (v40 / 10)) => ?_)
          · replace h := h.1 c41
            refine qc_iconst E_X1_attempt 1 (by decide) dX1_attempt_104 ?_
            refine qc_drop 2 ?_
            refine qc_drop 3 ?_
            exact h
          · replace h := h.2 c41
            refine qc_aload_n E_X1_attempt (by rfl) dX1_attempt_95 ?_
            refine re_getI E_X1_attempt rfl ck_X2 (by decide) 9 (by decide) q164 dX1_attempt_96 h ?_
            clear h
            intro v42 h
            refine qc_iconst E_X1_attempt 1 (by decide) dX1_attempt_99 ?_
            refine qc_iadd E_X1_attempt dX1_attempt_100 ?_
            refine qc_goto E_X1_attempt 105 dX1_attempt_101 (by decide) ?_
            refine qc_drop 2 ?_
            refine qc_drop 3 ?_
            exact h
        · replace h := h.2 c38
          obtain ⟨cz, rfl, h⟩ := h
          exact thr_X1_attempt_68 (d := d + 4) hO hP (Or.inr ⟨_, rfl, h⟩))
    clear jz
    refine qc_if_eq E_X1_attempt 53 dX1_attempt_34 (by decide) (fun (c9 : x8 = 0) => ?_) (fun (c9 : ¬ x8 = 0) => ?_)
    · replace h := h.1 c9
      refine qc_drop 5 ?_
      exact h
    · replace h := h.2 c9
      refine qc_aload_n E_X1_attempt (by rfl) dX1_attempt_37 ?_
      refine qc_aload_n E_X1_attempt (by rfl) dX1_attempt_38 ?_
      refine re_getI E_X1_attempt rfl ck_X1 (by decide) 15 (by decide) q316 dX1_attempt_39 h ?_
      clear h
      intro v10 h
      refine qc_bipush E_X1_attempt 10 (by decide) dX1_attempt_42 ?_
      refine qc_idiv E_X1_attempt (by decide) dX1_attempt_44 ?_
      refine qc_iconst E_X1_attempt 1 (by decide) dX1_attempt_45 ?_
      refine qc_iadd E_X1_attempt dX1_attempt_46 ?_
      refine qc_bipush E_X1_attempt 10 (by decide) dX1_attempt_47 ?_
      refine qc_imul E_X1_attempt dX1_attempt_49 ?_
      obtain ⟨⟨fz, hb⟩, h⟩ := h
      refine qc_callV (c := c) (k := 0) (As := [.int (((v10 / 10) + 1) * 10)]) (rest := []) hO E_X1_attempt rfl M_X1_goTo rfl q1009 q1011 qs8 (ci := 0) rfl rfl hb rfl rfl (Nat.le_of_ble_eq_true rfl) dX1_attempt_50 (qc_S.mono ?_ (C_X1_goTo (d := d) hO hP a0 (((v10 / 10) + 1) * 10) hp _ h))
      clear h
      clear hb
      rintro _ h11 ⟨rfl, h⟩
      refine K1_v ?_
      refine qc_drop 5 ?_
      exact h)
  clear jz
  refine qc_icmp_ne E_X1_attempt 29 dX1_attempt_11 (by decide) (fun (c3 : ¬ v1 = (v2 / 10)) => ?_) (fun (c3 : v1 = (v2 / 10)) => ?_)
  · replace h := h.1 c3
    refine qc_iconst E_X1_attempt 0 (by decide) dX1_attempt_29 ?_
    exact h
  · replace h := h.2 c3
    refine qc_aload_n E_X1_attempt (by rfl) dX1_attempt_14 ?_
    refine re_getI E_X1_attempt rfl ck_X2 (by decide) 9 (by decide) q164 dX1_attempt_15 h ?_
    clear h
    intro v4 h
    refine qc_aload_n E_X1_attempt (by rfl) dX1_attempt_18 ?_
    refine re_getI E_X1_attempt rfl ck_X2 (by decide) 3 (by decide) q156 dX1_attempt_19 h ?_
    clear h
    intro v5 h
    refine qc_icmp_lt E_X1_attempt 29 dX1_attempt_22 (by decide) (fun (c6 : v4 < v5) => ?_) (fun (c6 : ¬ v4 < v5) => ?_)
    · replace h := h.1 c6
      refine qc_iconst E_X1_attempt 0 (by decide) dX1_attempt_29 ?_
      exact h
    · replace h := h.2 c6
      refine qc_iconst E_X1_attempt 1 (by decide) dX1_attempt_25 ?_
      refine qc_goto E_X1_attempt 30 dX1_attempt_26 (by decide) ?_
      exact h
