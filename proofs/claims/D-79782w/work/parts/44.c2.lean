/-! CORE 21, next part (printed by gen2.py) -/
set_option maxRecDepth 100000
def I_X1_replace : qh_I := (yX1_replace, cX1_replace, 3, (Option.none : Option Jvm.ClassFile.FieldType), [])
theorem E_X1_replace : I_X1_replace.2.1 = cX1_replace := rfl
theorem M_X1_replace : qh_M I_X1_replace 2 := ⟨by decide, by decide, by decide +kernel, q85, q1061, by decide⟩
def T_X1_replace (g : qh_G) (a0 : Nat) (a1 : Nat) (a2 : Nat) (hp : qc_H) (c : Nat) (K : qc_H → Prop) : Prop := eR hp a1 6 2 (fun v1 => eI hp a2 8 0 (fun v2 => eC hp a1 6 (T_X7_placeOf g a1 v2 hp (fun r3 => eSt g hp v1 r3 a2 (fun p5 h4 => eC h4 a0 0 (eK c (fun c7 k6 => T_X1_written g a0 a1 h4 k6 (fun h8 => K h8))))))))
set_option maxHeartbeats 8000000 in
theorem C_X1_replace {g : qh_G} {x : qc_X} {d : Nat} {sd : String → Nat → Nat} (hO : qc_O g x) (hP : qc_P g qp_ts sd) (a0 : Nat) (a1 : Nat) (a2 : Nat) (hp : qc_H) (c : Nat) (K : qc_H → Prop) (hz : T_X1_replace g a0 a1 a2 hp c K) : qc_S g x (d + 9) c I_X1_replace [.ref a0, .ref a1, .ref a2] hp (oV K) := by
  refine qc_S.of (by decide) rfl (ls := [some (.ref a0), some (.ref a1), some (.ref a2)]) rfl (Nat.le_of_ble_eq_true rfl) (ct_c rfl (ct_c rfl (ct_c rfl ct_n))) ?_
  unfold T_X1_replace at hz
  have h := hz
  clear hz
  refine qc_aload_n E_X1_replace (by rfl) dX1_replace_0 ?_
  refine re_getR E_X1_replace rfl ck_X7 (by decide) 2 (by decide) q278 dX1_replace_1 h ?_
  clear h
  intro v1 h
  refine qc_aload_n E_X1_replace (by rfl) dX1_replace_4 ?_
  refine qc_aload_n E_X1_replace (by rfl) dX1_replace_5 ?_
  refine re_getI E_X1_replace rfl ck_X9 (by decide) 0 (by decide) q642 dX1_replace_6 h ?_
  clear h
  intro v2 h
  obtain ⟨⟨fz, hb⟩, h⟩ := h
  refine qc_callV (c := c) (k := 0) (As := [.int v2]) (rest := [.ref v1]) hO E_X1_replace rfl M_X7_placeOf rfl q574 q575 q576 (ci := 6) rfl rfl hb rfl rfl (Nat.le_of_ble_eq_true rfl) dX1_replace_9 (qc_S.mono ?_ (C_X7_placeOf (d := d + 2) hO hP a1 v2 hp _ h))
  clear h
  clear hb
  rintro _ _ ⟨r3, rfl, rfl, h⟩
  refine K1_i ?_
  refine qc_aload_n E_X1_replace (by rfl) dX1_replace_12 ?_
  refine re_set (d := d + 3) hO E_X1_replace rfl q1062 (Nat.le_of_ble_eq_true rfl) dX1_replace_13 h ?_
  clear h
  intro p5 h4 h
  refine qc_pop E_X1_replace rfl dX1_replace_16 ?_
  refine qc_aload_n E_X1_replace (by rfl) dX1_replace_17 ?_
  refine qc_aload_n E_X1_replace (by rfl) dX1_replace_18 ?_
  obtain ⟨⟨fz, hb⟩, c7, k6, rfl, h⟩ := h
  refine qc_callV (c := c7) (k := k6) (As := [.ref a1]) (rest := []) hO E_X1_replace rfl M_X1_written rfl q958 q960 qs6 (ci := 0) rfl rfl hb rfl rfl (Nat.le_of_ble_eq_true rfl) dX1_replace_19 (qc_S.mono ?_ (C_X1_written (d := d) hO hP a0 a1 h4 k6 _ h))
  clear h
  clear hb
  rintro _ h8 ⟨rfl, h⟩
  refine K1_v ?_
  exact qc_vret E_X1_replace rfl dX1_replace_22 (⟨rfl, h⟩)
def I_X1_change : qh_I := (yX1_change, cX1_change, 9, (Option.some Jvm.ClassFile.FieldType.int), [])
theorem E_X1_change : I_X1_change.2.1 = cX1_change := rfl
theorem M_X1_change : qh_M I_X1_change 4 := ⟨by decide, by decide, by decide +kernel, q85, q1033, by decide⟩
def T_X1_change (g : qh_G) (a0 : Nat) (a1 : Int32) (a2 : Int32) (a3 : Int32) (a4 : Int32) (hp : qc_H) (c : Nat) (K : Int32 → qc_H → Prop) (KX : String → qc_H → Prop) : Prop := eC hp a0 0 (eK c (fun c2 k1 => T_X1_sourceAt g a0 a1 hp k1 (fun r3 => eK c2 (fun c5 k4 => T_X1_rowOf g r3 a2 hp k4 (fun r6 => eR hp r3 6 1 (fun v7 => eR hp v7 1 0 (fun v8 => U_columns g hp v8 (fun r9 => eK c5 (fun c11 k10 => T_X1_known g a3 r9 hp k10 (fun r12 => ∀ J23 : Int32 → Prop, (∀ (x24 : Int32), (eK c11 (fun c26 k25 => T_X1_fit g x24 hp k25 (U_kept g hp v8 a3 a4 (fun r27 => eI hp a0 0 13 (fun v28 => ∀ J30 : Int32 → Prop, (∀ (x31 : Int32), (eP hp a0 0 13 (.int (v28 + x31)) (fun h32 => eC h32 r6 8 (eK c26 (fun c34 k33 => T_X9_with g r6 a3 r27 h32 k33 (fun r35 h36 => eC h36 a0 0 (eK c34 (fun c38 k37 => T_X1_replace g a0 r3 r35 h36 k37 (fun h39 => eR h39 r6 8 1 (fun v40 => eA g.2.2.2.1 h39 v40 a3 (fun v41 => K v41 h39)))))))))) → J30 x31) → (r27 = a4 → J30 0) ∧ (¬ r27 = a4 → J30 1)))) (fun Ez => KX Ez hp))) → J23 x24) → (0 < a3 → U_isFit g hp v8 a3 a4 (fun r14 => (r14 = 0 → J23 0) ∧ (¬ r14 = 0 → J23 1))) ∧ (¬ 0 < a3 → U_hasKey g hp v8 (fun r17 => (¬ r17 = 0 → J23 0) ∧ (r17 = 0 → U_isFit g hp v8 a3 a4 (fun r20 => (r20 = 0 → J23 0) ∧ (¬ r20 = 0 → J23 1)))))) (fun Ez => KX Ez hp)))))) (fun Ez => KX Ez hp))) (fun Ez => KX Ez hp)))
set_option maxHeartbeats 8000000 in
theorem C_X1_change {g : qh_G} {x : qc_X} {d : Nat} {sd : String → Nat → Nat} (hO : qc_O g x) (hP : qc_P g qp_ts sd) (a0 : Nat) (a1 : Int32) (a2 : Int32) (a3 : Int32) (a4 : Int32) (hp : qc_H) (c : Nat) (K : Int32 → qc_H → Prop) (KX : String → qc_H → Prop) (hz : T_X1_change g a0 a1 a2 a3 a4 hp c K KX) : qc_S g x (d + 10) c I_X1_change [.ref a0, .int a1, .int a2, .int a3, .int a4] hp (oX (oI K) KX) := by
  refine qc_S.of (by decide) rfl (ls := [some (.ref a0), some (.int a1), some (.int a2), some (.int a3), some (.int a4), none, none, none, none]) rfl (Nat.le_of_ble_eq_true rfl) (ct_c rfl (ct_c rfl (ct_c rfl (ct_c rfl (ct_c rfl ct_n))))) ?_
  unfold T_X1_change at hz
  have h := hz
  clear hz
  refine qc_aload_n E_X1_change (by rfl) dX1_change_0 ?_
  refine qc_iload_n E_X1_change (by rfl) dX1_change_1 ?_
  obtain ⟨⟨fz, hb⟩, c2, k1, rfl, h⟩ := h
  refine qc_callV (c := c2) (k := k1) (As := [.int a1]) (rest := []) hO E_X1_change rfl M_X1_sourceAt rfl q490 q492 qs1 (ci := 0) rfl rfl hb rfl rfl (Nat.le_of_ble_eq_true rfl) dX1_change_2 (qc_S.mono ?_ (C_X1_sourceAt (d := d + 8) hO hP a0 a1 hp k1 _ _ h))
  clear h
  clear hb
  rintro _ tz (hz | hz)
  · obtain ⟨r3, rfl, rfl, h⟩ := hz
    refine K1_r ?_
    refine qc_astore E_X1_change (by decide) dX1_change_5 ?_
    refine qc_aload E_X1_change (by rfl) dX1_change_7 ?_
    refine qc_iload_n E_X1_change (by rfl) dX1_change_9 ?_
    obtain ⟨c5, k4, rfl, h⟩ := h
    refine qc_callS (c := c5) (k := k4) (As := [.ref r3, .int a2]) (rest := []) E_X1_change rfl M_X1_rowOf rfl q1034 q1035 rfl rfl (Nat.le_of_ble_eq_true rfl) dX1_change_10 (qc_S.mono ?_ (C_X1_rowOf (d := d + 2) hO hP r3 a2 hp k4 _ _ h))
    clear h
    rintro _ tz (hz | hz)
    · obtain ⟨r6, rfl, rfl, h⟩ := hz
      refine K1_r ?_
      refine qc_astore E_X1_change (by decide) dX1_change_13 ?_
      refine qc_aload E_X1_change (by rfl) dX1_change_15 ?_
      refine re_getR E_X1_change rfl ck_X7 (by decide) 1 (by decide) q275 dX1_change_17 h ?_
      clear h
      intro v7 h
      refine re_getR E_X1_change rfl ck_X2 (by decide) 0 (by decide) q151 dX1_change_20 h ?_
      clear h
      intro v8 h
      refine qc_astore E_X1_change (by decide) dX1_change_23 ?_
      refine qc_iload_n E_X1_change (by rfl) dX1_change_25 ?_
      refine qc_aload E_X1_change (by rfl) dX1_change_26 ?_
      refine V_columns (d := d + 9) (rest := [.int a3]) hO hP E_X1_change rfl q1038 rfl (Nat.le_of_ble_eq_true rfl) dX1_change_28 h ?_
      clear h
      intro r9 h
      obtain ⟨c11, k10, rfl, h⟩ := h
      refine qc_callS (c := c11) (k := k10) (As := [.int a3, .int r9]) (rest := []) E_X1_change rfl M_X1_known rfl q494 q495 rfl rfl (Nat.le_of_ble_eq_true rfl) dX1_change_33 (qc_S.mono ?_ (C_X1_known (d := d + 9) hO hP a3 r9 hp k10 _ _ h))
      clear h
      rintro _ tz (hz | hz)
      · obtain ⟨r12, rfl, rfl, h⟩ := hz
        refine K1_i ?_
        refine qc_pop E_X1_change rfl dX1_change_36 ?_
        refine qc_iload_n E_X1_change (by rfl) dX1_change_37 ?_
        have jz := h (fun (x24 : Int32) => qc_wp g x (d + 10) c11 I_X1_change 69 [some (.ref a0), none, none, some (.int a3), some (.int a4), some (.ref r3), some (.ref r6), some (.ref v8), none] [.int x24] hp (oX (oI K) KX))
        clear h
        have h := jz (by
          intro x24 h
          obtain ⟨c26, k25, rfl, h⟩ := h
          refine qc_callS (c := c26) (k := k25) (As := [.int x24]) (rest := []) E_X1_change rfl M_X1_fit rfl q540 q541 rfl rfl (Nat.le_of_ble_eq_true rfl) dX1_change_69 (qc_S.mono ?_ (C_X1_fit (d := d + 9) hO hP x24 hp k25 _ _ h))
          clear h
          rintro _ tz (hz | hz)
          · obtain ⟨rfl, rfl, h⟩ := hz
            refine K1_v ?_
            refine qc_aload E_X1_change (by rfl) dX1_change_72 ?_
            refine qc_iload_n E_X1_change (by rfl) dX1_change_74 ?_
            refine qc_iload E_X1_change (by rfl) dX1_change_75 ?_
            refine V_kept (d := d + 9) (rest := []) hO hP E_X1_change rfl q614 rfl (Nat.le_of_ble_eq_true rfl) dX1_change_77 h ?_
            clear h
            intro r27 h
            refine qc_istore E_X1_change (by decide) dX1_change_82 ?_
            refine qc_aload_n E_X1_change (by rfl) dX1_change_84 ?_
            refine qc_dup E_X1_change rfl dX1_change_85 ?_
            refine re_getI E_X1_change rfl ck_X1 (by decide) 13 (by decide) q314 dX1_change_86 h ?_
            clear h
            intro v28 h
            refine qc_iload E_X1_change (by rfl) dX1_change_89 ?_
            refine qc_iload E_X1_change (by rfl) dX1_change_91 ?_
            have jz := h (fun (x31 : Int32) => qc_wp g x (d + 10) c26 I_X1_change 101 [some (.ref a0), none, none, some (.int a3), none, some (.ref r3), some (.ref r6), none, some (.int r27)] [.int x31, .int v28, .ref a0] hp (oX (oI K) KX))
            clear h
            have h := jz (by
              intro x31 h
              refine qc_iadd E_X1_change dX1_change_101 ?_
              refine re_put E_X1_change rfl ck_X1 (by decide) 13 (by decide) q314 rfl rfl rfl dX1_change_102 h ?_
              clear h
              intro h32 h
              refine qc_aload_n E_X1_change (by rfl) dX1_change_105 ?_
              refine qc_aload E_X1_change (by rfl) dX1_change_106 ?_
              refine qc_aload E_X1_change (by rfl) dX1_change_108 ?_
              refine qc_iload_n E_X1_change (by rfl) dX1_change_110 ?_
              refine qc_iload E_X1_change (by rfl) dX1_change_111 ?_
              obtain ⟨⟨fz, hb⟩, c34, k33, rfl, h⟩ := h
              refine qc_callV (c := c34) (k := k33) (As := [.int a3, .int r27]) (rest := [.ref r3, .ref a0]) hO E_X1_change rfl M_X9_with rfl q1051 q1052 q1053 (ci := 8) rfl rfl hb rfl rfl (Nat.le_of_ble_eq_true rfl) dX1_change_113 (qc_S.mono ?_ (C_X9_with (d := d + 8) hO hP r6 a3 r27 h32 k33 _ h))
              clear h
              clear hb
              rintro _ h36 ⟨r35, rfl, h⟩
              refine K1_r ?_
              obtain ⟨⟨fz, hb⟩, c38, k37, rfl, h⟩ := h
              refine qc_callV (c := c38) (k := k37) (As := [.ref r3, .ref r35]) (rest := []) hO E_X1_change rfl M_X1_replace rfl q1058 q1060 qs11 (ci := 0) rfl rfl hb rfl rfl (Nat.le_of_ble_eq_true rfl) dX1_change_116 (qc_S.mono ?_ (C_X1_replace (d := d) hO hP a0 r3 r35 h36 k37 _ h))
              clear h
              clear hb
              rintro _ h39 ⟨rfl, h⟩
              refine K1_v ?_
              refine qc_aload E_X1_change (by rfl) dX1_change_119 ?_
              refine re_getR E_X1_change rfl ck_X9 (by decide) 1 (by decide) q646 dX1_change_121 h ?_
              clear h
              intro v40 h
              refine qc_iload_n E_X1_change (by rfl) dX1_change_124 ?_
              refine re_iald E_X1_change dX1_change_125 h ?_
              clear h
              intro v41 h
              exact qc_iret E_X1_change rfl dX1_change_126 (Or.inl (⟨_, rfl, h⟩)))
            clear jz
            refine qc_icmp_eq E_X1_change 100 dX1_change_93 (by decide) (fun (c29 : r27 = a4) => ?_) (fun (c29 : ¬ r27 = a4) => ?_)
            · replace h := h.1 c29
              refine qc_iconst E_X1_change 0 (by decide) dX1_change_100 ?_
              refine qc_drop 4 ?_
              refine qc_drop 7 ?_
              exact h
            · replace h := h.2 c29
              refine qc_iconst E_X1_change 1 (by decide) dX1_change_96 ?_
              refine qc_goto E_X1_change 101 dX1_change_97 (by decide) ?_
              refine qc_drop 4 ?_
              refine qc_drop 7 ?_
              exact h
          · revert tz; rintro _ ⟨Ez, rfl, rfl, h⟩
            refine K1_x ?_
            exact qc_out (by decide) (Or.inr ⟨_, rfl, h⟩))
        clear jz
        refine qc_if_gt E_X1_change 51 dX1_change_38 (by decide) (fun (c13 : 0 < a3) => ?_) (fun (c13 : ¬ 0 < a3) => ?_)
        · replace h := h.1 c13
          refine qc_aload E_X1_change (by rfl) dX1_change_51 ?_
          refine qc_iload_n E_X1_change (by rfl) dX1_change_53 ?_
          refine qc_iload E_X1_change (by rfl) dX1_change_54 ?_
          refine V_isFit (d := d + 7) (rest := []) hO hP E_X1_change rfl q511 rfl (Nat.le_of_ble_eq_true rfl) dX1_change_56 h ?_
          clear h
          intro r14 z15 h
          refine qc_if_eq E_X1_change 68 dX1_change_61 (by decide) (fun (c16 : r14 = 0) => ?_) (fun (c16 : ¬ r14 = 0) => ?_)
          · replace h := h.1 c16
            refine qc_iconst E_X1_change 0 (by decide) dX1_change_68 ?_
            refine qc_drop 1 ?_
            refine qc_drop 2 ?_
            exact h
          · replace h := h.2 c16
            refine qc_iconst E_X1_change 1 (by decide) dX1_change_64 ?_
            refine qc_goto E_X1_change 69 dX1_change_65 (by decide) ?_
            refine qc_drop 1 ?_
            refine qc_drop 2 ?_
            exact h
        · replace h := h.2 c13
          refine qc_aload E_X1_change (by rfl) dX1_change_41 ?_
          refine V_hasKey (d := d + 9) (rest := []) hO hP E_X1_change rfl q561 rfl (Nat.le_of_ble_eq_true rfl) dX1_change_43 h ?_
          clear h
          intro r17 z18 h
          refine qc_if_ne E_X1_change 68 dX1_change_48 (by decide) (fun (c19 : ¬ r17 = 0) => ?_) (fun (c19 : r17 = 0) => ?_)
          · replace h := h.1 c19
            refine qc_iconst E_X1_change 0 (by decide) dX1_change_68 ?_
            refine qc_drop 1 ?_
            refine qc_drop 2 ?_
            exact h
          · replace h := h.2 c19
            refine qc_aload E_X1_change (by rfl) dX1_change_51 ?_
            refine qc_iload_n E_X1_change (by rfl) dX1_change_53 ?_
            refine qc_iload E_X1_change (by rfl) dX1_change_54 ?_
            refine V_isFit (d := d + 7) (rest := []) hO hP E_X1_change rfl q511 rfl (Nat.le_of_ble_eq_true rfl) dX1_change_56 h ?_
            clear h
            intro r20 z21 h
            refine qc_if_eq E_X1_change 68 dX1_change_61 (by decide) (fun (c22 : r20 = 0) => ?_) (fun (c22 : ¬ r20 = 0) => ?_)
            · replace h := h.1 c22
              refine qc_iconst E_X1_change 0 (by decide) dX1_change_68 ?_
              refine qc_drop 1 ?_
              refine qc_drop 2 ?_
              exact h
            · replace h := h.2 c22
              refine qc_iconst E_X1_change 1 (by decide) dX1_change_64 ?_
              refine qc_goto E_X1_change 69 dX1_change_65 (by decide) ?_
              refine qc_drop 1 ?_
              refine qc_drop 2 ?_
              exact h
      · revert tz; rintro _ ⟨Ez, rfl, rfl, h⟩
        refine K1_x ?_
        exact qc_out (by decide) (Or.inr ⟨_, rfl, h⟩)
    · revert tz; rintro _ ⟨Ez, rfl, rfl, h⟩
      refine K1_x ?_
      exact qc_out (by decide) (Or.inr ⟨_, rfl, h⟩)
  · revert tz; rintro _ ⟨Ez, rfl, rfl, h⟩
    refine K1_x ?_
    exact qc_out (by decide) (Or.inr ⟨_, rfl, h⟩)
def I_X1_remove : qh_I := (yX1_remove, cX1_remove, 4, (Option.some Jvm.ClassFile.FieldType.int), [])
theorem E_X1_remove : I_X1_remove.2.1 = cX1_remove := rfl
theorem M_X1_remove : qh_M I_X1_remove 2 := ⟨by decide, by decide, by decide +kernel, q85, q1072, by decide⟩
def T_X1_remove (g : qh_G) (a0 : Nat) (a1 : Int32) (a2 : Int32) (hp : qc_H) (c : Nat) (K : Int32 → qc_H → Prop) (KX : String → qc_H → Prop) : Prop := eC hp a0 0 (eK c (fun c2 k1 => T_X1_sourceAt g a0 a1 hp k1 (fun r3 => eK c2 (fun c5 k4 => T_X1_rowOf g r3 a2 hp k4 (fun r6 => eR hp r3 6 2 (fun v7 => eC hp r3 6 (T_X7_placeOf g r3 a2 hp (fun r8 => eRm hp v7 r8 (fun p10 h9 => eC h9 a0 0 (eK c5 (fun c12 k11 => T_X1_written g a0 r3 h9 k11 (fun h13 => eR h13 r3 6 2 (fun v14 => eSz h13 v14 (fun n15 => K n15 h13)))))))))) (fun Ez => KX Ez hp))) (fun Ez => KX Ez hp)))
set_option maxHeartbeats 8000000 in
theorem C_X1_remove {g : qh_G} {x : qc_X} {d : Nat} {sd : String → Nat → Nat} (hO : qc_O g x) (hP : qc_P g qp_ts sd) (a0 : Nat) (a1 : Int32) (a2 : Int32) (hp : qc_H) (c : Nat) (K : Int32 → qc_H → Prop) (KX : String → qc_H → Prop) (hz : T_X1_remove g a0 a1 a2 hp c K KX) : qc_S g x (d + 9) c I_X1_remove [.ref a0, .int a1, .int a2] hp (oX (oI K) KX) := by
  refine qc_S.of (by decide) rfl (ls := [some (.ref a0), some (.int a1), some (.int a2), none]) rfl (Nat.le_of_ble_eq_true rfl) (ct_c rfl (ct_c rfl (ct_c rfl ct_n))) ?_
  unfold T_X1_remove at hz
  have h := hz
  clear hz
  refine qc_aload_n E_X1_remove (by rfl) dX1_remove_0 ?_
  refine qc_iload_n E_X1_remove (by rfl) dX1_remove_1 ?_
  obtain ⟨⟨fz, hb⟩, c2, k1, rfl, h⟩ := h
  refine qc_callV (c := c2) (k := k1) (As := [.int a1]) (rest := []) hO E_X1_remove rfl M_X1_sourceAt rfl q490 q492 qs1 (ci := 0) rfl rfl hb rfl rfl (Nat.le_of_ble_eq_true rfl) dX1_remove_2 (qc_S.mono ?_ (C_X1_sourceAt (d := d + 7) hO hP a0 a1 hp k1 _ _ h))
  clear h
  clear hb
  rintro _ tz (hz | hz)
  · obtain ⟨r3, rfl, rfl, h⟩ := hz
    refine K1_r ?_
    refine qc_astore_n E_X1_remove (by decide) dX1_remove_5 ?_
    refine qc_aload_n E_X1_remove (by rfl) dX1_remove_6 ?_
    refine qc_iload_n E_X1_remove (by rfl) dX1_remove_7 ?_
    obtain ⟨c5, k4, rfl, h⟩ := h
    refine qc_callS (c := c5) (k := k4) (As := [.ref r3, .int a2]) (rest := []) E_X1_remove rfl M_X1_rowOf rfl q1034 q1035 rfl rfl (Nat.le_of_ble_eq_true rfl) dX1_remove_8 (qc_S.mono ?_ (C_X1_rowOf (d := d + 1) hO hP r3 a2 hp k4 _ _ h))
    clear h
    rintro _ tz (hz | hz)
    · obtain ⟨r6, rfl, rfl, h⟩ := hz
      refine K1_r ?_
      refine qc_pop E_X1_remove rfl dX1_remove_11 ?_
      refine qc_aload_n E_X1_remove (by rfl) dX1_remove_12 ?_
      refine re_getR E_X1_remove rfl ck_X7 (by decide) 2 (by decide) q278 dX1_remove_13 h ?_
      clear h
      intro v7 h
      refine qc_aload_n E_X1_remove (by rfl) dX1_remove_16 ?_
      refine qc_iload_n E_X1_remove (by rfl) dX1_remove_17 ?_
      obtain ⟨⟨fz, hb⟩, h⟩ := h
      refine qc_callV (c := c5) (k := 0) (As := [.int a2]) (rest := [.ref v7]) hO E_X1_remove rfl M_X7_placeOf rfl q574 q575 q576 (ci := 6) rfl rfl hb rfl rfl (Nat.le_of_ble_eq_true rfl) dX1_remove_18 (qc_S.mono ?_ (C_X7_placeOf (d := d + 2) hO hP r3 a2 hp _ h))
      clear h
      clear hb
      rintro _ _ ⟨r8, rfl, rfl, h⟩
      refine K1_i ?_
      refine re_remove (d := d + 3) hO E_X1_remove rfl q1014 (Nat.le_of_ble_eq_true rfl) dX1_remove_21 h ?_
      clear h
      intro p10 h9 h
      refine qc_pop E_X1_remove rfl dX1_remove_24 ?_
      refine qc_aload_n E_X1_remove (by rfl) dX1_remove_25 ?_
      refine qc_aload_n E_X1_remove (by rfl) dX1_remove_26 ?_
      obtain ⟨⟨fz, hb⟩, c12, k11, rfl, h⟩ := h
      refine qc_callV (c := c12) (k := k11) (As := [.ref r3]) (rest := []) hO E_X1_remove rfl M_X1_written rfl q958 q960 qs6 (ci := 0) rfl rfl hb rfl rfl (Nat.le_of_ble_eq_true rfl) dX1_remove_27 (qc_S.mono ?_ (C_X1_written (d := d) hO hP a0 r3 h9 k11 _ h))
      clear h
      clear hb
      rintro _ h13 ⟨rfl, h⟩
      refine K1_v ?_
      refine qc_aload_n E_X1_remove (by rfl) dX1_remove_30 ?_
      refine re_getR E_X1_remove rfl ck_X7 (by decide) 2 (by decide) q278 dX1_remove_31 h ?_
      clear h
      intro v14 h
      refine re_size (d := d + 3) hO E_X1_remove rfl q366 (Nat.le_of_ble_eq_true rfl) dX1_remove_34 h ?_
      clear h
      intro n15 h
      exact qc_iret E_X1_remove rfl dX1_remove_37 (Or.inl (⟨_, rfl, h⟩))
    · revert tz; rintro _ ⟨Ez, rfl, rfl, h⟩
      refine K1_x ?_
      exact qc_out (by decide) (Or.inr ⟨_, rfl, h⟩)
  · revert tz; rintro _ ⟨Ez, rfl, rfl, h⟩
    refine K1_x ?_
    exact qc_out (by decide) (Or.inr ⟨_, rfl, h⟩)
def I_X1_count : qh_I := (yX1_count, cX1_count, 2, (Option.some Jvm.ClassFile.FieldType.int), [])
theorem E_X1_count : I_X1_count.2.1 = cX1_count := rfl
theorem M_X1_count : qh_M I_X1_count 1 := ⟨by decide, by decide, by decide +kernel, q85, q1079, by decide⟩
def T_X1_count (g : qh_G) (a0 : Nat) (a1 : Int32) (hp : qc_H) (c : Nat) (K : Int32 → Prop) (KX : String → Prop) : Prop := eC hp a0 0 (eK c (fun c2 k1 => T_X1_sourceAt g a0 a1 hp k1 (fun r3 => eR hp r3 6 2 (fun v4 => eSz hp v4 (fun n5 => K n5))) (fun Ez => KX Ez)))
set_option maxHeartbeats 8000000 in
theorem C_X1_count {g : qh_G} {x : qc_X} {d : Nat} {sd : String → Nat → Nat} (hO : qc_O g x) (hP : qc_P g qp_ts sd) (a0 : Nat) (a1 : Int32) (hp : qc_H) (c : Nat) (K : Int32 → Prop) (KX : String → Prop) (hz : T_X1_count g a0 a1 hp c K KX) : qc_S g x (d + 6) c I_X1_count [.ref a0, .int a1] hp (oX (oI (fun v t => hp = t ∧ K v)) (fun E t => hp = t ∧ KX E)) := by
  refine qc_S.of (by decide) rfl (ls := [some (.ref a0), some (.int a1)]) rfl (Nat.le_of_ble_eq_true rfl) (ct_c rfl (ct_c rfl ct_n)) ?_
  unfold T_X1_count at hz
  have h := hz
  clear hz
  refine qc_aload_n E_X1_count (by rfl) dX1_count_0 ?_
  refine qc_iload_n E_X1_count (by rfl) dX1_count_1 ?_
  obtain ⟨⟨fz, hb⟩, c2, k1, rfl, h⟩ := h
  refine qc_callV (c := c2) (k := k1) (As := [.int a1]) (rest := []) hO E_X1_count rfl M_X1_sourceAt rfl q490 q492 qs1 (ci := 0) rfl rfl hb rfl rfl (Nat.le_of_ble_eq_true rfl) dX1_count_2 (qc_S.mono ?_ (C_X1_sourceAt (d := d + 4) hO hP a0 a1 hp k1 _ _ h))
  clear h
  clear hb
  rintro _ tz (hz | hz)
  · obtain ⟨r3, rfl, rfl, h⟩ := hz
    refine K1_r ?_
    refine re_getR E_X1_count rfl ck_X7 (by decide) 2 (by decide) q278 dX1_count_5 h ?_
    clear h
    intro v4 h
    refine re_size (d := d) hO E_X1_count rfl q366 (Nat.le_of_ble_eq_true rfl) dX1_count_8 h ?_
    clear h
    intro n5 h
    exact qc_iret E_X1_count rfl dX1_count_11 (Or.inl (⟨_, rfl, rfl, h⟩))
  · revert tz; rintro _ ⟨Ez, rfl, rfl, h⟩
    refine K1_x ?_
    exact qc_out (by decide) (Or.inr ⟨_, rfl, rfl, h⟩)
def I_X1_cell : qh_I := (yX1_cell, cX1_cell, 6, (Option.some Jvm.ClassFile.FieldType.int), [])
theorem E_X1_cell : I_X1_cell.2.1 = cX1_cell := rfl
theorem M_X1_cell : qh_M I_X1_cell 3 := ⟨by decide, by decide, by decide +kernel, q85, q1086, by decide⟩
def T_X1_cell (g : qh_G) (a0 : Nat) (a1 : Int32) (a2 : Int32) (a3 : Int32) (hp : qc_H) (c : Nat) (K : Int32 → Prop) (KX : String → Prop) : Prop := eC hp a0 0 (eK c (fun c2 k1 => T_X1_sourceAt g a0 a1 hp k1 (fun r3 => eK c2 (fun c5 k4 => T_X1_rowOf g r3 a2 hp k4 (fun r6 => eR hp r6 8 1 (fun v7 => eR hp r3 6 1 (fun v8 => eR hp v8 1 0 (fun v9 => U_columns g hp v9 (fun r10 => eK c5 (fun c12 k11 => T_X1_known g a3 r10 hp k11 (fun r13 => eA g.2.2.2.1 hp v7 r13 (fun v14 => K v14)) (fun Ez => KX Ez))))))) (fun Ez => KX Ez))) (fun Ez => KX Ez)))
set_option maxHeartbeats 8000000 in
theorem C_X1_cell {g : qh_G} {x : qc_X} {d : Nat} {sd : String → Nat → Nat} (hO : qc_O g x) (hP : qc_P g qp_ts sd) (a0 : Nat) (a1 : Int32) (a2 : Int32) (a3 : Int32) (hp : qc_H) (c : Nat) (K : Int32 → Prop) (KX : String → Prop) (hz : T_X1_cell g a0 a1 a2 a3 hp c K KX) : qc_S g x (d + 8) c I_X1_cell [.ref a0, .int a1, .int a2, .int a3] hp (oX (oI (fun v t => hp = t ∧ K v)) (fun E t => hp = t ∧ KX E)) := by
  refine qc_S.of (by decide) rfl (ls := [some (.ref a0), some (.int a1), some (.int a2), some (.int a3), none, none]) rfl (Nat.le_of_ble_eq_true rfl) (ct_c rfl (ct_c rfl (ct_c rfl (ct_c rfl ct_n)))) ?_
  unfold T_X1_cell at hz
  have h := hz
  clear hz
  refine qc_aload_n E_X1_cell (by rfl) dX1_cell_0 ?_
  refine qc_iload_n E_X1_cell (by rfl) dX1_cell_1 ?_
  obtain ⟨⟨fz, hb⟩, c2, k1, rfl, h⟩ := h
  refine qc_callV (c := c2) (k := k1) (As := [.int a1]) (rest := []) hO E_X1_cell rfl M_X1_sourceAt rfl q490 q492 qs1 (ci := 0) rfl rfl hb rfl rfl (Nat.le_of_ble_eq_true rfl) dX1_cell_2 (qc_S.mono ?_ (C_X1_sourceAt (d := d + 6) hO hP a0 a1 hp k1 _ _ h))
  clear h
  clear hb
  rintro _ tz (hz | hz)
  · obtain ⟨r3, rfl, rfl, h⟩ := hz
    refine K1_r ?_
    refine qc_astore E_X1_cell (by decide) dX1_cell_5 ?_
    refine qc_aload E_X1_cell (by rfl) dX1_cell_7 ?_
    refine qc_iload_n E_X1_cell (by rfl) dX1_cell_9 ?_
    obtain ⟨c5, k4, rfl, h⟩ := h
    refine qc_callS (c := c5) (k := k4) (As := [.ref r3, .int a2]) (rest := []) E_X1_cell rfl M_X1_rowOf rfl q1034 q1035 rfl rfl (Nat.le_of_ble_eq_true rfl) dX1_cell_10 (qc_S.mono ?_ (C_X1_rowOf (d := d) hO hP r3 a2 hp k4 _ _ h))
    clear h
    rintro _ tz (hz | hz)
    · obtain ⟨r6, rfl, rfl, h⟩ := hz
      refine K1_r ?_
      refine qc_astore E_X1_cell (by decide) dX1_cell_13 ?_
      refine qc_aload E_X1_cell (by rfl) dX1_cell_15 ?_
      refine re_getR E_X1_cell rfl ck_X9 (by decide) 1 (by decide) q646 dX1_cell_17 h ?_
      clear h
      intro v7 h
      refine qc_iload_n E_X1_cell (by rfl) dX1_cell_20 ?_
      refine qc_aload E_X1_cell (by rfl) dX1_cell_21 ?_
      refine re_getR E_X1_cell rfl ck_X7 (by decide) 1 (by decide) q275 dX1_cell_23 h ?_
      clear h
      intro v8 h
      refine re_getR E_X1_cell rfl ck_X2 (by decide) 0 (by decide) q151 dX1_cell_26 h ?_
      clear h
      intro v9 h
      refine V_columns (d := d + 7) (rest := [.int a3, .ref v7]) hO hP E_X1_cell rfl q1038 rfl (Nat.le_of_ble_eq_true rfl) dX1_cell_29 h ?_
      clear h
      intro r10 h
      obtain ⟨c12, k11, rfl, h⟩ := h
      refine qc_callS (c := c12) (k := k11) (As := [.int a3, .int r10]) (rest := [.ref v7]) E_X1_cell rfl M_X1_known rfl q494 q495 rfl rfl (Nat.le_of_ble_eq_true rfl) dX1_cell_34 (qc_S.mono ?_ (C_X1_known (d := d + 7) hO hP a3 r10 hp k11 _ _ h))
      clear h
      rintro _ tz (hz | hz)
      · obtain ⟨r13, rfl, rfl, h⟩ := hz
        refine K1_i ?_
        refine re_iald E_X1_cell dX1_cell_37 h ?_
        clear h
        intro v14 h
        exact qc_iret E_X1_cell rfl dX1_cell_38 (Or.inl (⟨_, rfl, rfl, h⟩))
      · revert tz; rintro _ ⟨Ez, rfl, rfl, h⟩
        refine K1_x ?_
        exact qc_out (by decide) (Or.inr ⟨_, rfl, rfl, h⟩)
    · revert tz; rintro _ ⟨Ez, rfl, rfl, h⟩
      refine K1_x ?_
      exact qc_out (by decide) (Or.inr ⟨_, rfl, rfl, h⟩)
  · revert tz; rintro _ ⟨Ez, rfl, rfl, h⟩
    refine K1_x ?_
    exact qc_out (by decide) (Or.inr ⟨_, rfl, rfl, h⟩)
def I_X1_lineAt : qh_I := (yX1_lineAt, cX1_lineAt, 2, (Option.some (Jvm.ClassFile.FieldType.object "QueryHarbor$Line")), [])
theorem E_X1_lineAt : I_X1_lineAt.2.1 = cX1_lineAt := rfl
theorem M_X1_lineAt : qh_M I_X1_lineAt 1 := ⟨by decide, by decide, by decide +kernel, q85, q1097, by decide⟩
def T_X1_lineAt (g : qh_G) (a0 : Nat) (a1 : Int32) (hp : qc_H) (c : Nat) (K : Nat → Prop) (KX : String → Prop) : Prop := eR hp a0 0 0 (fun v1 => eK c (fun c3 k2 => T_X1_known g a1 3 hp k2 (fun r4 => eQ g.2.2.2.1 4 hp v1 r4 (fun v5 => K v5)) (fun Ez => KX Ez)))
set_option maxHeartbeats 8000000 in
theorem C_X1_lineAt {g : qh_G} {x : qc_X} {d : Nat} {sd : String → Nat → Nat} (hO : qc_O g x) (hP : qc_P g qp_ts sd) (a0 : Nat) (a1 : Int32) (hp : qc_H) (c : Nat) (K : Nat → Prop) (KX : String → Prop) (hz : T_X1_lineAt g a0 a1 hp c K KX) : qc_S g x (d + 1) c I_X1_lineAt [.ref a0, .int a1] hp (oX (oR (fun v t => hp = t ∧ K v)) (fun E t => hp = t ∧ KX E)) := by
  refine qc_S.of (by decide) rfl (ls := [some (.ref a0), some (.int a1)]) rfl (Nat.le_of_ble_eq_true rfl) (ct_c rfl (ct_c rfl ct_n)) ?_
  unfold T_X1_lineAt at hz
  have h := hz
  clear hz
  refine qc_aload_n E_X1_lineAt (by rfl) dX1_lineAt_0 ?_
  refine re_getR E_X1_lineAt rfl ck_X1 (by decide) 0 (by decide) q298 dX1_lineAt_1 h ?_
  clear h
  intro v1 h
  refine qc_iload_n E_X1_lineAt (by rfl) dX1_lineAt_4 ?_
  refine qc_iconst E_X1_lineAt 3 (by decide) dX1_lineAt_5 ?_
  obtain ⟨c3, k2, rfl, h⟩ := h
  refine qc_callS (c := c3) (k := k2) (As := [.int a1, .int 3]) (rest := [.ref v1]) E_X1_lineAt rfl M_X1_known rfl q494 q495 rfl rfl (Nat.le_of_ble_eq_true rfl) dX1_lineAt_6 (qc_S.mono ?_ (C_X1_known (d := d) hO hP a1 3 hp k2 _ _ h))
  clear h
  rintro _ tz (hz | hz)
  · obtain ⟨r4, rfl, rfl, h⟩ := hz
    refine K1_i ?_
    refine re_aald 4 (fun _ => rfl) E_X1_lineAt dX1_lineAt_9 h ?_
    clear h
    intro v5 h
    exact qc_aret E_X1_lineAt rfl (Or.inl ⟨_, rfl⟩) (Or.inr ⟨_, rfl⟩) dX1_lineAt_10 (Or.inl (⟨_, rfl, rfl, h⟩))
  · revert tz; rintro _ ⟨Ez, rfl, rfl, h⟩
    refine K1_x ?_
    exact qc_out (by decide) (Or.inr ⟨_, rfl, rfl, h⟩)
def I_X1_inRange : qh_I := (yX1_inRange, cX1_inRange, 3, (Option.none : Option Jvm.ClassFile.FieldType), [])
theorem E_X1_inRange : I_X1_inRange.2.1 = cX1_inRange := rfl
theorem M_X1_inRange : qh_M I_X1_inRange 3 := ⟨by decide, by decide, by decide +kernel, q85, q1100, by decide⟩
def T_X1_inRange (g : qh_G) (a1 : Int32) (a2 : Int32) (a3 : Int32) (hp : qc_H) (c : Nat) (K : Prop) (KX : String → Prop) : Prop := ∀ J3 : Int32 → Prop, (∀ (x4 : Int32), (eK c (fun c6 k5 => T_X1_fit g x4 hp k5 (K) (fun Ez => KX Ez))) → J3 x4) → (a1 < a2 → J3 0) ∧ (¬ a1 < a2 → (a3 < a1 → J3 0) ∧ (¬ a3 < a1 → J3 1))
set_option maxHeartbeats 8000000 in
theorem C_X1_inRange {g : qh_G} {x : qc_X} {d : Nat} {sd : String → Nat → Nat} (hO : qc_O g x) (hP : qc_P g qp_ts sd) (a1 : Int32) (a2 : Int32) (a3 : Int32) (hp : qc_H) (c : Nat) (K : Prop) (KX : String → Prop) (hz : T_X1_inRange g a1 a2 a3 hp c K KX) : qc_S g x (d + 1) c I_X1_inRange [.int a1, .int a2, .int a3] hp (oX (oV (fun t => hp = t ∧ K)) (fun E t => hp = t ∧ KX E)) := by
  refine qc_S.of (by decide) rfl (ls := [some (.int a1), some (.int a2), some (.int a3)]) rfl (Nat.le_of_ble_eq_true rfl) (ct_c rfl (ct_c rfl (ct_c rfl ct_n))) ?_
  unfold T_X1_inRange at hz
  have h := hz
  clear hz
  refine qc_iload_n E_X1_inRange (by rfl) dX1_inRange_0 ?_
  refine qc_iload_n E_X1_inRange (by rfl) dX1_inRange_1 ?_
  have jz := h (fun (x4 : Int32) => qc_wp g x (d + 1) c I_X1_inRange 15 [none, none, none] [.int x4] hp (oX (oV (fun t => hp = t ∧ K)) (fun E t => hp = t ∧ KX E)))
  clear h
  have h := jz (by
    intro x4 h
    obtain ⟨c6, k5, rfl, h⟩ := h
    refine qc_callS (c := c6) (k := k5) (As := [.int x4]) (rest := []) E_X1_inRange rfl M_X1_fit rfl q540 q541 rfl rfl (Nat.le_of_ble_eq_true rfl) dX1_inRange_15 (qc_S.mono ?_ (C_X1_fit (d := d) hO hP x4 hp k5 _ _ h))
    clear h
    rintro _ tz (hz | hz)
    · obtain ⟨rfl, rfl, h⟩ := hz
      refine K1_v ?_
      exact qc_vret E_X1_inRange rfl dX1_inRange_18 (Or.inl (⟨rfl, rfl, h⟩))
    · revert tz; rintro _ ⟨Ez, rfl, rfl, h⟩
      refine K1_x ?_
      exact qc_out (by decide) (Or.inr ⟨_, rfl, rfl, h⟩))
  clear jz
  refine qc_icmp_lt E_X1_inRange 14 dX1_inRange_2 (by decide) (fun (c1 : a1 < a2) => ?_) (fun (c1 : ¬ a1 < a2) => ?_)
  · replace h := h.1 c1
    refine qc_iconst E_X1_inRange 0 (by decide) dX1_inRange_14 ?_
    refine qc_drop 0 ?_
    refine qc_drop 1 ?_
    refine qc_drop 2 ?_
    exact h
  · replace h := h.2 c1
    refine qc_iload_n E_X1_inRange (by rfl) dX1_inRange_5 ?_
    refine qc_iload_n E_X1_inRange (by rfl) dX1_inRange_6 ?_
    refine qc_icmp_gt E_X1_inRange 14 dX1_inRange_7 (by decide) (fun (c2 : a3 < a1) => ?_) (fun (c2 : ¬ a3 < a1) => ?_)
    · replace h := h.1 c2
      refine qc_iconst E_X1_inRange 0 (by decide) dX1_inRange_14 ?_
      refine qc_drop 0 ?_
      refine qc_drop 1 ?_
      refine qc_drop 2 ?_
      exact h
    · replace h := h.2 c2
      refine qc_iconst E_X1_inRange 1 (by decide) dX1_inRange_10 ?_
      refine qc_goto E_X1_inRange 15 dX1_inRange_11 (by decide) ?_
      refine qc_drop 0 ?_
      refine qc_drop 1 ?_
      refine qc_drop 2 ?_
      exact h
def I_X1_setPace : qh_I := (yX1_setPace, cX1_setPace, 6, (Option.some Jvm.ClassFile.FieldType.int), [])
theorem E_X1_setPace : I_X1_setPace.2.1 = cX1_setPace := rfl
theorem M_X1_setPace : qh_M I_X1_setPace 3 := ⟨by decide, by decide, by decide +kernel, q85, q1093, by decide⟩
def T_X1_setPace (g : qh_G) (a0 : Nat) (a1 : Int32) (a2 : Int32) (a3 : Int32) (hp : qc_H) (c : Nat) (K : Int32 → qc_H → Prop) (KX : String → qc_H → Prop) : Prop := eC hp a0 0 (eK c (fun c2 k1 => T_X1_lineAt g a0 a1 hp k1 (fun r3 => eK c2 (fun c5 k4 => T_X1_inRange g a2 0 30 hp k4 (eK c5 (fun c7 k6 => T_X1_inRange g a3 0 60 hp k6 (eI hp r3 1 1 (fun v8 => eP hp r3 1 1 (.int a2) (fun h9 => eP h9 r3 1 2 (.int a3) (fun h10 => K v8 h10)))) (fun Ez => KX Ez hp))) (fun Ez => KX Ez hp))) (fun Ez => KX Ez hp)))
set_option maxHeartbeats 8000000 in
theorem C_X1_setPace {g : qh_G} {x : qc_X} {d : Nat} {sd : String → Nat → Nat} (hO : qc_O g x) (hP : qc_P g qp_ts sd) (a0 : Nat) (a1 : Int32) (a2 : Int32) (a3 : Int32) (hp : qc_H) (c : Nat) (K : Int32 → qc_H → Prop) (KX : String → qc_H → Prop) (hz : T_X1_setPace g a0 a1 a2 a3 hp c K KX) : qc_S g x (d + 2) c I_X1_setPace [.ref a0, .int a1, .int a2, .int a3] hp (oX (oI K) KX) := by
  refine qc_S.of (by decide) rfl (ls := [some (.ref a0), some (.int a1), some (.int a2), some (.int a3), none, none]) rfl (Nat.le_of_ble_eq_true rfl) (ct_c rfl (ct_c rfl (ct_c rfl (ct_c rfl ct_n)))) ?_
  unfold T_X1_setPace at hz
  have h := hz
  clear hz
  refine qc_aload_n E_X1_setPace (by rfl) dX1_setPace_0 ?_
  refine qc_iload_n E_X1_setPace (by rfl) dX1_setPace_1 ?_
  obtain ⟨⟨fz, hb⟩, c2, k1, rfl, h⟩ := h
  refine qc_callV (c := c2) (k := k1) (As := [.int a1]) (rest := []) hO E_X1_setPace rfl M_X1_lineAt rfl q1094 q1096 qs12 (ci := 0) rfl rfl hb rfl rfl (Nat.le_of_ble_eq_true rfl) dX1_setPace_2 (qc_S.mono ?_ (C_X1_lineAt (d := d) hO hP a0 a1 hp k1 _ _ h))
  clear h
  clear hb
  rintro _ tz (hz | hz)
  · obtain ⟨r3, rfl, rfl, h⟩ := hz
    refine K1_r ?_
    refine qc_astore E_X1_setPace (by decide) dX1_setPace_5 ?_
    refine qc_iload_n E_X1_setPace (by rfl) dX1_setPace_7 ?_
    refine qc_iconst E_X1_setPace 0 (by decide) dX1_setPace_8 ?_
    refine qc_bipush E_X1_setPace 30 (by decide) dX1_setPace_9 ?_
    obtain ⟨c5, k4, rfl, h⟩ := h
    refine qc_callS (c := c5) (k := k4) (As := [.int a2, .int 0, .int 30]) (rest := []) E_X1_setPace rfl M_X1_inRange rfl q1098 q1099 rfl rfl (Nat.le_of_ble_eq_true rfl) dX1_setPace_11 (qc_S.mono ?_ (C_X1_inRange (d := d) hO hP a2 0 30 hp k4 _ _ h))
    clear h
    rintro _ tz (hz | hz)
    · obtain ⟨rfl, rfl, h⟩ := hz
      refine K1_v ?_
      refine qc_iload_n E_X1_setPace (by rfl) dX1_setPace_14 ?_
      refine qc_iconst E_X1_setPace 0 (by decide) dX1_setPace_15 ?_
      refine qc_bipush E_X1_setPace 60 (by decide) dX1_setPace_16 ?_
      obtain ⟨c7, k6, rfl, h⟩ := h
      refine qc_callS (c := c7) (k := k6) (As := [.int a3, .int 0, .int 60]) (rest := []) E_X1_setPace rfl M_X1_inRange rfl q1098 q1099 rfl rfl (Nat.le_of_ble_eq_true rfl) dX1_setPace_18 (qc_S.mono ?_ (C_X1_inRange (d := d) hO hP a3 0 60 hp k6 _ _ h))
      clear h
      rintro _ tz (hz | hz)
      · obtain ⟨rfl, rfl, h⟩ := hz
        refine K1_v ?_
        refine qc_aload E_X1_setPace (by rfl) dX1_setPace_21 ?_
        refine re_getI E_X1_setPace rfl ck_X2 (by decide) 1 (by decide) q153 dX1_setPace_23 h ?_
        clear h
        intro v8 h
        refine qc_istore E_X1_setPace (by decide) dX1_setPace_26 ?_
        refine qc_aload E_X1_setPace (by rfl) dX1_setPace_28 ?_
        refine qc_iload_n E_X1_setPace (by rfl) dX1_setPace_30 ?_
        refine re_put E_X1_setPace rfl ck_X2 (by decide) 1 (by decide) q153 rfl rfl rfl dX1_setPace_31 h ?_
        clear h
        intro h9 h
        refine qc_aload E_X1_setPace (by rfl) dX1_setPace_34 ?_
        refine qc_iload_n E_X1_setPace (by rfl) dX1_setPace_36 ?_
        refine re_put E_X1_setPace rfl ck_X2 (by decide) 2 (by decide) q154 rfl rfl rfl dX1_setPace_37 h ?_
        clear h
        intro h10 h
        refine qc_iload E_X1_setPace (by rfl) dX1_setPace_40 ?_
        exact qc_iret E_X1_setPace rfl dX1_setPace_42 (Or.inl (⟨_, rfl, h⟩))
      · revert tz; rintro _ ⟨Ez, rfl, rfl, h⟩
        refine K1_x ?_
        exact qc_out (by decide) (Or.inr ⟨_, rfl, h⟩)
    · revert tz; rintro _ ⟨Ez, rfl, rfl, h⟩
      refine K1_x ?_
      exact qc_out (by decide) (Or.inr ⟨_, rfl, h⟩)
  · revert tz; rintro _ ⟨Ez, rfl, rfl, h⟩
    refine K1_x ?_
    exact qc_out (by decide) (Or.inr ⟨_, rfl, h⟩)
def I_X1_setBounds : qh_I := (yX1_setBounds, cX1_setBounds, 6, (Option.some Jvm.ClassFile.FieldType.int), [])
theorem E_X1_setBounds : I_X1_setBounds.2.1 = cX1_setBounds := rfl
theorem M_X1_setBounds : qh_M I_X1_setBounds 3 := ⟨by decide, by decide, by decide +kernel, q85, q1107, by decide⟩
def T_X1_setBounds (g : qh_G) (a0 : Nat) (a1 : Int32) (a2 : Int32) (a3 : Int32) (hp : qc_H) (c : Nat) (K : Int32 → qc_H → Prop) (KX : String → qc_H → Prop) : Prop := eC hp a0 0 (eK c (fun c2 k1 => T_X1_lineAt g a0 a1 hp k1 (fun r3 => eK c2 (fun c5 k4 => T_X1_inRange g a2 1 20 hp k4 (eK c5 (fun c7 k6 => T_X1_inRange g a3 0 12 hp k6 (eI hp r3 1 3 (fun v8 => eP hp r3 1 3 (.int a2) (fun h9 => eP h9 r3 1 4 (.int a3) (fun h10 => K v8 h10)))) (fun Ez => KX Ez hp))) (fun Ez => KX Ez hp))) (fun Ez => KX Ez hp)))
set_option maxHeartbeats 8000000 in
theorem C_X1_setBounds {g : qh_G} {x : qc_X} {d : Nat} {sd : String → Nat → Nat} (hO : qc_O g x) (hP : qc_P g qp_ts sd) (a0 : Nat) (a1 : Int32) (a2 : Int32) (a3 : Int32) (hp : qc_H) (c : Nat) (K : Int32 → qc_H → Prop) (KX : String → qc_H → Prop) (hz : T_X1_setBounds g a0 a1 a2 a3 hp c K KX) : qc_S g x (d + 2) c I_X1_setBounds [.ref a0, .int a1, .int a2, .int a3] hp (oX (oI K) KX) := by
  refine qc_S.of (by decide) rfl (ls := [some (.ref a0), some (.int a1), some (.int a2), some (.int a3), none, none]) rfl (Nat.le_of_ble_eq_true rfl) (ct_c rfl (ct_c rfl (ct_c rfl (ct_c rfl ct_n)))) ?_
  unfold T_X1_setBounds at hz
  have h := hz
  clear hz
  refine qc_aload_n E_X1_setBounds (by rfl) dX1_setBounds_0 ?_
  refine qc_iload_n E_X1_setBounds (by rfl) dX1_setBounds_1 ?_
  obtain ⟨⟨fz, hb⟩, c2, k1, rfl, h⟩ := h
  refine qc_callV (c := c2) (k := k1) (As := [.int a1]) (rest := []) hO E_X1_setBounds rfl M_X1_lineAt rfl q1094 q1096 qs12 (ci := 0) rfl rfl hb rfl rfl (Nat.le_of_ble_eq_true rfl) dX1_setBounds_2 (qc_S.mono ?_ (C_X1_lineAt (d := d) hO hP a0 a1 hp k1 _ _ h))
  clear h
  clear hb
  rintro _ tz (hz | hz)
  · obtain ⟨r3, rfl, rfl, h⟩ := hz
    refine K1_r ?_
    refine qc_astore E_X1_setBounds (by decide) dX1_setBounds_5 ?_
    refine qc_iload_n E_X1_setBounds (by rfl) dX1_setBounds_7 ?_
    refine qc_iconst E_X1_setBounds 1 (by decide) dX1_setBounds_8 ?_
    refine qc_bipush E_X1_setBounds 20 (by decide) dX1_setBounds_9 ?_
    obtain ⟨c5, k4, rfl, h⟩ := h
    refine qc_callS (c := c5) (k := k4) (As := [.int a2, .int 1, .int 20]) (rest := []) E_X1_setBounds rfl M_X1_inRange rfl q1098 q1099 rfl rfl (Nat.le_of_ble_eq_true rfl) dX1_setBounds_11 (qc_S.mono ?_ (C_X1_inRange (d := d) hO hP a2 1 20 hp k4 _ _ h))
    clear h
    rintro _ tz (hz | hz)
    · obtain ⟨rfl, rfl, h⟩ := hz
      refine K1_v ?_
      refine qc_iload_n E_X1_setBounds (by rfl) dX1_setBounds_14 ?_
      refine qc_iconst E_X1_setBounds 0 (by decide) dX1_setBounds_15 ?_
      refine qc_bipush E_X1_setBounds 12 (by decide) dX1_setBounds_16 ?_
      obtain ⟨c7, k6, rfl, h⟩ := h
      refine qc_callS (c := c7) (k := k6) (As := [.int a3, .int 0, .int 12]) (rest := []) E_X1_setBounds rfl M_X1_inRange rfl q1098 q1099 rfl rfl (Nat.le_of_ble_eq_true rfl) dX1_setBounds_18 (qc_S.mono ?_ (C_X1_inRange (d := d) hO hP a3 0 12 hp k6 _ _ h))
      clear h
      rintro _ tz (hz | hz)
      · obtain ⟨rfl, rfl, h⟩ := hz
        refine K1_v ?_
        refine qc_aload E_X1_setBounds (by rfl) dX1_setBounds_21 ?_
        refine re_getI E_X1_setBounds rfl ck_X2 (by decide) 3 (by decide) q156 dX1_setBounds_23 h ?_
        clear h
        intro v8 h
        refine qc_istore E_X1_setBounds (by decide) dX1_setBounds_26 ?_
        refine qc_aload E_X1_setBounds (by rfl) dX1_setBounds_28 ?_
        refine qc_iload_n E_X1_setBounds (by rfl) dX1_setBounds_30 ?_
        refine re_put E_X1_setBounds rfl ck_X2 (by decide) 3 (by decide) q156 rfl rfl rfl dX1_setBounds_31 h ?_
        clear h
        intro h9 h
        refine qc_aload E_X1_setBounds (by rfl) dX1_setBounds_34 ?_
        refine qc_iload_n E_X1_setBounds (by rfl) dX1_setBounds_36 ?_
        refine re_put E_X1_setBounds rfl ck_X2 (by decide) 4 (by decide) q158 rfl rfl rfl dX1_setBounds_37 h ?_
        clear h
        intro h10 h
        refine qc_iload E_X1_setBounds (by rfl) dX1_setBounds_40 ?_
        exact qc_iret E_X1_setBounds rfl dX1_setBounds_42 (Or.inl (⟨_, rfl, h⟩))
      · revert tz; rintro _ ⟨Ez, rfl, rfl, h⟩
        refine K1_x ?_
        exact qc_out (by decide) (Or.inr ⟨_, rfl, h⟩)
    · revert tz; rintro _ ⟨Ez, rfl, rfl, h⟩
      refine K1_x ?_
      exact qc_out (by decide) (Or.inr ⟨_, rfl, h⟩)
  · revert tz; rintro _ ⟨Ez, rfl, rfl, h⟩
    refine K1_x ?_
    exact qc_out (by decide) (Or.inr ⟨_, rfl, h⟩)
def I_X1_setLease : qh_I := (yX1_setLease, cX1_setLease, 5, (Option.some Jvm.ClassFile.FieldType.int), [])
theorem E_X1_setLease : I_X1_setLease.2.1 = cX1_setLease := rfl
theorem M_X1_setLease : qh_M I_X1_setLease 2 := ⟨by decide, by decide, by decide +kernel, q85, q1114, by decide⟩
def T_X1_setLease (g : qh_G) (a0 : Nat) (a1 : Int32) (a2 : Int32) (hp : qc_H) (c : Nat) (K : Int32 → qc_H → Prop) (KX : String → qc_H → Prop) : Prop := eC hp a0 0 (eK c (fun c2 k1 => T_X1_lineAt g a0 a1 hp k1 (fun r3 => eK c2 (fun c5 k4 => T_X1_inRange g a2 0 200 hp k4 (eI hp r3 1 5 (fun v6 => eP hp r3 1 5 (.int a2) (fun h7 => eI h7 a0 0 15 (fun v8 => eC h7 a0 0 (T_X1_goTo g a0 v8 h7 (fun h9 => K v6 h9)))))) (fun Ez => KX Ez hp))) (fun Ez => KX Ez hp)))
set_option maxHeartbeats 8000000 in
theorem C_X1_setLease {g : qh_G} {x : qc_X} {d : Nat} {sd : String → Nat → Nat} (hO : qc_O g x) (hP : qc_P g qp_ts sd) (a0 : Nat) (a1 : Int32) (a2 : Int32) (hp : qc_H) (c : Nat) (K : Int32 → qc_H → Prop) (KX : String → qc_H → Prop) (hz : T_X1_setLease g a0 a1 a2 hp c K KX) : qc_S g x (d + 8) c I_X1_setLease [.ref a0, .int a1, .int a2] hp (oX (oI K) KX) := by
  refine qc_S.of (by decide) rfl (ls := [some (.ref a0), some (.int a1), some (.int a2), none, none]) rfl (Nat.le_of_ble_eq_true rfl) (ct_c rfl (ct_c rfl (ct_c rfl ct_n))) ?_
  unfold T_X1_setLease at hz
  have h := hz
  clear hz
  refine qc_aload_n E_X1_setLease (by rfl) dX1_setLease_0 ?_
  refine qc_iload_n E_X1_setLease (by rfl) dX1_setLease_1 ?_
  obtain ⟨⟨fz, hb⟩, c2, k1, rfl, h⟩ := h
  refine qc_callV (c := c2) (k := k1) (As := [.int a1]) (rest := []) hO E_X1_setLease rfl M_X1_lineAt rfl q1094 q1096 qs12 (ci := 0) rfl rfl hb rfl rfl (Nat.le_of_ble_eq_true rfl) dX1_setLease_2 (qc_S.mono ?_ (C_X1_lineAt (d := d + 6) hO hP a0 a1 hp k1 _ _ h))
  clear h
  clear hb
  rintro _ tz (hz | hz)
  · obtain ⟨r3, rfl, rfl, h⟩ := hz
    refine K1_r ?_
    refine qc_astore_n E_X1_setLease (by decide) dX1_setLease_5 ?_
    refine qc_iload_n E_X1_setLease (by rfl) dX1_setLease_6 ?_
    refine qc_iconst E_X1_setLease 0 (by decide) dX1_setLease_7 ?_
    refine qc_sipush E_X1_setLease 200 (by decide) dX1_setLease_8 ?_
    obtain ⟨c5, k4, rfl, h⟩ := h
    refine qc_callS (c := c5) (k := k4) (As := [.int a2, .int 0, .int 200]) (rest := []) E_X1_setLease rfl M_X1_inRange rfl q1098 q1099 rfl rfl (Nat.le_of_ble_eq_true rfl) dX1_setLease_11 (qc_S.mono ?_ (C_X1_inRange (d := d + 6) hO hP a2 0 200 hp k4 _ _ h))
    clear h
    rintro _ tz (hz | hz)
    · obtain ⟨rfl, rfl, h⟩ := hz
      refine K1_v ?_
      refine qc_aload_n E_X1_setLease (by rfl) dX1_setLease_14 ?_
      refine re_getI E_X1_setLease rfl ck_X2 (by decide) 5 (by decide) q160 dX1_setLease_15 h ?_
      clear h
      intro v6 h
      refine qc_istore E_X1_setLease (by decide) dX1_setLease_18 ?_
      refine qc_aload_n E_X1_setLease (by rfl) dX1_setLease_20 ?_
      refine qc_iload_n E_X1_setLease (by rfl) dX1_setLease_21 ?_
      refine re_put E_X1_setLease rfl ck_X2 (by decide) 5 (by decide) q160 rfl rfl rfl dX1_setLease_22 h ?_
      clear h
      intro h7 h
      refine qc_aload_n E_X1_setLease (by rfl) dX1_setLease_25 ?_
      refine qc_aload_n E_X1_setLease (by rfl) dX1_setLease_26 ?_
      refine re_getI E_X1_setLease rfl ck_X1 (by decide) 15 (by decide) q316 dX1_setLease_27 h ?_
      clear h
      intro v8 h
      obtain ⟨⟨fz, hb⟩, h⟩ := h
      refine qc_callV (c := c5) (k := 0) (As := [.int v8]) (rest := []) hO E_X1_setLease rfl M_X1_goTo rfl q1009 q1011 qs8 (ci := 0) rfl rfl hb rfl rfl (Nat.le_of_ble_eq_true rfl) dX1_setLease_30 (qc_S.mono ?_ (C_X1_goTo (d := d) hO hP a0 v8 h7 _ h))
      clear h
      clear hb
      rintro _ h9 ⟨rfl, h⟩
      refine K1_v ?_
      refine qc_iload E_X1_setLease (by rfl) dX1_setLease_33 ?_
      exact qc_iret E_X1_setLease rfl dX1_setLease_35 (Or.inl (⟨_, rfl, h⟩))
    · revert tz; rintro _ ⟨Ez, rfl, rfl, h⟩
      refine K1_x ?_
      exact qc_out (by decide) (Or.inr ⟨_, rfl, h⟩)
  · revert tz; rintro _ ⟨Ez, rfl, rfl, h⟩
    refine K1_x ?_
    exact qc_out (by decide) (Or.inr ⟨_, rfl, h⟩)
def I_X1_fail : qh_I := (yX1_fail, cX1_fail, 6, (Option.some Jvm.ClassFile.FieldType.int), [])
theorem E_X1_fail : I_X1_fail.2.1 = cX1_fail := rfl
theorem M_X1_fail : qh_M I_X1_fail 3 := ⟨by decide, by decide, by decide +kernel, q85, q1121, by decide⟩
def T_X1_fail (g : qh_G) (a0 : Nat) (a1 : Int32) (a2 : Int32) (a3 : Int32) (hp : qc_H) (c : Nat) (K : Int32 → qc_H → Prop) (KX : String → qc_H → Prop) : Prop := eC hp a0 0 (eK c (fun c2 k1 => T_X1_lineAt g a0 a1 hp k1 (fun r3 => eK c2 (fun c5 k4 => T_X1_inRange g a2 0 20 hp k4 (eI hp r3 1 6 (fun v6 => eP hp r3 1 6 (.int a2) (fun h7 => (a3 = 0 ∨ a3 = 1) ∧ eP h7 r3 1 7 (.int a3) (fun h8 => K v6 h8)))) (fun Ez => KX Ez hp))) (fun Ez => KX Ez hp)))
set_option maxHeartbeats 8000000 in
theorem C_X1_fail {g : qh_G} {x : qc_X} {d : Nat} {sd : String → Nat → Nat} (hO : qc_O g x) (hP : qc_P g qp_ts sd) (a0 : Nat) (a1 : Int32) (a2 : Int32) (a3 : Int32) (hp : qc_H) (c : Nat) (K : Int32 → qc_H → Prop) (KX : String → qc_H → Prop) (hz : T_X1_fail g a0 a1 a2 a3 hp c K KX) : qc_S g x (d + 2) c I_X1_fail [.ref a0, .int a1, .int a2, .int a3] hp (oX (oI K) KX) := by
  refine qc_S.of (by decide) rfl (ls := [some (.ref a0), some (.int a1), some (.int a2), some (.int a3), none, none]) rfl (Nat.le_of_ble_eq_true rfl) (ct_c rfl (ct_c rfl (ct_c rfl (ct_c rfl ct_n)))) ?_
  unfold T_X1_fail at hz
  have h := hz
  clear hz
  refine qc_aload_n E_X1_fail (by rfl) dX1_fail_0 ?_
  refine qc_iload_n E_X1_fail (by rfl) dX1_fail_1 ?_
  obtain ⟨⟨fz, hb⟩, c2, k1, rfl, h⟩ := h
  refine qc_callV (c := c2) (k := k1) (As := [.int a1]) (rest := []) hO E_X1_fail rfl M_X1_lineAt rfl q1094 q1096 qs12 (ci := 0) rfl rfl hb rfl rfl (Nat.le_of_ble_eq_true rfl) dX1_fail_2 (qc_S.mono ?_ (C_X1_lineAt (d := d) hO hP a0 a1 hp k1 _ _ h))
  clear h
  clear hb
  rintro _ tz (hz | hz)
  · obtain ⟨r3, rfl, rfl, h⟩ := hz
    refine K1_r ?_
    refine qc_astore E_X1_fail (by decide) dX1_fail_5 ?_
    refine qc_iload_n E_X1_fail (by rfl) dX1_fail_7 ?_
    refine qc_iconst E_X1_fail 0 (by decide) dX1_fail_8 ?_
    refine qc_bipush E_X1_fail 20 (by decide) dX1_fail_9 ?_
    obtain ⟨c5, k4, rfl, h⟩ := h
    refine qc_callS (c := c5) (k := k4) (As := [.int a2, .int 0, .int 20]) (rest := []) E_X1_fail rfl M_X1_inRange rfl q1098 q1099 rfl rfl (Nat.le_of_ble_eq_true rfl) dX1_fail_11 (qc_S.mono ?_ (C_X1_inRange (d := d) hO hP a2 0 20 hp k4 _ _ h))
    clear h
    rintro _ tz (hz | hz)
    · obtain ⟨rfl, rfl, h⟩ := hz
      refine K1_v ?_
      refine qc_aload E_X1_fail (by rfl) dX1_fail_14 ?_
      refine re_getI E_X1_fail rfl ck_X2 (by decide) 6 (by decide) q161 dX1_fail_16 h ?_
      clear h
      intro v6 h
      refine qc_istore E_X1_fail (by decide) dX1_fail_19 ?_
      refine qc_aload E_X1_fail (by rfl) dX1_fail_21 ?_
      refine qc_iload_n E_X1_fail (by rfl) dX1_fail_23 ?_
      refine re_put E_X1_fail rfl ck_X2 (by decide) 6 (by decide) q161 rfl rfl rfl dX1_fail_24 h ?_
      clear h
      intro h7 h
      refine qc_aload E_X1_fail (by rfl) dX1_fail_27 ?_
      refine qc_iload_n E_X1_fail (by rfl) dX1_fail_29 ?_
      obtain ⟨o9, h⟩ := h
      refine re_put E_X1_fail rfl ck_X2 (by decide) 7 (by decide) q162 rfl (qm_nb o9) (qm_fb o9) dX1_fail_30 h ?_
      clear h
      intro h8 h
      refine qc_iload E_X1_fail (by rfl) dX1_fail_33 ?_
      exact qc_iret E_X1_fail rfl dX1_fail_35 (Or.inl (⟨_, rfl, h⟩))
    · revert tz; rintro _ ⟨Ez, rfl, rfl, h⟩
      refine K1_x ?_
      exact qc_out (by decide) (Or.inr ⟨_, rfl, h⟩)
  · revert tz; rintro _ ⟨Ez, rfl, rfl, h⟩
    refine K1_x ?_
    exact qc_out (by decide) (Or.inr ⟨_, rfl, h⟩)
def I_X1_forbid : qh_I := (yX1_forbid, cX1_forbid, 5, (Option.some Jvm.ClassFile.FieldType.boolean), [])
theorem E_X1_forbid : I_X1_forbid.2.1 = cX1_forbid := rfl
theorem M_X1_forbid : qh_M I_X1_forbid 3 := ⟨by decide, by decide, by decide +kernel, q85, q1128, by decide⟩
def T_X1_forbid (g : qh_G) (a0 : Nat) (a1 : Int32) (a2 : Int32) (a3 : Int32) (hp : qc_H) (c : Nat) (K : Int32 → qc_H → Prop) (KX : String → qc_H → Prop) : Prop := eK c (fun c2 k1 => T_X1_known g a1 6 hp k1 (fun r3 => eK c2 (fun c5 k4 => T_X1_known g a2 3 hp k4 (fun r6 => eR hp a0 0 2 (fun v7 => eQ g.2.2.2.1 8 hp v7 a1 (fun v8 => eZ g.2.2.2.1 hp v8 a2 (fun v9 => eR hp a0 0 2 (fun v10 => eQ g.2.2.2.1 8 hp v10 a1 (fun v11 => (a3 = 0 ∨ a3 = 1) ∧ eZW g.2.2.2.1 hp v11 a2 a3 (fun h12 => (v9 = 0 ∨ v9 = 1) ∧ K v9 h12))))))) (fun Ez => KX Ez hp))) (fun Ez => KX Ez hp))
set_option maxHeartbeats 8000000 in
theorem C_X1_forbid {g : qh_G} {x : qc_X} {d : Nat} {sd : String → Nat → Nat} (hO : qc_O g x) (hP : qc_P g qp_ts sd) (a0 : Nat) (a1 : Int32) (a2 : Int32) (a3 : Int32) (hp : qc_H) (c : Nat) (K : Int32 → qc_H → Prop) (KX : String → qc_H → Prop) (hz : T_X1_forbid g a0 a1 a2 a3 hp c K KX) : qc_S g x (d + 1) c I_X1_forbid [.ref a0, .int a1, .int a2, .int a3] hp (oX (oZ K) KX) := by
  refine qc_S.of (by decide) rfl (ls := [some (.ref a0), some (.int a1), some (.int a2), some (.int a3), none]) rfl (Nat.le_of_ble_eq_true rfl) (ct_c rfl (ct_c rfl (ct_c rfl (ct_c rfl ct_n)))) ?_
  unfold T_X1_forbid at hz
  have h := hz
  clear hz
  refine qc_iload_n E_X1_forbid (by rfl) dX1_forbid_0 ?_
  refine qc_bipush E_X1_forbid 6 (by decide) dX1_forbid_1 ?_
  obtain ⟨c2, k1, rfl, h⟩ := h
  refine qc_callS (c := c2) (k := k1) (As := [.int a1, .int 6]) (rest := []) E_X1_forbid rfl M_X1_known rfl q494 q495 rfl rfl (Nat.le_of_ble_eq_true rfl) dX1_forbid_3 (qc_S.mono ?_ (C_X1_known (d := d) hO hP a1 6 hp k1 _ _ h))
  clear h
  rintro _ tz (hz | hz)
  · obtain ⟨r3, rfl, rfl, h⟩ := hz
    refine K1_i ?_
    refine qc_pop E_X1_forbid rfl dX1_forbid_6 ?_
    refine qc_iload_n E_X1_forbid (by rfl) dX1_forbid_7 ?_
    refine qc_iconst E_X1_forbid 3 (by decide) dX1_forbid_8 ?_
    obtain ⟨c5, k4, rfl, h⟩ := h
    refine qc_callS (c := c5) (k := k4) (As := [.int a2, .int 3]) (rest := []) E_X1_forbid rfl M_X1_known rfl q494 q495 rfl rfl (Nat.le_of_ble_eq_true rfl) dX1_forbid_9 (qc_S.mono ?_ (C_X1_known (d := d) hO hP a2 3 hp k4 _ _ h))
    clear h
    rintro _ tz (hz | hz)
    · obtain ⟨r6, rfl, rfl, h⟩ := hz
      refine K1_i ?_
      refine qc_pop E_X1_forbid rfl dX1_forbid_12 ?_
      refine qc_aload_n E_X1_forbid (by rfl) dX1_forbid_13 ?_
      refine re_getR E_X1_forbid rfl ck_X1 (by decide) 2 (by decide) q301 dX1_forbid_14 h ?_
      clear h
      intro v7 h
      refine qc_iload_n E_X1_forbid (by rfl) dX1_forbid_17 ?_
      refine re_aaldA 8 (fun _ => rfl) E_X1_forbid dX1_forbid_18 h ?_
      clear h
      intro v8 h
      refine qc_iload_n E_X1_forbid (by rfl) dX1_forbid_19 ?_
      refine re_zald E_X1_forbid dX1_forbid_20 h ?_
      clear h
      intro v9 h
      refine qc_istore E_X1_forbid (by decide) dX1_forbid_21 ?_
      refine qc_aload_n E_X1_forbid (by rfl) dX1_forbid_23 ?_
      refine re_getR E_X1_forbid rfl ck_X1 (by decide) 2 (by decide) q301 dX1_forbid_24 h ?_
      clear h
      intro v10 h
      refine qc_iload_n E_X1_forbid (by rfl) dX1_forbid_27 ?_
      refine re_aaldA 8 (fun _ => rfl) E_X1_forbid dX1_forbid_28 h ?_
      clear h
      intro v11 h
      refine qc_iload_n E_X1_forbid (by rfl) dX1_forbid_29 ?_
      refine qc_iload_n E_X1_forbid (by rfl) dX1_forbid_30 ?_
      obtain ⟨o13, h⟩ := h
      refine re_zast E_X1_forbid o13 dX1_forbid_31 h ?_
      clear h
      intro h12 h
      refine qc_iload E_X1_forbid (by rfl) dX1_forbid_32 ?_
      obtain ⟨o14, h⟩ := h
      exact qc_zret E_X1_forbid rfl (qm_nb o14) dX1_forbid_34 (Or.inl (⟨_, rfl, o14, h⟩))
    · revert tz; rintro _ ⟨Ez, rfl, rfl, h⟩
      refine K1_x ?_
      exact qc_out (by decide) (Or.inr ⟨_, rfl, h⟩)
  · revert tz; rintro _ ⟨Ez, rfl, rfl, h⟩
    refine K1_x ?_
    exact qc_out (by decide) (Or.inr ⟨_, rfl, h⟩)
def I_X1_pass : qh_I := (yX1_pass, cX1_pass, 2, (Option.some Jvm.ClassFile.FieldType.int), [])
theorem E_X1_pass : I_X1_pass.2.1 = cX1_pass := rfl
theorem M_X1_pass : qh_M I_X1_pass 1 := ⟨by decide, by decide, by decide +kernel, q85, q1135, by decide⟩
def T_X1_pass (g : qh_G) (a0 : Nat) (a1 : Int32) (hp : qc_H) (c : Nat) (K : Int32 → qc_H → Prop) (KX : String → qc_H → Prop) : Prop := eK c (fun c2 k1 => T_X1_inRange g a1 1 100 hp k1 (eI hp a0 0 15 (fun v3 => eC hp a0 0 (T_X1_goTo g a0 (v3 + a1) hp (fun h4 => eI h4 a0 0 15 (fun v5 => K v5 h4))))) (fun Ez => KX Ez hp))
set_option maxHeartbeats 8000000 in
theorem C_X1_pass {g : qh_G} {x : qc_X} {d : Nat} {sd : String → Nat → Nat} (hO : qc_O g x) (hP : qc_P g qp_ts sd) (a0 : Nat) (a1 : Int32) (hp : qc_H) (c : Nat) (K : Int32 → qc_H → Prop) (KX : String → qc_H → Prop) (hz : T_X1_pass g a0 a1 hp c K KX) : qc_S g x (d + 8) c I_X1_pass [.ref a0, .int a1] hp (oX (oI K) KX) := by
  refine qc_S.of (by decide) rfl (ls := [some (.ref a0), some (.int a1)]) rfl (Nat.le_of_ble_eq_true rfl) (ct_c rfl (ct_c rfl ct_n)) ?_
  unfold T_X1_pass at hz
  have h := hz
  clear hz
  refine qc_iload_n E_X1_pass (by rfl) dX1_pass_0 ?_
  refine qc_iconst E_X1_pass 1 (by decide) dX1_pass_1 ?_
  refine qc_bipush E_X1_pass 100 (by decide) dX1_pass_2 ?_
  obtain ⟨c2, k1, rfl, h⟩ := h
  refine qc_callS (c := c2) (k := k1) (As := [.int a1, .int 1, .int 100]) (rest := []) E_X1_pass rfl M_X1_inRange rfl q1098 q1099 rfl rfl (Nat.le_of_ble_eq_true rfl) dX1_pass_4 (qc_S.mono ?_ (C_X1_inRange (d := d + 6) hO hP a1 1 100 hp k1 _ _ h))
  clear h
  rintro _ tz (hz | hz)
  · obtain ⟨rfl, rfl, h⟩ := hz
    refine K1_v ?_
    refine qc_aload_n E_X1_pass (by rfl) dX1_pass_7 ?_
    refine qc_aload_n E_X1_pass (by rfl) dX1_pass_8 ?_
    refine re_getI E_X1_pass rfl ck_X1 (by decide) 15 (by decide) q316 dX1_pass_9 h ?_
    clear h
    intro v3 h
    refine qc_iload_n E_X1_pass (by rfl) dX1_pass_12 ?_
    refine qc_iadd E_X1_pass dX1_pass_13 ?_
    obtain ⟨⟨fz, hb⟩, h⟩ := h
    refine qc_callV (c := c2) (k := 0) (As := [.int (v3 + a1)]) (rest := []) hO E_X1_pass rfl M_X1_goTo rfl q1009 q1011 qs8 (ci := 0) rfl rfl hb rfl rfl (Nat.le_of_ble_eq_true rfl) dX1_pass_14 (qc_S.mono ?_ (C_X1_goTo (d := d) hO hP a0 (v3 + a1) hp _ h))
    clear h
    clear hb
    rintro _ h4 ⟨rfl, h⟩
    refine K1_v ?_
    refine qc_aload_n E_X1_pass (by rfl) dX1_pass_17 ?_
    refine re_getI E_X1_pass rfl ck_X1 (by decide) 15 (by decide) q316 dX1_pass_18 h ?_
    clear h
    intro v5 h
    exact qc_iret E_X1_pass rfl dX1_pass_21 (Or.inl (⟨_, rfl, h⟩))
  · revert tz; rintro _ ⟨Ez, rfl, rfl, h⟩
    refine K1_x ?_
    exact qc_out (by decide) (Or.inr ⟨_, rfl, h⟩)
def I_X1_seat : qh_I := (yX1_seat, cX1_seat, 2, (Option.some Jvm.ClassFile.FieldType.int), [])
theorem E_X1_seat : I_X1_seat.2.1 = cX1_seat := rfl
theorem M_X1_seat : qh_M I_X1_seat 1 := ⟨by decide, by decide, by decide +kernel, q85, q1142, by decide⟩
def T_X1_seat (g : qh_G) (a0 : Nat) (a1 : Int32) (hp : qc_H) (c : Nat) (K : Int32 → qc_H → Prop) (KX : String → qc_H → Prop) : Prop := eK c (fun c2 k1 => T_X1_known g a1 6 hp k1 (fun r3 => eR hp a0 0 5 (fun v4 => eSz hp v4 (fun n5 => ∀ J7 : Int32 → Prop, (∀ (x8 : Int32), (eK c2 (fun c10 k9 => T_X1_allowed g x8 hp k9 (eR hp a0 0 5 (fun v11 => eBx hp a1 c10 (fun w14 h12 c13 => eAd g h12 v11 w14 c13 (fun h15 c16 => eR h15 a0 0 5 (fun v17 => eSz h15 v17 (fun n18 => K (n18 - 1) h15)))))) (fun Ez => KX Ez hp))) → J7 x8) → (3 ≤ n5 → J7 0) ∧ (¬ 3 ≤ n5 → J7 1)))) (fun Ez => KX Ez hp))
set_option maxHeartbeats 8000000 in
theorem C_X1_seat {g : qh_G} {x : qc_X} {d : Nat} {sd : String → Nat → Nat} (hO : qc_O g x) (hP : qc_P g qp_ts sd) (a0 : Nat) (a1 : Int32) (hp : qc_H) (c : Nat) (K : Int32 → qc_H → Prop) (KX : String → qc_H → Prop) (hz : T_X1_seat g a0 a1 hp c K KX) : qc_S g x (d + 6) c I_X1_seat [.ref a0, .int a1] hp (oX (oI K) KX) := by
  refine qc_S.of (by decide) rfl (ls := [some (.ref a0), some (.int a1)]) rfl (Nat.le_of_ble_eq_true rfl) (ct_c rfl (ct_c rfl ct_n)) ?_
  unfold T_X1_seat at hz
  have h := hz
  clear hz
  refine qc_iload_n E_X1_seat (by rfl) dX1_seat_0 ?_
  refine qc_bipush E_X1_seat 6 (by decide) dX1_seat_1 ?_
  obtain ⟨c2, k1, rfl, h⟩ := h
  refine qc_callS (c := c2) (k := k1) (As := [.int a1, .int 6]) (rest := []) E_X1_seat rfl M_X1_known rfl q494 q495 rfl rfl (Nat.le_of_ble_eq_true rfl) dX1_seat_3 (qc_S.mono ?_ (C_X1_known (d := d + 5) hO hP a1 6 hp k1 _ _ h))
  clear h
  rintro _ tz (hz | hz)
  · obtain ⟨r3, rfl, rfl, h⟩ := hz
    refine K1_i ?_
    refine qc_pop E_X1_seat rfl dX1_seat_6 ?_
    refine qc_aload_n E_X1_seat (by rfl) dX1_seat_7 ?_
    refine re_getR E_X1_seat rfl ck_X1 (by decide) 5 (by decide) q305 dX1_seat_8 h ?_
    clear h
    intro v4 h
    refine re_size (d := d) hO E_X1_seat rfl q366 (Nat.le_of_ble_eq_true rfl) dX1_seat_11 h ?_
    clear h
    intro n5 h
    refine qc_iconst E_X1_seat 3 (by decide) dX1_seat_14 ?_
    have jz := h (fun (x8 : Int32) => qc_wp g x (d + 6) c2 I_X1_seat 23 [some (.ref a0), some (.int a1)] [.int x8] hp (oX (oI K) KX))
    clear h
    have h := jz (by
      intro x8 h
      obtain ⟨c10, k9, rfl, h⟩ := h
      refine qc_callS (c := c10) (k := k9) (As := [.int x8]) (rest := []) E_X1_seat rfl M_X1_allowed rfl q594 q595 rfl rfl (Nat.le_of_ble_eq_true rfl) dX1_seat_23 (qc_S.mono ?_ (C_X1_allowed (d := d + 5) hO hP x8 hp k9 _ _ h))
      clear h
      rintro _ tz (hz | hz)
      · obtain ⟨rfl, rfl, h⟩ := hz
        refine K1_v ?_
        refine qc_aload_n E_X1_seat (by rfl) dX1_seat_26 ?_
        refine re_getR E_X1_seat rfl ck_X1 (by decide) 5 (by decide) q305 dX1_seat_27 h ?_
        clear h
        intro v11 h
        refine qc_iload_n E_X1_seat (by rfl) dX1_seat_30 ?_
        refine re_box (d := d) hO E_X1_seat rfl q962 (Nat.le_of_ble_eq_true rfl) dX1_seat_31 h ?_
        clear h
        intro w14 h12 c13 h
        refine re_add (d := d) hO E_X1_seat rfl q982 (Nat.le_of_ble_eq_true rfl) dX1_seat_34 h ?_
        clear h
        intro h15 c16 h
        refine qc_pop E_X1_seat rfl dX1_seat_37 ?_
        refine qc_aload_n E_X1_seat (by rfl) dX1_seat_38 ?_
        refine re_getR E_X1_seat rfl ck_X1 (by decide) 5 (by decide) q305 dX1_seat_39 h ?_
        clear h
        intro v17 h
        refine re_size (d := d) hO E_X1_seat rfl q366 (Nat.le_of_ble_eq_true rfl) dX1_seat_42 h ?_
        clear h
        intro n18 h
        refine qc_iconst E_X1_seat 1 (by decide) dX1_seat_45 ?_
        refine qc_isub E_X1_seat dX1_seat_46 ?_
        exact qc_iret E_X1_seat rfl dX1_seat_47 (Or.inl (⟨_, rfl, h⟩))
      · revert tz; rintro _ ⟨Ez, rfl, rfl, h⟩
        refine K1_x ?_
        exact qc_out (by decide) (Or.inr ⟨_, rfl, h⟩))
    clear jz
    refine qc_icmp_ge E_X1_seat 22 dX1_seat_15 (by decide) (fun (c6 : 3 ≤ n5) => ?_) (fun (c6 : ¬ 3 ≤ n5) => ?_)
    · replace h := h.1 c6
      refine qc_iconst E_X1_seat 0 (by decide) dX1_seat_22 ?_
      exact h
    · replace h := h.2 c6
      refine qc_iconst E_X1_seat 1 (by decide) dX1_seat_18 ?_
      refine qc_goto E_X1_seat 23 dX1_seat_19 (by decide) ?_
      exact h
  · revert tz; rintro _ ⟨Ez, rfl, rfl, h⟩
    refine K1_x ?_
    exact qc_out (by decide) (Or.inr ⟨_, rfl, h⟩)
def I_X1_seatAt : qh_I := (yX1_seatAt, cX1_seatAt, 2, (Option.some (Jvm.ClassFile.FieldType.object "QueryHarbor$Source")), [])
theorem E_X1_seatAt : I_X1_seatAt.2.1 = cX1_seatAt := rfl
theorem M_X1_seatAt : qh_M I_X1_seatAt 1 := ⟨by decide, by decide, by decide +kernel, q85, q1157, by decide⟩
def T_X1_seatAt (g : qh_G) (a0 : Nat) (a1 : Int32) (hp : qc_H) (c : Nat) (K : Nat → Prop) (KX : String → Prop) : Prop := eR hp a0 0 1 (fun v1 => eR hp a0 0 5 (fun v2 => eR hp a0 0 5 (fun v3 => eSz hp v3 (fun n4 => eK c (fun c6 k5 => T_X1_known g a1 n4 hp k5 (fun r7 => eGt hp v2 r7 (fun p8 => eC hp p8 17 (eB hp p8 (fun v9 => eQ g.2.2.2.1 5 hp v1 v9 (fun v10 => K v10))))) (fun Ez => KX Ez))))))
set_option maxHeartbeats 8000000 in
theorem C_X1_seatAt {g : qh_G} {x : qc_X} {d : Nat} {sd : String → Nat → Nat} (hO : qc_O g x) (hP : qc_P g qp_ts sd) (a0 : Nat) (a1 : Int32) (hp : qc_H) (c : Nat) (K : Nat → Prop) (KX : String → Prop) (hz : T_X1_seatAt g a0 a1 hp c K KX) : qc_S g x (d + 6) c I_X1_seatAt [.ref a0, .int a1] hp (oX (oR (fun v t => hp = t ∧ K v)) (fun E t => hp = t ∧ KX E)) := by
  refine qc_S.of (by decide) rfl (ls := [some (.ref a0), some (.int a1)]) rfl (Nat.le_of_ble_eq_true rfl) (ct_c rfl (ct_c rfl ct_n)) ?_
  unfold T_X1_seatAt at hz
  have h := hz
  clear hz
  refine qc_aload_n E_X1_seatAt (by rfl) dX1_seatAt_0 ?_
  refine re_getR E_X1_seatAt rfl ck_X1 (by decide) 1 (by decide) q300 dX1_seatAt_1 h ?_
  clear h
  intro v1 h
  refine qc_aload_n E_X1_seatAt (by rfl) dX1_seatAt_4 ?_
  refine re_getR E_X1_seatAt rfl ck_X1 (by decide) 5 (by decide) q305 dX1_seatAt_5 h ?_
  clear h
  intro v2 h
  refine qc_iload_n E_X1_seatAt (by rfl) dX1_seatAt_8 ?_
  refine qc_aload_n E_X1_seatAt (by rfl) dX1_seatAt_9 ?_
  refine re_getR E_X1_seatAt rfl ck_X1 (by decide) 5 (by decide) q305 dX1_seatAt_10 h ?_
  clear h
  intro v3 h
  refine re_size (d := d) hO E_X1_seatAt rfl q366 (Nat.le_of_ble_eq_true rfl) dX1_seatAt_13 h ?_
  clear h
  intro n4 h
  obtain ⟨c6, k5, rfl, h⟩ := h
  refine qc_callS (c := c6) (k := k5) (As := [.int a1, .int n4]) (rest := [.ref v2, .ref v1]) E_X1_seatAt rfl M_X1_known rfl q494 q495 rfl rfl (Nat.le_of_ble_eq_true rfl) dX1_seatAt_16 (qc_S.mono ?_ (C_X1_known (d := d + 5) hO hP a1 n4 hp k5 _ _ h))
  clear h
  rintro _ tz (hz | hz)
  · obtain ⟨r7, rfl, rfl, h⟩ := hz
    refine K1_i ?_
    refine re_get (d := d) hO E_X1_seatAt rfl q1013 (Nat.le_of_ble_eq_true rfl) dX1_seatAt_19 h ?_
    clear h
    intro p8 h
    refine re_castS (ci := 17) hO E_X1_seatAt rfl rfl q1158 dX1_seatAt_22 h ?_
    clear h
    intro h
    refine re_unbox (d := d) hO E_X1_seatAt rfl q1159 (Nat.le_of_ble_eq_true rfl) dX1_seatAt_25 h ?_
    clear h
    intro v9 h
    refine re_aald 5 (fun _ => rfl) E_X1_seatAt dX1_seatAt_28 h ?_
    clear h
    intro v10 h
    exact qc_aret E_X1_seatAt rfl (Or.inl ⟨_, rfl⟩) (Or.inr ⟨_, rfl⟩) dX1_seatAt_29 (Or.inl (⟨_, rfl, rfl, h⟩))
  · revert tz; rintro _ ⟨Ez, rfl, rfl, h⟩
    refine K1_x ?_
    exact qc_out (by decide) (Or.inr ⟨_, rfl, rfl, h⟩)
def I_X1_knownColumn : qh_I := (yX1_knownColumn, cX1_knownColumn, 3, (Option.none : Option Jvm.ClassFile.FieldType), [])
theorem E_X1_knownColumn : I_X1_knownColumn.2.1 = cX1_knownColumn := rfl
theorem M_X1_knownColumn : qh_M I_X1_knownColumn 2 := ⟨by decide, by decide, by decide +kernel, q85, q1153, by decide⟩
def T_X1_knownColumn (g : qh_G) (a0 : Nat) (a1 : Int32) (a2 : Int32) (hp : qc_H) (c : Nat) (K : Prop) (KX : String → Prop) : Prop := eC hp a0 0 (eK c (fun c2 k1 => T_X1_seatAt g a0 a1 hp k1 (fun r3 => eR hp r3 6 1 (fun v4 => eR hp v4 1 0 (fun v5 => U_columns g hp v5 (fun r6 => eK c2 (fun c8 k7 => T_X1_known g a2 r6 hp k7 (fun r9 => K) (fun Ez => KX Ez)))))) (fun Ez => KX Ez)))
set_option maxHeartbeats 8000000 in
theorem C_X1_knownColumn {g : qh_G} {x : qc_X} {d : Nat} {sd : String → Nat → Nat} (hO : qc_O g x) (hP : qc_P g qp_ts sd) (a0 : Nat) (a1 : Int32) (a2 : Int32) (hp : qc_H) (c : Nat) (K : Prop) (KX : String → Prop) (hz : T_X1_knownColumn g a0 a1 a2 hp c K KX) : qc_S g x (d + 7) c I_X1_knownColumn [.ref a0, .int a1, .int a2] hp (oX (oV (fun t => hp = t ∧ K)) (fun E t => hp = t ∧ KX E)) := by
  refine qc_S.of (by decide) rfl (ls := [some (.ref a0), some (.int a1), some (.int a2)]) rfl (Nat.le_of_ble_eq_true rfl) (ct_c rfl (ct_c rfl (ct_c rfl ct_n))) ?_
  unfold T_X1_knownColumn at hz
  have h := hz
  clear hz
  refine qc_iload_n E_X1_knownColumn (by rfl) dX1_knownColumn_0 ?_
  refine qc_aload_n E_X1_knownColumn (by rfl) dX1_knownColumn_1 ?_
  refine qc_iload_n E_X1_knownColumn (by rfl) dX1_knownColumn_2 ?_
  obtain ⟨⟨fz, hb⟩, c2, k1, rfl, h⟩ := h
  refine qc_callV (c := c2) (k := k1) (As := [.int a1]) (rest := [.int a2]) hO E_X1_knownColumn rfl M_X1_seatAt rfl q1154 q1156 qs14 (ci := 0) rfl rfl hb rfl rfl (Nat.le_of_ble_eq_true rfl) dX1_knownColumn_3 (qc_S.mono ?_ (C_X1_seatAt (d := d) hO hP a0 a1 hp k1 _ _ h))
  clear h
  clear hb
  rintro _ tz (hz | hz)
  · obtain ⟨r3, rfl, rfl, h⟩ := hz
    refine K1_r ?_
    refine re_getR E_X1_knownColumn rfl ck_X7 (by decide) 1 (by decide) q275 dX1_knownColumn_6 h ?_
    clear h
    intro v4 h
    refine re_getR E_X1_knownColumn rfl ck_X2 (by decide) 0 (by decide) q151 dX1_knownColumn_9 h ?_
    clear h
    intro v5 h
    refine V_columns (d := d + 6) (rest := [.int a2]) hO hP E_X1_knownColumn rfl q1038 rfl (Nat.le_of_ble_eq_true rfl) dX1_knownColumn_12 h ?_
    clear h
    intro r6 h
    obtain ⟨c8, k7, rfl, h⟩ := h
    refine qc_callS (c := c8) (k := k7) (As := [.int a2, .int r6]) (rest := []) E_X1_knownColumn rfl M_X1_known rfl q494 q495 rfl rfl (Nat.le_of_ble_eq_true rfl) dX1_knownColumn_17 (qc_S.mono ?_ (C_X1_known (d := d + 6) hO hP a2 r6 hp k7 _ _ h))
    clear h
    rintro _ tz (hz | hz)
    · obtain ⟨r9, rfl, rfl, h⟩ := hz
      refine K1_i ?_
      refine qc_pop E_X1_knownColumn rfl dX1_knownColumn_20 ?_
      exact qc_vret E_X1_knownColumn rfl dX1_knownColumn_21 (Or.inl (⟨rfl, rfl, h⟩))
    · revert tz; rintro _ ⟨Ez, rfl, rfl, h⟩
      refine K1_x ?_
      exact qc_out (by decide) (Or.inr ⟨_, rfl, rfl, h⟩)
  · revert tz; rintro _ ⟨Ez, rfl, rfl, h⟩
    refine K1_x ?_
    exact qc_out (by decide) (Or.inr ⟨_, rfl, rfl, h⟩)
def I_X11_init : qh_I := (yX11_init, cX11_init, 5, (Option.none : Option Jvm.ClassFile.FieldType), [])
theorem E_X11_init : I_X11_init.2.1 = cX11_init := rfl
theorem M_X11_init : qh_M I_X11_init 4 := ⟨by decide, by decide, by decide +kernel, q119, q1167, by decide⟩
def T_X11_init (g : qh_G) (a0 : Nat) (a1 : Int32) (a2 : Int32) (a3 : Int32) (a4 : Int32) (hp : qc_H) (K : qc_H → Prop) : Prop := eP hp a0 10 0 (.int a1) (fun h1 => eP h1 a0 10 1 (.int a2) (fun h2 => eP h2 a0 10 2 (.int a3) (fun h3 => eP h3 a0 10 3 (.int a4) (fun h4 => K h4))))
set_option maxHeartbeats 8000000 in
theorem C_X11_init {g : qh_G} {x : qc_X} {d : Nat} {sd : String → Nat → Nat} (hO : qc_O g x) (hP : qc_P g qp_ts sd) (a0 : Nat) (a1 : Int32) (a2 : Int32) (a3 : Int32) (a4 : Int32) (hp : qc_H) (K : qc_H → Prop) (hz : T_X11_init g a0 a1 a2 a3 a4 hp K) : qc_S g x (d + 0) 0 I_X11_init [.ref a0, .int a1, .int a2, .int a3, .int a4] hp (oV K) := by
  refine qc_S.of (by decide) rfl (ls := [some (.ref a0), some (.int a1), some (.int a2), some (.int a3), some (.int a4)]) rfl (Nat.le_of_ble_eq_true rfl) (ct_c rfl (ct_c rfl (ct_c rfl (ct_c rfl (ct_c rfl ct_n))))) ?_
  unfold T_X11_init at hz
  have h := hz
  clear hz
  refine qc_aload_n E_X11_init (by rfl) dX11_init_0 ?_
  refine qc_objInit E_X11_init rfl q1168 q133 q134 dX11_init_1 (Nat.le_of_ble_eq_true rfl) ?_
  refine qc_aload_n E_X11_init (by rfl) dX11_init_4 ?_
  refine qc_iload_n E_X11_init (by rfl) dX11_init_5 ?_
  refine re_putF E_X11_init rfl rfl ck_X11 (by decide) 0 (by decide) q1169 rfl rfl rfl rfl dX11_init_6 h ?_
  clear h
  intro h1 h
  refine qc_aload_n E_X11_init (by rfl) dX11_init_9 ?_
  refine qc_iload_n E_X11_init (by rfl) dX11_init_10 ?_
  refine re_putF E_X11_init rfl rfl ck_X11 (by decide) 1 (by decide) q1171 rfl rfl rfl rfl dX11_init_11 h ?_
  clear h
  intro h2 h
  refine qc_aload_n E_X11_init (by rfl) dX11_init_14 ?_
  refine qc_iload_n E_X11_init (by rfl) dX11_init_15 ?_
  refine re_putF E_X11_init rfl rfl ck_X11 (by decide) 2 (by decide) q1172 rfl rfl rfl rfl dX11_init_16 h ?_
  clear h
  intro h3 h
  refine qc_aload_n E_X11_init (by rfl) dX11_init_19 ?_
  refine qc_iload E_X11_init (by rfl) dX11_init_20 ?_
  refine re_putF E_X11_init rfl rfl ck_X11 (by decide) 3 (by decide) q1174 rfl rfl rfl rfl dX11_init_22 h ?_
  clear h
  intro h4 h
  exact qc_vret E_X11_init rfl dX11_init_25 (⟨rfl, h⟩)
def I_X1_link : qh_I := (yX1_link, cX1_link, 5, (Option.some Jvm.ClassFile.FieldType.int), [])
theorem E_X1_link : I_X1_link.2.1 = cX1_link := rfl
theorem M_X1_link : qh_M I_X1_link 4 := ⟨by decide, by decide, by decide +kernel, q85, q1149, by decide⟩
def T_X1_link (g : qh_G) (a0 : Nat) (a1 : Int32) (a2 : Int32) (a3 : Int32) (a4 : Int32) (hp : qc_H) (c : Nat) (K : Int32 → qc_H → Prop) (KX : String → qc_H → Prop) : Prop := eC hp a0 0 (eK c (fun c2 k1 => T_X1_knownColumn g a0 a1 a2 hp k1 (eC hp a0 0 (eK c2 (fun c4 k3 => T_X1_knownColumn g a0 a3 a4 hp k3 (∀ J6 : Int32 → Prop, (∀ (x7 : Int32), (eK c4 (fun c9 k8 => T_X1_fit g x7 hp k8 (eR hp a0 0 6 (fun v10 => eSz hp v10 (fun n11 => ∀ J13 : Int32 → Prop, (∀ (x14 : Int32), (eK c9 (fun c16 k15 => T_X1_allowed g x14 hp k15 (eR hp a0 0 6 (fun v17 => eN hp c16 10 4 [.int 0, .int 0, .int 0, .int 0] (fun w18 h19 c20 => T_X11_init g w18 a1 a2 a3 a4 h19 (fun h21 => eAd g h21 v17 w18 c20 (fun h22 c23 => eR h22 a0 0 6 (fun v24 => eSz h22 v24 (fun n25 => K n25 h22))))))) (fun Ez => KX Ez hp))) → J13 x14) → (3 ≤ n11 → J13 0) ∧ (¬ 3 ≤ n11 → J13 1)))) (fun Ez => KX Ez hp))) → J6 x7) → (a3 ≤ a1 → J6 0) ∧ (¬ a3 ≤ a1 → J6 1)) (fun Ez => KX Ez hp)))) (fun Ez => KX Ez hp)))
set_option maxHeartbeats 8000000 in
theorem C_X1_link {g : qh_G} {x : qc_X} {d : Nat} {sd : String → Nat → Nat} (hO : qc_O g x) (hP : qc_P g qp_ts sd) (a0 : Nat) (a1 : Int32) (a2 : Int32) (a3 : Int32) (a4 : Int32) (hp : qc_H) (c : Nat) (K : Int32 → qc_H → Prop) (KX : String → qc_H → Prop) (hz : T_X1_link g a0 a1 a2 a3 a4 hp c K KX) : qc_S g x (d + 8) c I_X1_link [.ref a0, .int a1, .int a2, .int a3, .int a4] hp (oX (oI K) KX) := by
  refine qc_S.of (by decide) rfl (ls := [some (.ref a0), some (.int a1), some (.int a2), some (.int a3), some (.int a4)]) rfl (Nat.le_of_ble_eq_true rfl) (ct_c rfl (ct_c rfl (ct_c rfl (ct_c rfl (ct_c rfl ct_n))))) ?_
  unfold T_X1_link at hz
  have h := hz
  clear hz
  refine qc_aload_n E_X1_link (by rfl) dX1_link_0 ?_
  refine qc_iload_n E_X1_link (by rfl) dX1_link_1 ?_
  refine qc_iload_n E_X1_link (by rfl) dX1_link_2 ?_
  obtain ⟨⟨fz, hb⟩, c2, k1, rfl, h⟩ := h
  refine qc_callV (c := c2) (k := k1) (As := [.int a1, .int a2]) (rest := []) hO E_X1_link rfl M_X1_knownColumn rfl q1150 q1152 qs13 (ci := 0) rfl rfl hb rfl rfl (Nat.le_of_ble_eq_true rfl) dX1_link_3 (qc_S.mono ?_ (C_X1_knownColumn (d := d) hO hP a0 a1 a2 hp k1 _ _ h))
  clear h
  clear hb
  rintro _ tz (hz | hz)
  · obtain ⟨rfl, rfl, h⟩ := hz
    refine K1_v ?_
    refine qc_aload_n E_X1_link (by rfl) dX1_link_6 ?_
    refine qc_iload_n E_X1_link (by rfl) dX1_link_7 ?_
    refine qc_iload E_X1_link (by rfl) dX1_link_8 ?_
    obtain ⟨⟨fz, hb⟩, c4, k3, rfl, h⟩ := h
    refine qc_callV (c := c4) (k := k3) (As := [.int a3, .int a4]) (rest := []) hO E_X1_link rfl M_X1_knownColumn rfl q1150 q1152 qs13 (ci := 0) rfl rfl hb rfl rfl (Nat.le_of_ble_eq_true rfl) dX1_link_10 (qc_S.mono ?_ (C_X1_knownColumn (d := d) hO hP a0 a3 a4 hp k3 _ _ h))
    clear h
    clear hb
    rintro _ tz (hz | hz)
    · obtain ⟨rfl, rfl, h⟩ := hz
      refine K1_v ?_
      refine qc_iload_n E_X1_link (by rfl) dX1_link_13 ?_
      refine qc_iload_n E_X1_link (by rfl) dX1_link_14 ?_
      have jz := h (fun (x7 : Int32) => qc_wp g x (d + 8) c4 I_X1_link 23 [some (.ref a0), some (.int a1), some (.int a2), some (.int a3), some (.int a4)] [.int x7] hp (oX (oI K) KX))
      clear h
      have h := jz (by
        intro x7 h
        obtain ⟨c9, k8, rfl, h⟩ := h
        refine qc_callS (c := c9) (k := k8) (As := [.int x7]) (rest := []) E_X1_link rfl M_X1_fit rfl q540 q541 rfl rfl (Nat.le_of_ble_eq_true rfl) dX1_link_23 (qc_S.mono ?_ (C_X1_fit (d := d + 7) hO hP x7 hp k8 _ _ h))
        clear h
        rintro _ tz (hz | hz)
        · obtain ⟨rfl, rfl, h⟩ := hz
          refine K1_v ?_
          refine qc_aload_n E_X1_link (by rfl) dX1_link_26 ?_
          refine re_getR E_X1_link rfl ck_X1 (by decide) 6 (by decide) q306 dX1_link_27 h ?_
          clear h
          intro v10 h
          refine re_size (d := d + 2) hO E_X1_link rfl q366 (Nat.le_of_ble_eq_true rfl) dX1_link_30 h ?_
          clear h
          intro n11 h
          refine qc_iconst E_X1_link 3 (by decide) dX1_link_33 ?_
          have jz := h (fun (x14 : Int32) => qc_wp g x (d + 8) c9 I_X1_link 42 [some (.ref a0), some (.int a1), some (.int a2), some (.int a3), some (.int a4)] [.int x14] hp (oX (oI K) KX))
          clear h
          have h := jz (by
            intro x14 h
            obtain ⟨c16, k15, rfl, h⟩ := h
            refine qc_callS (c := c16) (k := k15) (As := [.int x14]) (rest := []) E_X1_link rfl M_X1_allowed rfl q594 q595 rfl rfl (Nat.le_of_ble_eq_true rfl) dX1_link_42 (qc_S.mono ?_ (C_X1_allowed (d := d + 7) hO hP x14 hp k15 _ _ h))
            clear h
            rintro _ tz (hz | hz)
            · obtain ⟨rfl, rfl, h⟩ := hz
              refine K1_v ?_
              refine qc_aload_n E_X1_link (by rfl) dX1_link_45 ?_
              refine re_getR E_X1_link rfl ck_X1 (by decide) 6 (by decide) q306 dX1_link_46 h ?_
              clear h
              intro v17 h
              refine re_new hO E_X1_link rfl ck_X11 q1163 q1164 q119 df_X11 dX1_link_49 h ?_
              clear h
              intro w18 h19 c20 h
              refine qc_dup E_X1_link rfl dX1_link_52 ?_
              refine qc_iload_n E_X1_link (by rfl) dX1_link_53 ?_
              refine qc_iload_n E_X1_link (by rfl) dX1_link_54 ?_
              refine qc_iload_n E_X1_link (by rfl) dX1_link_55 ?_
              refine qc_iload E_X1_link (by rfl) dX1_link_56 ?_
              refine qc_callI (c := c20) (k := 0) (As := [.int a1, .int a2, .int a3, .int a4]) (rest := [.ref w18, .ref v17]) E_X1_link rfl M_X11_init rfl rfl rfl q1165 q1166 rfl rfl (Nat.le_of_ble_eq_true rfl) dX1_link_58 (qc_S.mono ?_ (C_X11_init (d := d + 7) hO hP w18 a1 a2 a3 a4 h19 _ h))
              clear h
              rintro _ h21 ⟨rfl, h⟩
              refine K1_v ?_
              refine re_add (d := d + 2) hO E_X1_link rfl q982 (Nat.le_of_ble_eq_true rfl) dX1_link_61 h ?_
              clear h
              intro h22 c23 h
              refine qc_pop E_X1_link rfl dX1_link_64 ?_
              refine qc_aload_n E_X1_link (by rfl) dX1_link_65 ?_
              refine re_getR E_X1_link rfl ck_X1 (by decide) 6 (by decide) q306 dX1_link_66 h ?_
              clear h
              intro v24 h
              refine re_size (d := d + 2) hO E_X1_link rfl q366 (Nat.le_of_ble_eq_true rfl) dX1_link_69 h ?_
              clear h
              intro n25 h
              exact qc_iret E_X1_link rfl dX1_link_72 (Or.inl (⟨_, rfl, h⟩))
            · revert tz; rintro _ ⟨Ez, rfl, rfl, h⟩
              refine K1_x ?_
              exact qc_out (by decide) (Or.inr ⟨_, rfl, h⟩))
          clear jz
          refine qc_icmp_ge E_X1_link 41 dX1_link_34 (by decide) (fun (c12 : 3 ≤ n11) => ?_) (fun (c12 : ¬ 3 ≤ n11) => ?_)
          · replace h := h.1 c12
            refine qc_iconst E_X1_link 0 (by decide) dX1_link_41 ?_
            exact h
          · replace h := h.2 c12
            refine qc_iconst E_X1_link 1 (by decide) dX1_link_37 ?_
            refine qc_goto E_X1_link 42 dX1_link_38 (by decide) ?_
            exact h
        · revert tz; rintro _ ⟨Ez, rfl, rfl, h⟩
          refine K1_x ?_
          exact qc_out (by decide) (Or.inr ⟨_, rfl, h⟩))
      clear jz
      refine qc_icmp_le E_X1_link 22 dX1_link_15 (by decide) (fun (c5 : a3 ≤ a1) => ?_) (fun (c5 : ¬ a3 ≤ a1) => ?_)
      · replace h := h.1 c5
        refine qc_iconst E_X1_link 0 (by decide) dX1_link_22 ?_
        exact h
      · replace h := h.2 c5
        refine qc_iconst E_X1_link 1 (by decide) dX1_link_18 ?_
        refine qc_goto E_X1_link 23 dX1_link_19 (by decide) ?_
        exact h
    · revert tz; rintro _ ⟨Ez, rfl, rfl, h⟩
      refine K1_x ?_
      exact qc_out (by decide) (Or.inr ⟨_, rfl, h⟩)
  · revert tz; rintro _ ⟨Ez, rfl, rfl, h⟩
    refine K1_x ?_
    exact qc_out (by decide) (Or.inr ⟨_, rfl, h⟩)
def I_X12_init : qh_I := (yX12_init, cX12_init, 5, (Option.none : Option Jvm.ClassFile.FieldType), [])
theorem E_X12_init : I_X12_init.2.1 = cX12_init := rfl
theorem M_X12_init : qh_M I_X12_init 4 := ⟨by decide, by decide, by decide +kernel, q120, q1196, by decide⟩
def T_X12_init (g : qh_G) (a0 : Nat) (a1 : Int32) (a2 : Int32) (a3 : Int32) (a4 : Int32) (hp : qc_H) (K : qc_H → Prop) : Prop := eP hp a0 11 0 (.int a1) (fun h1 => eP h1 a0 11 1 (.int a2) (fun h2 => eP h2 a0 11 2 (.int a3) (fun h3 => eP h3 a0 11 3 (.int a4) (fun h4 => K h4))))
set_option maxHeartbeats 8000000 in
theorem C_X12_init {g : qh_G} {x : qc_X} {d : Nat} {sd : String → Nat → Nat} (hO : qc_O g x) (hP : qc_P g qp_ts sd) (a0 : Nat) (a1 : Int32) (a2 : Int32) (a3 : Int32) (a4 : Int32) (hp : qc_H) (K : qc_H → Prop) (hz : T_X12_init g a0 a1 a2 a3 a4 hp K) : qc_S g x (d + 0) 0 I_X12_init [.ref a0, .int a1, .int a2, .int a3, .int a4] hp (oV K) := by
  refine qc_S.of (by decide) rfl (ls := [some (.ref a0), some (.int a1), some (.int a2), some (.int a3), some (.int a4)]) rfl (Nat.le_of_ble_eq_true rfl) (ct_c rfl (ct_c rfl (ct_c rfl (ct_c rfl (ct_c rfl ct_n))))) ?_
  unfold T_X12_init at hz
  have h := hz
  clear hz
  refine qc_aload_n E_X12_init (by rfl) dX12_init_0 ?_
  refine qc_objInit E_X12_init rfl q1197 q133 q134 dX12_init_1 (Nat.le_of_ble_eq_true rfl) ?_
  refine qc_aload_n E_X12_init (by rfl) dX12_init_4 ?_
  refine qc_iload_n E_X12_init (by rfl) dX12_init_5 ?_
  refine re_putF E_X12_init rfl rfl ck_X12 (by decide) 0 (by decide) q1198 rfl rfl rfl rfl dX12_init_6 h ?_
  clear h
  intro h1 h
  refine qc_aload_n E_X12_init (by rfl) dX12_init_9 ?_
  refine qc_iload_n E_X12_init (by rfl) dX12_init_10 ?_
  refine re_putF E_X12_init rfl rfl ck_X12 (by decide) 1 (by decide) q1200 rfl rfl rfl rfl dX12_init_11 h ?_
  clear h
  intro h2 h
  refine qc_aload_n E_X12_init (by rfl) dX12_init_14 ?_
  refine qc_iload_n E_X12_init (by rfl) dX12_init_15 ?_
  refine re_putF E_X12_init rfl rfl ck_X12 (by decide) 2 (by decide) q1202 rfl rfl rfl rfl dX12_init_16 h ?_
  clear h
  intro h3 h
  refine qc_aload_n E_X12_init (by rfl) dX12_init_19 ?_
  refine qc_iload E_X12_init (by rfl) dX12_init_20 ?_
  refine re_putF E_X12_init rfl rfl ck_X12 (by decide) 3 (by decide) q1204 rfl rfl rfl rfl dX12_init_22 h ?_
  clear h
  intro h4 h
  exact qc_vret E_X12_init rfl dX12_init_25 (⟨rfl, h⟩)
def I_X1_where : qh_I := (yX1_where, cX1_where, 5, (Option.some Jvm.ClassFile.FieldType.int), [])
theorem E_X1_where : I_X1_where.2.1 = cX1_where := rfl
theorem M_X1_where : qh_M I_X1_where 4 := ⟨by decide, by decide, by decide +kernel, q85, q1190, by decide⟩
def T_X1_where (g : qh_G) (a0 : Nat) (a1 : Int32) (a2 : Int32) (a3 : Int32) (a4 : Int32) (hp : qc_H) (c : Nat) (K : Int32 → qc_H → Prop) (KX : String → qc_H → Prop) : Prop := eC hp a0 0 (eK c (fun c2 k1 => T_X1_knownColumn g a0 a1 a2 hp k1 (eK c2 (fun c4 k3 => T_X1_inRange g a3 0 4 hp k3 (∀ J9 : Int32 → Prop, (∀ (x10 : Int32), (eK c4 (fun c12 k11 => T_X1_fit g x10 hp k11 (eR hp a0 0 7 (fun v13 => eSz hp v13 (fun n14 => ∀ J16 : Int32 → Prop, (∀ (x17 : Int32), (eK c12 (fun c19 k18 => T_X1_allowed g x17 hp k18 (eR hp a0 0 7 (fun v20 => eN hp c19 11 4 [.int 0, .int 0, .int 0, .int 0] (fun w21 h22 c23 => T_X12_init g w21 a1 a2 a3 a4 h22 (fun h24 => eAd g h24 v20 w21 c23 (fun h25 c26 => eR h25 a0 0 7 (fun v27 => eSz h25 v27 (fun n28 => K n28 h25))))))) (fun Ez => KX Ez hp))) → J16 x17) → (4 ≤ n14 → J16 0) ∧ (¬ 4 ≤ n14 → J16 1)))) (fun Ez => KX Ez hp))) → J9 x10) → (2 < a3 → (¬ a4 = 0 → J9 0) ∧ (a4 = 0 → J9 1)) ∧ (¬ 2 < a3 → T_X1_isNumber g a4 hp (fun r7 => J9 r7))) (fun Ez => KX Ez hp))) (fun Ez => KX Ez hp)))
set_option maxHeartbeats 8000000 in
theorem C_X1_where {g : qh_G} {x : qc_X} {d : Nat} {sd : String → Nat → Nat} (hO : qc_O g x) (hP : qc_P g qp_ts sd) (a0 : Nat) (a1 : Int32) (a2 : Int32) (a3 : Int32) (a4 : Int32) (hp : qc_H) (c : Nat) (K : Int32 → qc_H → Prop) (KX : String → qc_H → Prop) (hz : T_X1_where g a0 a1 a2 a3 a4 hp c K KX) : qc_S g x (d + 8) c I_X1_where [.ref a0, .int a1, .int a2, .int a3, .int a4] hp (oX (oI K) KX) := by
  refine qc_S.of (by decide) rfl (ls := [some (.ref a0), some (.int a1), some (.int a2), some (.int a3), some (.int a4)]) rfl (Nat.le_of_ble_eq_true rfl) (ct_c rfl (ct_c rfl (ct_c rfl (ct_c rfl (ct_c rfl ct_n))))) ?_
  unfold T_X1_where at hz
  have h := hz
  clear hz
  refine qc_aload_n E_X1_where (by rfl) dX1_where_0 ?_
  refine qc_iload_n E_X1_where (by rfl) dX1_where_1 ?_
  refine qc_iload_n E_X1_where (by rfl) dX1_where_2 ?_
  obtain ⟨⟨fz, hb⟩, c2, k1, rfl, h⟩ := h
  refine qc_callV (c := c2) (k := k1) (As := [.int a1, .int a2]) (rest := []) hO E_X1_where rfl M_X1_knownColumn rfl q1150 q1152 qs13 (ci := 0) rfl rfl hb rfl rfl (Nat.le_of_ble_eq_true rfl) dX1_where_3 (qc_S.mono ?_ (C_X1_knownColumn (d := d) hO hP a0 a1 a2 hp k1 _ _ h))
  clear h
  clear hb
  rintro _ tz (hz | hz)
  · obtain ⟨rfl, rfl, h⟩ := hz
    refine K1_v ?_
    refine qc_iload_n E_X1_where (by rfl) dX1_where_6 ?_
    refine qc_iconst E_X1_where 0 (by decide) dX1_where_7 ?_
    refine qc_iconst E_X1_where 4 (by decide) dX1_where_8 ?_
    obtain ⟨c4, k3, rfl, h⟩ := h
    refine qc_callS (c := c4) (k := k3) (As := [.int a3, .int 0, .int 4]) (rest := []) E_X1_where rfl M_X1_inRange rfl q1098 q1099 rfl rfl (Nat.le_of_ble_eq_true rfl) dX1_where_9 (qc_S.mono ?_ (C_X1_inRange (d := d + 6) hO hP a3 0 4 hp k3 _ _ h))
    clear h
    rintro _ tz (hz | hz)
    · obtain ⟨rfl, rfl, h⟩ := hz
      refine K1_v ?_
      refine qc_iload_n E_X1_where (by rfl) dX1_where_12 ?_
      refine qc_iconst E_X1_where 2 (by decide) dX1_where_13 ?_
      have jz := h (fun (x10 : Int32) => qc_wp g x (d + 8) c4 I_X1_where 35 [some (.ref a0), some (.int a1), some (.int a2), some (.int a3), some (.int a4)] [.int x10] hp (oX (oI K) KX))
      clear h
      have h := jz (by
        intro x10 h
        obtain ⟨c12, k11, rfl, h⟩ := h
        refine qc_callS (c := c12) (k := k11) (As := [.int x10]) (rest := []) E_X1_where rfl M_X1_fit rfl q540 q541 rfl rfl (Nat.le_of_ble_eq_true rfl) dX1_where_35 (qc_S.mono ?_ (C_X1_fit (d := d + 7) hO hP x10 hp k11 _ _ h))
        clear h
        rintro _ tz (hz | hz)
        · obtain ⟨rfl, rfl, h⟩ := hz
          refine K1_v ?_
          refine qc_aload_n E_X1_where (by rfl) dX1_where_38 ?_
          refine re_getR E_X1_where rfl ck_X1 (by decide) 7 (by decide) q308 dX1_where_39 h ?_
          clear h
          intro v13 h
          refine re_size (d := d + 2) hO E_X1_where rfl q366 (Nat.le_of_ble_eq_true rfl) dX1_where_42 h ?_
          clear h
          intro n14 h
          refine qc_iconst E_X1_where 4 (by decide) dX1_where_45 ?_
          have jz := h (fun (x17 : Int32) => qc_wp g x (d + 8) c12 I_X1_where 54 [some (.ref a0), some (.int a1), some (.int a2), some (.int a3), some (.int a4)] [.int x17] hp (oX (oI K) KX))
          clear h
          have h := jz (by
            intro x17 h
            obtain ⟨c19, k18, rfl, h⟩ := h
            refine qc_callS (c := c19) (k := k18) (As := [.int x17]) (rest := []) E_X1_where rfl M_X1_allowed rfl q594 q595 rfl rfl (Nat.le_of_ble_eq_true rfl) dX1_where_54 (qc_S.mono ?_ (C_X1_allowed (d := d + 7) hO hP x17 hp k18 _ _ h))
            clear h
            rintro _ tz (hz | hz)
            · obtain ⟨rfl, rfl, h⟩ := hz
              refine K1_v ?_
              refine qc_aload_n E_X1_where (by rfl) dX1_where_57 ?_
              refine re_getR E_X1_where rfl ck_X1 (by decide) 7 (by decide) q308 dX1_where_58 h ?_
              clear h
              intro v20 h
              refine re_new hO E_X1_where rfl ck_X12 q1192 q1193 q120 df_X12 dX1_where_61 h ?_
              clear h
              intro w21 h22 c23 h
              refine qc_dup E_X1_where rfl dX1_where_64 ?_
              refine qc_iload_n E_X1_where (by rfl) dX1_where_65 ?_
              refine qc_iload_n E_X1_where (by rfl) dX1_where_66 ?_
              refine qc_iload_n E_X1_where (by rfl) dX1_where_67 ?_
              refine qc_iload E_X1_where (by rfl) dX1_where_68 ?_
              refine qc_callI (c := c23) (k := 0) (As := [.int a1, .int a2, .int a3, .int a4]) (rest := [.ref w21, .ref v20]) E_X1_where rfl M_X12_init rfl rfl rfl q1194 q1195 rfl rfl (Nat.le_of_ble_eq_true rfl) dX1_where_70 (qc_S.mono ?_ (C_X12_init (d := d + 7) hO hP w21 a1 a2 a3 a4 h22 _ h))
              clear h
              rintro _ h24 ⟨rfl, h⟩
              refine K1_v ?_
              refine re_add (d := d + 2) hO E_X1_where rfl q982 (Nat.le_of_ble_eq_true rfl) dX1_where_73 h ?_
              clear h
              intro h25 c26 h
              refine qc_pop E_X1_where rfl dX1_where_76 ?_
              refine qc_aload_n E_X1_where (by rfl) dX1_where_77 ?_
              refine re_getR E_X1_where rfl ck_X1 (by decide) 7 (by decide) q308 dX1_where_78 h ?_
              clear h
              intro v27 h
              refine re_size (d := d + 2) hO E_X1_where rfl q366 (Nat.le_of_ble_eq_true rfl) dX1_where_81 h ?_
              clear h
              intro n28 h
              exact qc_iret E_X1_where rfl dX1_where_84 (Or.inl (⟨_, rfl, h⟩))
            · revert tz; rintro _ ⟨Ez, rfl, rfl, h⟩
              refine K1_x ?_
              exact qc_out (by decide) (Or.inr ⟨_, rfl, h⟩))
          clear jz
          refine qc_icmp_ge E_X1_where 53 dX1_where_46 (by decide) (fun (c15 : 4 ≤ n14) => ?_) (fun (c15 : ¬ 4 ≤ n14) => ?_)
          · replace h := h.1 c15
            refine qc_iconst E_X1_where 0 (by decide) dX1_where_53 ?_
            exact h
          · replace h := h.2 c15
            refine qc_iconst E_X1_where 1 (by decide) dX1_where_49 ?_
            refine qc_goto E_X1_where 54 dX1_where_50 (by decide) ?_
            exact h
        · revert tz; rintro _ ⟨Ez, rfl, rfl, h⟩
          refine K1_x ?_
          exact qc_out (by decide) (Or.inr ⟨_, rfl, h⟩))
      clear jz
      refine qc_icmp_gt E_X1_where 25 dX1_where_14 (by decide) (fun (c5 : 2 < a3) => ?_) (fun (c5 : ¬ 2 < a3) => ?_)
      · replace h := h.1 c5
        refine qc_iload E_X1_where (by rfl) dX1_where_25 ?_
        refine qc_if_ne E_X1_where 34 dX1_where_27 (by decide) (fun (c6 : ¬ a4 = 0) => ?_) (fun (c6 : a4 = 0) => ?_)
        · replace h := h.1 c6
          refine qc_iconst E_X1_where 0 (by decide) dX1_where_34 ?_
          exact h
        · replace h := h.2 c6
          refine qc_iconst E_X1_where 1 (by decide) dX1_where_30 ?_
          refine qc_goto E_X1_where 35 dX1_where_31 (by decide) ?_
          exact h
      · replace h := h.2 c5
        refine qc_iload E_X1_where (by rfl) dX1_where_17 ?_
        refine qc_callS (c := c4) (k := 0) (As := [.int a4]) (rest := []) E_X1_where rfl M_X1_isNumber rfl q1191 q527 rfl rfl (Nat.le_of_ble_eq_true rfl) dX1_where_19 (qc_S.mono ?_ (C_X1_isNumber (d := d + 7) hO hP a4 hp _ h))
        clear h
        rintro _ _ ⟨r7, rfl, z8, rfl, h⟩
        refine K1_i ?_
        refine qc_goto E_X1_where 35 dX1_where_22 (by decide) ?_
        exact h
    · revert tz; rintro _ ⟨Ez, rfl, rfl, h⟩
      refine K1_x ?_
      exact qc_out (by decide) (Or.inr ⟨_, rfl, h⟩)
  · revert tz; rintro _ ⟨Ez, rfl, rfl, h⟩
    refine K1_x ?_
    exact qc_out (by decide) (Or.inr ⟨_, rfl, h⟩)
def I_X13_init : qh_I := (yX13_init, cX13_init, 3, (Option.none : Option Jvm.ClassFile.FieldType), [])
theorem E_X13_init : I_X13_init.2.1 = cX13_init := rfl
theorem M_X13_init : qh_M I_X13_init 2 := ⟨by decide, by decide, by decide +kernel, q121, q1225, by decide⟩
def T_X13_init (g : qh_G) (a0 : Nat) (a1 : Int32) (a2 : Int32) (hp : qc_H) (K : qc_H → Prop) : Prop := eP hp a0 12 0 (.int a1) (fun h1 => eP h1 a0 12 1 (.int a2) (fun h2 => K h2))
set_option maxHeartbeats 8000000 in
theorem C_X13_init {g : qh_G} {x : qc_X} {d : Nat} {sd : String → Nat → Nat} (hO : qc_O g x) (hP : qc_P g qp_ts sd) (a0 : Nat) (a1 : Int32) (a2 : Int32) (hp : qc_H) (K : qc_H → Prop) (hz : T_X13_init g a0 a1 a2 hp K) : qc_S g x (d + 0) 0 I_X13_init [.ref a0, .int a1, .int a2] hp (oV K) := by
  refine qc_S.of (by decide) rfl (ls := [some (.ref a0), some (.int a1), some (.int a2)]) rfl (Nat.le_of_ble_eq_true rfl) (ct_c rfl (ct_c rfl (ct_c rfl ct_n))) ?_
  unfold T_X13_init at hz
  have h := hz
  clear hz
  refine qc_aload_n E_X13_init (by rfl) dX13_init_0 ?_
  refine qc_objInit E_X13_init rfl q1226 q133 q134 dX13_init_1 (Nat.le_of_ble_eq_true rfl) ?_
  refine qc_aload_n E_X13_init (by rfl) dX13_init_4 ?_
  refine qc_iload_n E_X13_init (by rfl) dX13_init_5 ?_
  refine re_putF E_X13_init rfl rfl ck_X13 (by decide) 0 (by decide) q1227 rfl rfl rfl rfl dX13_init_6 h ?_
  clear h
  intro h1 h
  refine qc_aload_n E_X13_init (by rfl) dX13_init_9 ?_
  refine qc_iload_n E_X13_init (by rfl) dX13_init_10 ?_
  refine re_putF E_X13_init rfl rfl ck_X13 (by decide) 1 (by decide) q1229 rfl rfl rfl rfl dX13_init_11 h ?_
  clear h
  intro h2 h
  exact qc_vret E_X13_init rfl dX13_init_14 (⟨rfl, h⟩)
def I_X1_out : qh_I := (yX1_out, cX1_out, 3, (Option.some Jvm.ClassFile.FieldType.int), [])
theorem E_X1_out : I_X1_out.2.1 = cX1_out := rfl
theorem M_X1_out : qh_M I_X1_out 2 := ⟨by decide, by decide, by decide +kernel, q85, q1220, by decide⟩
def T_X1_out (g : qh_G) (a0 : Nat) (a1 : Int32) (a2 : Int32) (hp : qc_H) (c : Nat) (K : Int32 → qc_H → Prop) (KX : String → qc_H → Prop) : Prop := eC hp a0 0 (eK c (fun c2 k1 => T_X1_knownColumn g a0 a1 a2 hp k1 (eR hp a0 0 8 (fun v3 => eSz hp v3 (fun n4 => ∀ J6 : Int32 → Prop, (∀ (x7 : Int32), (eK c2 (fun c9 k8 => T_X1_allowed g x7 hp k8 (eR hp a0 0 8 (fun v10 => eN hp c9 12 2 [.int 0, .int 0] (fun w11 h12 c13 => T_X13_init g w11 a1 a2 h12 (fun h14 => eAd g h14 v10 w11 c13 (fun h15 c16 => eR h15 a0 0 8 (fun v17 => eSz h15 v17 (fun n18 => K n18 h15))))))) (fun Ez => KX Ez hp))) → J6 x7) → (3 ≤ n4 → J6 0) ∧ (¬ 3 ≤ n4 → J6 1)))) (fun Ez => KX Ez hp)))
set_option maxHeartbeats 8000000 in
theorem C_X1_out {g : qh_G} {x : qc_X} {d : Nat} {sd : String → Nat → Nat} (hO : qc_O g x) (hP : qc_P g qp_ts sd) (a0 : Nat) (a1 : Int32) (a2 : Int32) (hp : qc_H) (c : Nat) (K : Int32 → qc_H → Prop) (KX : String → qc_H → Prop) (hz : T_X1_out g a0 a1 a2 hp c K KX) : qc_S g x (d + 8) c I_X1_out [.ref a0, .int a1, .int a2] hp (oX (oI K) KX) := by
  refine qc_S.of (by decide) rfl (ls := [some (.ref a0), some (.int a1), some (.int a2)]) rfl (Nat.le_of_ble_eq_true rfl) (ct_c rfl (ct_c rfl (ct_c rfl ct_n))) ?_
  unfold T_X1_out at hz
  have h := hz
  clear hz
  refine qc_aload_n E_X1_out (by rfl) dX1_out_0 ?_
  refine qc_iload_n E_X1_out (by rfl) dX1_out_1 ?_
  refine qc_iload_n E_X1_out (by rfl) dX1_out_2 ?_
  obtain ⟨⟨fz, hb⟩, c2, k1, rfl, h⟩ := h
  refine qc_callV (c := c2) (k := k1) (As := [.int a1, .int a2]) (rest := []) hO E_X1_out rfl M_X1_knownColumn rfl q1150 q1152 qs13 (ci := 0) rfl rfl hb rfl rfl (Nat.le_of_ble_eq_true rfl) dX1_out_3 (qc_S.mono ?_ (C_X1_knownColumn (d := d) hO hP a0 a1 a2 hp k1 _ _ h))
  clear h
  clear hb
  rintro _ tz (hz | hz)
  · obtain ⟨rfl, rfl, h⟩ := hz
    refine K1_v ?_
    refine qc_aload_n E_X1_out (by rfl) dX1_out_6 ?_
    refine re_getR E_X1_out rfl ck_X1 (by decide) 8 (by decide) q309 dX1_out_7 h ?_
    clear h
    intro v3 h
    refine re_size (d := d + 2) hO E_X1_out rfl q366 (Nat.le_of_ble_eq_true rfl) dX1_out_10 h ?_
    clear h
    intro n4 h
    refine qc_iconst E_X1_out 3 (by decide) dX1_out_13 ?_
    have jz := h (fun (x7 : Int32) => qc_wp g x (d + 8) c2 I_X1_out 22 [some (.ref a0), some (.int a1), some (.int a2)] [.int x7] hp (oX (oI K) KX))
    clear h
    have h := jz (by
      intro x7 h
      obtain ⟨c9, k8, rfl, h⟩ := h
      refine qc_callS (c := c9) (k := k8) (As := [.int x7]) (rest := []) E_X1_out rfl M_X1_allowed rfl q594 q595 rfl rfl (Nat.le_of_ble_eq_true rfl) dX1_out_22 (qc_S.mono ?_ (C_X1_allowed (d := d + 7) hO hP x7 hp k8 _ _ h))
      clear h
      rintro _ tz (hz | hz)
      · obtain ⟨rfl, rfl, h⟩ := hz
        refine K1_v ?_
        refine qc_aload_n E_X1_out (by rfl) dX1_out_25 ?_
        refine re_getR E_X1_out rfl ck_X1 (by decide) 8 (by decide) q309 dX1_out_26 h ?_
        clear h
        intro v10 h
        refine re_new hO E_X1_out rfl ck_X13 q1221 q1222 q121 df_X13 dX1_out_29 h ?_
        clear h
        intro w11 h12 c13 h
        refine qc_dup E_X1_out rfl dX1_out_32 ?_
        refine qc_iload_n E_X1_out (by rfl) dX1_out_33 ?_
        refine qc_iload_n E_X1_out (by rfl) dX1_out_34 ?_
        refine qc_callI (c := c13) (k := 0) (As := [.int a1, .int a2]) (rest := [.ref w11, .ref v10]) E_X1_out rfl M_X13_init rfl rfl rfl q1223 q1224 rfl rfl (Nat.le_of_ble_eq_true rfl) dX1_out_35 (qc_S.mono ?_ (C_X13_init (d := d + 7) hO hP w11 a1 a2 h12 _ h))
        clear h
        rintro _ h14 ⟨rfl, h⟩
        refine K1_v ?_
        refine re_add (d := d + 2) hO E_X1_out rfl q982 (Nat.le_of_ble_eq_true rfl) dX1_out_38 h ?_
        clear h
        intro h15 c16 h
        refine qc_pop E_X1_out rfl dX1_out_41 ?_
        refine qc_aload_n E_X1_out (by rfl) dX1_out_42 ?_
        refine re_getR E_X1_out rfl ck_X1 (by decide) 8 (by decide) q309 dX1_out_43 h ?_
        clear h
        intro v17 h
        refine re_size (d := d + 2) hO E_X1_out rfl q366 (Nat.le_of_ble_eq_true rfl) dX1_out_46 h ?_
        clear h
        intro n18 h
        exact qc_iret E_X1_out rfl dX1_out_49 (Or.inl (⟨_, rfl, h⟩))
      · revert tz; rintro _ ⟨Ez, rfl, rfl, h⟩
        refine K1_x ?_
        exact qc_out (by decide) (Or.inr ⟨_, rfl, h⟩))
    clear jz
    refine qc_icmp_ge E_X1_out 21 dX1_out_14 (by decide) (fun (c5 : 3 ≤ n4) => ?_) (fun (c5 : ¬ 3 ≤ n4) => ?_)
    · replace h := h.1 c5
      refine qc_iconst E_X1_out 0 (by decide) dX1_out_21 ?_
      exact h
    · replace h := h.2 c5
      refine qc_iconst E_X1_out 1 (by decide) dX1_out_17 ?_
      refine qc_goto E_X1_out 22 dX1_out_18 (by decide) ?_
      exact h
  · revert tz; rintro _ ⟨Ez, rfl, rfl, h⟩
    refine K1_x ?_
    exact qc_out (by decide) (Or.inr ⟨_, rfl, h⟩)
def I_X1_shape : qh_I := (yX1_shape, cX1_shape, 3, (Option.none : Option Jvm.ClassFile.FieldType), [])
theorem E_X1_shape : I_X1_shape.2.1 = cX1_shape := rfl
theorem M_X1_shape : qh_M I_X1_shape 2 := ⟨by decide, by decide, by decide +kernel, q85, q1242, by decide⟩
def T_X1_shape (g : qh_G) (a0 : Nat) (a1 : Int32) (a2 : Int32) (hp : qc_H) (c : Nat) (K : qc_H → Prop) (KX : String → qc_H → Prop) : Prop := eK c (fun c2 k1 => T_X1_inRange g a1 1 40 hp k1 (eP hp a0 0 10 (.int a1) (fun h3 => (a2 = 0 ∨ a2 = 1) ∧ eP h3 a0 0 11 (.int a2) (fun h4 => K h4))) (fun Ez => KX Ez hp))
set_option maxHeartbeats 8000000 in
theorem C_X1_shape {g : qh_G} {x : qc_X} {d : Nat} {sd : String → Nat → Nat} (hO : qc_O g x) (hP : qc_P g qp_ts sd) (a0 : Nat) (a1 : Int32) (a2 : Int32) (hp : qc_H) (c : Nat) (K : qc_H → Prop) (KX : String → qc_H → Prop) (hz : T_X1_shape g a0 a1 a2 hp c K KX) : qc_S g x (d + 2) c I_X1_shape [.ref a0, .int a1, .int a2] hp (oX (oV K) KX) := by
  refine qc_S.of (by decide) rfl (ls := [some (.ref a0), some (.int a1), some (.int a2)]) rfl (Nat.le_of_ble_eq_true rfl) (ct_c rfl (ct_c rfl (ct_c rfl ct_n))) ?_
  unfold T_X1_shape at hz
  have h := hz
  clear hz
  refine qc_iload_n E_X1_shape (by rfl) dX1_shape_0 ?_
  refine qc_iconst E_X1_shape 1 (by decide) dX1_shape_1 ?_
  refine qc_bipush E_X1_shape 40 (by decide) dX1_shape_2 ?_
  obtain ⟨c2, k1, rfl, h⟩ := h
  refine qc_callS (c := c2) (k := k1) (As := [.int a1, .int 1, .int 40]) (rest := []) E_X1_shape rfl M_X1_inRange rfl q1098 q1099 rfl rfl (Nat.le_of_ble_eq_true rfl) dX1_shape_4 (qc_S.mono ?_ (C_X1_inRange (d := d) hO hP a1 1 40 hp k1 _ _ h))
  clear h
  rintro _ tz (hz | hz)
  · obtain ⟨rfl, rfl, h⟩ := hz
    refine K1_v ?_
    refine qc_aload_n E_X1_shape (by rfl) dX1_shape_7 ?_
    refine qc_iload_n E_X1_shape (by rfl) dX1_shape_8 ?_
    refine re_put E_X1_shape rfl ck_X1 (by decide) 10 (by decide) q311 rfl rfl rfl dX1_shape_9 h ?_
    clear h
    intro h3 h
    refine qc_aload_n E_X1_shape (by rfl) dX1_shape_12 ?_
    refine qc_iload_n E_X1_shape (by rfl) dX1_shape_13 ?_
    obtain ⟨o5, h⟩ := h
    refine re_put E_X1_shape rfl ck_X1 (by decide) 11 (by decide) q312 rfl (qm_nb o5) (qm_fb o5) dX1_shape_14 h ?_
    clear h
    intro h4 h
    exact qc_vret E_X1_shape rfl dX1_shape_17 (Or.inl (⟨rfl, h⟩))
  · revert tz; rintro _ ⟨Ez, rfl, rfl, h⟩
    refine K1_x ?_
    exact qc_out (by decide) (Or.inr ⟨_, rfl, h⟩)
def I_X6_init : qh_I := (yX6_init, cX6_init, 1, (Option.none : Option Jvm.ClassFile.FieldType), [])
theorem E_X6_init : I_X6_init.2.1 = cX6_init := rfl
theorem M_X6_init : qh_M I_X6_init 0 := ⟨by decide, by decide, by decide +kernel, q93, q235, by decide⟩
def T_X6_init (g : qh_G) (a0 : Nat) (hp : qc_H) (c : Nat) (K : qc_H → Prop) : Prop := eNL hp c (fun w1 h2 c3 => eP h2 a0 5 0 (.ref w1) (fun h4 => eNL h4 c3 (fun w5 h6 c7 => eP h6 a0 5 1 (.ref w5) (fun h8 => eP h8 a0 5 3 (.int ((-1))) (fun h9 => K h9)))))
set_option maxHeartbeats 8000000 in
theorem C_X6_init {g : qh_G} {x : qc_X} {d : Nat} {sd : String → Nat → Nat} (hO : qc_O g x) (hP : qc_P g qp_ts sd) (a0 : Nat) (hp : qc_H) (c : Nat) (K : qc_H → Prop) (hz : T_X6_init g a0 hp c K) : qc_S g x (d + 6) c I_X6_init [.ref a0] hp (oV K) := by
  refine qc_S.of (by decide) rfl (ls := [some (.ref a0)]) rfl (Nat.le_of_ble_eq_true rfl) (ct_c rfl ct_n) ?_
  unfold T_X6_init at hz
  have h := hz
  clear hz
  refine qc_aload_n E_X6_init (by rfl) dX6_init_0 ?_
  refine qc_objInit E_X6_init rfl q236 q133 q134 dX6_init_1 (Nat.le_of_ble_eq_true rfl) ?_
  refine qc_aload_n E_X6_init (by rfl) dX6_init_4 ?_
  refine re_newL (d := d) hO E_X6_init rfl q237 q238 (Nat.le_of_ble_eq_true rfl) dX6_init_5 dX6_init_8 dX6_init_9 h ?_
  clear h
  intro w1 h2 c3 h
  refine re_putF E_X6_init rfl rfl ck_X6 (by decide) 0 (by decide) q239 rfl rfl rfl rfl dX6_init_12 h ?_
  clear h
  intro h4 h
  refine qc_aload_n E_X6_init (by rfl) dX6_init_15 ?_
  refine re_newL (d := d) hO E_X6_init rfl q237 q238 (Nat.le_of_ble_eq_true rfl) dX6_init_16 dX6_init_19 dX6_init_20 h ?_
  clear h
  intro w5 h6 c7 h
  refine re_putF E_X6_init rfl rfl ck_X6 (by decide) 1 (by decide) q241 rfl rfl rfl rfl dX6_init_23 h ?_
  clear h
  intro h8 h
  refine qc_aload_n E_X6_init (by rfl) dX6_init_26 ?_
  refine qc_iconst E_X6_init (-1) (by decide) dX6_init_27 ?_
  refine re_put E_X6_init rfl ck_X6 (by decide) 3 (by decide) q244 rfl rfl rfl dX6_init_28 h ?_
  clear h
  intro h9 h
  exact qc_vret E_X6_init rfl dX6_init_31 (⟨rfl, h⟩)
def I_X3_can : qh_I := (yX3_can, cX3_can, 3, (Option.some Jvm.ClassFile.FieldType.boolean), [])
theorem E_X3_can : I_X3_can.2.1 = cX3_can := rfl
theorem M_X3_can : qh_M I_X3_can 2 := ⟨by decide, by decide, by decide +kernel, q87, q1287, by decide⟩
def T_X3_can (g : qh_G) (a0 : Nat) (a1 : Int32) (a2 : Int32) (hp : qc_H) (K : Int32 → Prop) : Prop := (a1 = 4 → K 0) ∧ (¬ a1 = 4 → K 1)
set_option maxHeartbeats 8000000 in
theorem C_X3_can {g : qh_G} {x : qc_X} {d : Nat} {sd : String → Nat → Nat} (hO : qc_O g x) (hP : qc_P g qp_ts sd) (a0 : Nat) (a1 : Int32) (a2 : Int32) (hp : qc_H) (K : Int32 → Prop) (hz : T_X3_can g a0 a1 a2 hp K) : qc_S g x (d + 0) 0 I_X3_can [.ref a0, .int a1, .int a2] hp (oZ (fun v t => hp = t ∧ K v)) := by
  refine qc_S.of (by decide) rfl (ls := [some (.ref a0), some (.int a1), some (.int a2)]) rfl (Nat.le_of_ble_eq_true rfl) (ct_c rfl (ct_c rfl (ct_c rfl ct_n))) ?_
  unfold T_X3_can at hz
  have h := hz
  clear hz
  refine qc_iload_n E_X3_can (by rfl) dX3_can_0 ?_
  refine qc_iconst E_X3_can 4 (by decide) dX3_can_1 ?_
  refine qc_icmp_eq E_X3_can 9 dX3_can_2 (by decide) (fun (c1 : a1 = 4) => ?_) (fun (c1 : ¬ a1 = 4) => ?_)
  · replace h := h.1 c1
    refine qc_iconst E_X3_can 0 (by decide) dX3_can_9 ?_
    exact qc_zret E_X3_can rfl (qm_nb (Or.inl rfl)) dX3_can_10 (⟨_, rfl, (Or.inl rfl), rfl, h⟩)
  · replace h := h.2 c1
    refine qc_iconst E_X3_can 1 (by decide) dX3_can_5 ?_
    refine qc_goto E_X3_can 10 dX3_can_6 (by decide) ?_
    exact qc_zret E_X3_can rfl (qm_nb (Or.inr rfl)) dX3_can_10 (⟨_, rfl, (Or.inr rfl), rfl, h⟩)
def I_X4_can : qh_I := (yX4_can, cX4_can, 3, (Option.some Jvm.ClassFile.FieldType.boolean), [])
theorem E_X4_can : I_X4_can.2.1 = cX4_can := rfl
theorem M_X4_can : qh_M I_X4_can 2 := ⟨by decide, by decide, by decide +kernel, q88, q1282, by decide⟩
def T_X4_can (g : qh_G) (a0 : Nat) (a1 : Int32) (a2 : Int32) (hp : qc_H) (K : Int32 → Prop) : Prop := (¬ a2 = 0 → K 0) ∧ (a2 = 0 → (2 < a1 → K 0) ∧ (¬ 2 < a1 → K 1))
set_option maxHeartbeats 8000000 in
theorem C_X4_can {g : qh_G} {x : qc_X} {d : Nat} {sd : String → Nat → Nat} (hO : qc_O g x) (hP : qc_P g qp_ts sd) (a0 : Nat) (a1 : Int32) (a2 : Int32) (hp : qc_H) (K : Int32 → Prop) (hz : T_X4_can g a0 a1 a2 hp K) : qc_S g x (d + 0) 0 I_X4_can [.ref a0, .int a1, .int a2] hp (oZ (fun v t => hp = t ∧ K v)) := by
  refine qc_S.of (by decide) rfl (ls := [some (.ref a0), some (.int a1), some (.int a2)]) rfl (Nat.le_of_ble_eq_true rfl) (ct_c rfl (ct_c rfl (ct_c rfl ct_n))) ?_
  unfold T_X4_can at hz
  have h := hz
  clear hz
  refine qc_iload_n E_X4_can (by rfl) dX4_can_0 ?_
  refine qc_if_ne E_X4_can 13 dX4_can_1 (by decide) (fun (c1 : ¬ a2 = 0) => ?_) (fun (c1 : a2 = 0) => ?_)
  · replace h := h.1 c1
    refine qc_iconst E_X4_can 0 (by decide) dX4_can_13 ?_
    exact qc_zret E_X4_can rfl (qm_nb (Or.inl rfl)) dX4_can_14 (⟨_, rfl, (Or.inl rfl), rfl, h⟩)
  · replace h := h.2 c1
    refine qc_iload_n E_X4_can (by rfl) dX4_can_4 ?_
    refine qc_iconst E_X4_can 2 (by decide) dX4_can_5 ?_
    refine qc_icmp_gt E_X4_can 13 dX4_can_6 (by decide) (fun (c2 : 2 < a1) => ?_) (fun (c2 : ¬ 2 < a1) => ?_)
    · replace h := h.1 c2
      refine qc_iconst E_X4_can 0 (by decide) dX4_can_13 ?_
      exact qc_zret E_X4_can rfl (qm_nb (Or.inl rfl)) dX4_can_14 (⟨_, rfl, (Or.inl rfl), rfl, h⟩)
    · replace h := h.2 c2
      refine qc_iconst E_X4_can 1 (by decide) dX4_can_9 ?_
      refine qc_goto E_X4_can 14 dX4_can_10 (by decide) ?_
      exact qc_zret E_X4_can rfl (qm_nb (Or.inr rfl)) dX4_can_14 (⟨_, rfl, (Or.inr rfl), rfl, h⟩)
def I_X5_can : qh_I := (yX5_can, cX5_can, 3, (Option.some Jvm.ClassFile.FieldType.boolean), [])
theorem E_X5_can : I_X5_can.2.1 = cX5_can := rfl
theorem M_X5_can : qh_M I_X5_can 2 := ⟨by decide, by decide, by decide +kernel, q89, q1277, by decide⟩
def T_X5_can (g : qh_G) (a0 : Nat) (a1 : Int32) (a2 : Int32) (hp : qc_H) (K : Int32 → Prop) : Prop := (a1 = 0 → K 1) ∧ (¬ a1 = 0 → (a1 = 4 → K 1) ∧ (¬ a1 = 4 → (¬ a2 = 0 → K 0) ∧ (a2 = 0 → (2 < a1 → K 0) ∧ (¬ 2 < a1 → K 1))))
set_option maxHeartbeats 8000000 in
theorem C_X5_can {g : qh_G} {x : qc_X} {d : Nat} {sd : String → Nat → Nat} (hO : qc_O g x) (hP : qc_P g qp_ts sd) (a0 : Nat) (a1 : Int32) (a2 : Int32) (hp : qc_H) (K : Int32 → Prop) (hz : T_X5_can g a0 a1 a2 hp K) : qc_S g x (d + 0) 0 I_X5_can [.ref a0, .int a1, .int a2] hp (oZ (fun v t => hp = t ∧ K v)) := by
  refine qc_S.of (by decide) rfl (ls := [some (.ref a0), some (.int a1), some (.int a2)]) rfl (Nat.le_of_ble_eq_true rfl) (ct_c rfl (ct_c rfl (ct_c rfl ct_n))) ?_
  unfold T_X5_can at hz
  have h := hz
  clear hz
  refine qc_iload_n E_X5_can (by rfl) dX5_can_0 ?_
  refine qc_if_eq E_X5_can 18 dX5_can_1 (by decide) (fun (c1 : a1 = 0) => ?_) (fun (c1 : ¬ a1 = 0) => ?_)
  · replace h := h.1 c1
    refine qc_iconst E_X5_can 1 (by decide) dX5_can_18 ?_
    refine qc_goto E_X5_can 23 dX5_can_19 (by decide) ?_
    exact qc_zret E_X5_can rfl (qm_nb (Or.inr rfl)) dX5_can_23 (⟨_, rfl, (Or.inr rfl), rfl, h⟩)
  · replace h := h.2 c1
    refine qc_iload_n E_X5_can (by rfl) dX5_can_4 ?_
    refine qc_iconst E_X5_can 4 (by decide) dX5_can_5 ?_
    refine qc_icmp_eq E_X5_can 18 dX5_can_6 (by decide) (fun (c2 : a1 = 4) => ?_) (fun (c2 : ¬ a1 = 4) => ?_)
    · replace h := h.1 c2
      refine qc_iconst E_X5_can 1 (by decide) dX5_can_18 ?_
      refine qc_goto E_X5_can 23 dX5_can_19 (by decide) ?_
      exact qc_zret E_X5_can rfl (qm_nb (Or.inr rfl)) dX5_can_23 (⟨_, rfl, (Or.inr rfl), rfl, h⟩)
    · replace h := h.2 c2
      refine qc_iload_n E_X5_can (by rfl) dX5_can_9 ?_
      refine qc_if_ne E_X5_can 22 dX5_can_10 (by decide) (fun (c3 : ¬ a2 = 0) => ?_) (fun (c3 : a2 = 0) => ?_)
      · replace h := h.1 c3
        refine qc_iconst E_X5_can 0 (by decide) dX5_can_22 ?_
        exact qc_zret E_X5_can rfl (qm_nb (Or.inl rfl)) dX5_can_23 (⟨_, rfl, (Or.inl rfl), rfl, h⟩)
      · replace h := h.2 c3
        refine qc_iload_n E_X5_can (by rfl) dX5_can_13 ?_
        refine qc_iconst E_X5_can 2 (by decide) dX5_can_14 ?_
        refine qc_icmp_gt E_X5_can 22 dX5_can_15 (by decide) (fun (c4 : 2 < a1) => ?_) (fun (c4 : ¬ 2 < a1) => ?_)
        · replace h := h.1 c4
          refine qc_iconst E_X5_can 0 (by decide) dX5_can_22 ?_
          exact qc_zret E_X5_can rfl (qm_nb (Or.inl rfl)) dX5_can_23 (⟨_, rfl, (Or.inl rfl), rfl, h⟩)
        · replace h := h.2 c4
          refine qc_iconst E_X5_can 1 (by decide) dX5_can_18 ?_
          refine qc_goto E_X5_can 23 dX5_can_19 (by decide) ?_
          exact qc_zret E_X5_can rfl (qm_nb (Or.inr rfl)) dX5_can_23 (⟨_, rfl, (Or.inr rfl), rfl, h⟩)
