/-! CORE 21, next part (printed by gen2.py) -/
set_option maxRecDepth 100000
def I_X1_step_2 : qh_I := (yX1_step_2, cX1_step_2, 7, (Option.some Jvm.ClassFile.FieldType.int), [])
theorem E_X1_step_2 : I_X1_step_2.2.1 = cX1_step_2 := rfl
theorem M_X1_step_2 : qh_M I_X1_step_2 6 := ⟨by decide, by decide, by decide +kernel, q85, q1602, by decide⟩
def T_X1_step_2 (g : qh_G) (a0 : Nat) (a1 : Int32) (a2 : Int32) (a3 : Int32) (a4 : Int32) (a5 : Int32) (a6 : Int32) (hp : qc_H) (c : Nat) (K : Int32 → qc_H → Prop) (KX : String → qc_H → Prop) : Prop := eK c (fun c2 k1 => T_X1_known g a2 6 hp k1 (fun r3 => eK c2 (fun c5 k4 => T_X1_inRange g a1 0 2 hp k4 (∀ J11 : Int32 → Prop, (∀ (x12 : Int32), (eK c5 (fun c14 k13 => T_X1_fit g x12 hp k13 (eR hp a0 0 9 (fun v15 => eSz hp v15 (fun n16 => ∀ J18 : Int32 → Prop, (∀ (x19 : Int32), (eK c14 (fun c21 k20 => T_X1_allowed g x19 hp k20 (eR hp a0 0 9 (fun v22 => eNI g.2.2.2.1 hp 6 c21 (fun w23 h24 c25 => eW g.2.2.2.1 h24 w23 0 a1 (fun h26 => eW g.2.2.2.1 h26 w23 1 a2 (fun h27 => eW g.2.2.2.1 h27 w23 2 a3 (fun h28 => eW g.2.2.2.1 h28 w23 3 a4 (fun h29 => eW g.2.2.2.1 h29 w23 4 a5 (fun h30 => eW g.2.2.2.1 h30 w23 5 a6 (fun h31 => eAd g h31 v22 w23 c25 (fun h32 c33 => eR h32 a0 0 9 (fun v34 => eSz h32 v34 (fun n35 => K n35 h32)))))))))))) (fun Ez => KX Ez hp))) → J18 x19) → (4 ≤ n16 → J18 0) ∧ (¬ 4 ≤ n16 → J18 1)))) (fun Ez => KX Ez hp))) → J11 x12) → (a1 = 0 → J11 1) ∧ (¬ a1 = 0 → (¬ a6 = 0 → J11 0) ∧ (a6 = 0 → (a1 = 1 → J11 1) ∧ (¬ a1 = 1 → (¬ a4 = 0 → J11 0) ∧ (a4 = 0 → (¬ a5 = 0 → J11 0) ∧ (a5 = 0 → J11 1)))))) (fun Ez => KX Ez hp))) (fun Ez => KX Ez hp))
set_option maxHeartbeats 8000000 in
theorem C_X1_step_2 {g : qh_G} {x : qc_X} {d : Nat} {sd : String → Nat → Nat} (hO : qc_O g x) (hP : qc_P g qp_ts sd) (a0 : Nat) (a1 : Int32) (a2 : Int32) (a3 : Int32) (a4 : Int32) (a5 : Int32) (a6 : Int32) (hp : qc_H) (c : Nat) (K : Int32 → qc_H → Prop) (KX : String → qc_H → Prop) (hz : T_X1_step_2 g a0 a1 a2 a3 a4 a5 a6 hp c K KX) : qc_S g x (d + 6) c I_X1_step_2 [.ref a0, .int a1, .int a2, .int a3, .int a4, .int a5, .int a6] hp (oX (oI K) KX) := by
  refine qc_S.of (by decide) rfl (ls := [some (.ref a0), some (.int a1), some (.int a2), some (.int a3), some (.int a4), some (.int a5), some (.int a6)]) rfl (Nat.le_of_ble_eq_true rfl) (ct_c rfl (ct_c rfl (ct_c rfl (ct_c rfl (ct_c rfl (ct_c rfl (ct_c rfl ct_n))))))) ?_
  unfold T_X1_step_2 at hz
  have h := hz
  clear hz
  refine qc_iload_n E_X1_step_2 (by rfl) dX1_step_2_0 ?_
  refine qc_bipush E_X1_step_2 6 (by decide) dX1_step_2_1 ?_
  obtain ⟨c2, k1, rfl, h⟩ := h
  refine qc_callS (c := c2) (k := k1) (As := [.int a2, .int 6]) (rest := []) E_X1_step_2 rfl M_X1_known rfl q494 q495 rfl rfl (Nat.le_of_ble_eq_true rfl) dX1_step_2_3 (qc_S.mono ?_ (C_X1_known (d := d + 5) hO hP a2 6 hp k1 _ _ h))
  clear h
  rintro _ tz (hz | hz)
  · obtain ⟨r3, rfl, rfl, h⟩ := hz
    refine K1_i ?_
    refine qc_pop E_X1_step_2 rfl dX1_step_2_6 ?_
    refine qc_iload_n E_X1_step_2 (by rfl) dX1_step_2_7 ?_
    refine qc_iconst E_X1_step_2 0 (by decide) dX1_step_2_8 ?_
    refine qc_iconst E_X1_step_2 2 (by decide) dX1_step_2_9 ?_
    obtain ⟨c5, k4, rfl, h⟩ := h
    refine qc_callS (c := c5) (k := k4) (As := [.int a1, .int 0, .int 2]) (rest := []) E_X1_step_2 rfl M_X1_inRange rfl q1098 q1099 rfl rfl (Nat.le_of_ble_eq_true rfl) dX1_step_2_10 (qc_S.mono ?_ (C_X1_inRange (d := d + 4) hO hP a1 0 2 hp k4 _ _ h))
    clear h
    rintro _ tz (hz | hz)
    · obtain ⟨rfl, rfl, h⟩ := hz
      refine K1_v ?_
      refine qc_iload_n E_X1_step_2 (by rfl) dX1_step_2_13 ?_
      have jz := h (fun (x12 : Int32) => qc_wp g x (d + 6) c5 I_X1_step_2 42 [some (.ref a0), some (.int a1), some (.int a2), some (.int a3), some (.int a4), some (.int a5), some (.int a6)] [.int x12] hp (oX (oI K) KX))
      clear h
      have h := jz (by
        intro x12 h
        obtain ⟨c14, k13, rfl, h⟩ := h
        refine qc_callS (c := c14) (k := k13) (As := [.int x12]) (rest := []) E_X1_step_2 rfl M_X1_fit rfl q540 q541 rfl rfl (Nat.le_of_ble_eq_true rfl) dX1_step_2_42 (qc_S.mono ?_ (C_X1_fit (d := d + 5) hO hP x12 hp k13 _ _ h))
        clear h
        rintro _ tz (hz | hz)
        · obtain ⟨rfl, rfl, h⟩ := hz
          refine K1_v ?_
          refine qc_aload_n E_X1_step_2 (by rfl) dX1_step_2_45 ?_
          refine re_getR E_X1_step_2 rfl ck_X1 (by decide) 9 (by decide) q310 dX1_step_2_46 h ?_
          clear h
          intro v15 h
          refine re_size (d := d) hO E_X1_step_2 rfl q366 (Nat.le_of_ble_eq_true rfl) dX1_step_2_49 h ?_
          clear h
          intro n16 h
          refine qc_iconst E_X1_step_2 4 (by decide) dX1_step_2_52 ?_
          have jz := h (fun (x19 : Int32) => qc_wp g x (d + 6) c14 I_X1_step_2 61 [some (.ref a0), some (.int a1), some (.int a2), some (.int a3), some (.int a4), some (.int a5), some (.int a6)] [.int x19] hp (oX (oI K) KX))
          clear h
          have h := jz (by
            intro x19 h
            obtain ⟨c21, k20, rfl, h⟩ := h
            refine qc_callS (c := c21) (k := k20) (As := [.int x19]) (rest := []) E_X1_step_2 rfl M_X1_allowed rfl q594 q595 rfl rfl (Nat.le_of_ble_eq_true rfl) dX1_step_2_61 (qc_S.mono ?_ (C_X1_allowed (d := d + 5) hO hP x19 hp k20 _ _ h))
            clear h
            rintro _ tz (hz | hz)
            · obtain ⟨rfl, rfl, h⟩ := hz
              refine K1_v ?_
              refine qc_aload_n E_X1_step_2 (by rfl) dX1_step_2_64 ?_
              refine re_getR E_X1_step_2 rfl ck_X1 (by decide) 9 (by decide) q310 dX1_step_2_65 h ?_
              clear h
              intro v22 h
              refine qc_bipush E_X1_step_2 6 (by decide) dX1_step_2_68 ?_
              refine re_newI hO E_X1_step_2 q559 dX1_step_2_70 h ?_
              clear h
              intro w23 h24 c25 h
              refine qc_dup E_X1_step_2 rfl dX1_step_2_72 ?_
              refine qc_iconst E_X1_step_2 0 (by decide) dX1_step_2_73 ?_
              refine qc_iload_n E_X1_step_2 (by rfl) dX1_step_2_74 ?_
              refine re_iast E_X1_step_2 dX1_step_2_75 h ?_
              clear h
              intro h26 h
              refine qc_dup E_X1_step_2 rfl dX1_step_2_76 ?_
              refine qc_iconst E_X1_step_2 1 (by decide) dX1_step_2_77 ?_
              refine qc_iload_n E_X1_step_2 (by rfl) dX1_step_2_78 ?_
              refine re_iast E_X1_step_2 dX1_step_2_79 h ?_
              clear h
              intro h27 h
              refine qc_dup E_X1_step_2 rfl dX1_step_2_80 ?_
              refine qc_iconst E_X1_step_2 2 (by decide) dX1_step_2_81 ?_
              refine qc_iload_n E_X1_step_2 (by rfl) dX1_step_2_82 ?_
              refine re_iast E_X1_step_2 dX1_step_2_83 h ?_
              clear h
              intro h28 h
              refine qc_dup E_X1_step_2 rfl dX1_step_2_84 ?_
              refine qc_iconst E_X1_step_2 3 (by decide) dX1_step_2_85 ?_
              refine qc_iload E_X1_step_2 (by rfl) dX1_step_2_86 ?_
              refine re_iast E_X1_step_2 dX1_step_2_88 h ?_
              clear h
              intro h29 h
              refine qc_dup E_X1_step_2 rfl dX1_step_2_89 ?_
              refine qc_iconst E_X1_step_2 4 (by decide) dX1_step_2_90 ?_
              refine qc_iload E_X1_step_2 (by rfl) dX1_step_2_91 ?_
              refine re_iast E_X1_step_2 dX1_step_2_93 h ?_
              clear h
              intro h30 h
              refine qc_dup E_X1_step_2 rfl dX1_step_2_94 ?_
              refine qc_iconst E_X1_step_2 5 (by decide) dX1_step_2_95 ?_
              refine qc_iload E_X1_step_2 (by rfl) dX1_step_2_96 ?_
              refine re_iast E_X1_step_2 dX1_step_2_98 h ?_
              clear h
              intro h31 h
              refine re_add (d := d) hO E_X1_step_2 rfl q982 (Nat.le_of_ble_eq_true rfl) dX1_step_2_99 h ?_
              clear h
              intro h32 c33 h
              refine qc_pop E_X1_step_2 rfl dX1_step_2_102 ?_
              refine qc_aload_n E_X1_step_2 (by rfl) dX1_step_2_103 ?_
              refine re_getR E_X1_step_2 rfl ck_X1 (by decide) 9 (by decide) q310 dX1_step_2_104 h ?_
              clear h
              intro v34 h
              refine re_size (d := d) hO E_X1_step_2 rfl q366 (Nat.le_of_ble_eq_true rfl) dX1_step_2_107 h ?_
              clear h
              intro n35 h
              exact qc_iret E_X1_step_2 rfl dX1_step_2_110 (Or.inl (⟨_, rfl, h⟩))
            · revert tz; rintro _ ⟨Ez, rfl, rfl, h⟩
              refine K1_x ?_
              exact qc_out (by decide) (Or.inr ⟨_, rfl, h⟩))
          clear jz
          refine qc_icmp_ge E_X1_step_2 60 dX1_step_2_53 (by decide) (fun (c17 : 4 ≤ n16) => ?_) (fun (c17 : ¬ 4 ≤ n16) => ?_)
          · replace h := h.1 c17
            refine qc_iconst E_X1_step_2 0 (by decide) dX1_step_2_60 ?_
            exact h
          · replace h := h.2 c17
            refine qc_iconst E_X1_step_2 1 (by decide) dX1_step_2_56 ?_
            refine qc_goto E_X1_step_2 61 dX1_step_2_57 (by decide) ?_
            exact h
        · revert tz; rintro _ ⟨Ez, rfl, rfl, h⟩
          refine K1_x ?_
          exact qc_out (by decide) (Or.inr ⟨_, rfl, h⟩))
      clear jz
      refine qc_if_eq E_X1_step_2 37 dX1_step_2_14 (by decide) (fun (c6 : a1 = 0) => ?_) (fun (c6 : ¬ a1 = 0) => ?_)
      · replace h := h.1 c6
        refine qc_iconst E_X1_step_2 1 (by decide) dX1_step_2_37 ?_
        refine qc_goto E_X1_step_2 42 dX1_step_2_38 (by decide) ?_
        exact h
      · replace h := h.2 c6
        refine qc_iload E_X1_step_2 (by rfl) dX1_step_2_17 ?_
        refine qc_if_ne E_X1_step_2 41 dX1_step_2_19 (by decide) (fun (c7 : ¬ a6 = 0) => ?_) (fun (c7 : a6 = 0) => ?_)
        · replace h := h.1 c7
          refine qc_iconst E_X1_step_2 0 (by decide) dX1_step_2_41 ?_
          exact h
        · replace h := h.2 c7
          refine qc_iload_n E_X1_step_2 (by rfl) dX1_step_2_22 ?_
          refine qc_iconst E_X1_step_2 1 (by decide) dX1_step_2_23 ?_
          refine qc_icmp_eq E_X1_step_2 37 dX1_step_2_24 (by decide) (fun (c8 : a1 = 1) => ?_) (fun (c8 : ¬ a1 = 1) => ?_)
          · replace h := h.1 c8
            refine qc_iconst E_X1_step_2 1 (by decide) dX1_step_2_37 ?_
            refine qc_goto E_X1_step_2 42 dX1_step_2_38 (by decide) ?_
            exact h
          · replace h := h.2 c8
            refine qc_iload E_X1_step_2 (by rfl) dX1_step_2_27 ?_
            refine qc_if_ne E_X1_step_2 41 dX1_step_2_29 (by decide) (fun (c9 : ¬ a4 = 0) => ?_) (fun (c9 : a4 = 0) => ?_)
            · replace h := h.1 c9
              refine qc_iconst E_X1_step_2 0 (by decide) dX1_step_2_41 ?_
              exact h
            · replace h := h.2 c9
              refine qc_iload E_X1_step_2 (by rfl) dX1_step_2_32 ?_
              refine qc_if_ne E_X1_step_2 41 dX1_step_2_34 (by decide) (fun (c10 : ¬ a5 = 0) => ?_) (fun (c10 : a5 = 0) => ?_)
              · replace h := h.1 c10
                refine qc_iconst E_X1_step_2 0 (by decide) dX1_step_2_41 ?_
                exact h
              · replace h := h.2 c10
                refine qc_iconst E_X1_step_2 1 (by decide) dX1_step_2_37 ?_
                refine qc_goto E_X1_step_2 42 dX1_step_2_38 (by decide) ?_
                exact h
    · revert tz; rintro _ ⟨Ez, rfl, rfl, h⟩
      refine K1_x ?_
      exact qc_out (by decide) (Or.inr ⟨_, rfl, h⟩)
  · revert tz; rintro _ ⟨Ez, rfl, rfl, h⟩
    refine K1_x ?_
    exact qc_out (by decide) (Or.inr ⟨_, rfl, h⟩)
def I_X1_find : qh_I := (yX1_find, cX1_find, 3, (Option.some (Jvm.ClassFile.FieldType.object "QueryHarbor$Row")), [])
theorem E_X1_find : I_X1_find.2.1 = cX1_find := rfl
theorem M_X1_find : qh_M I_X1_find 2 := ⟨by decide, by decide, by decide +kernel, q85, q1623, by decide⟩
def T_X1_find (g : qh_G) (a1 : Nat) (a2 : Int32) (hp : qc_H) (K : Option Nat → Prop) : Prop := eC hp a1 6 (T_X7_placeOf g a1 a2 hp (fun r1 => (¬ r1 = ((-1)) → eR hp a1 6 2 (fun v3 => eGt hp v3 r1 (fun p4 => eC hp p4 8 (K (some p4))))) ∧ (r1 = ((-1)) → K none)))
set_option maxHeartbeats 8000000 in
theorem C_X1_find {g : qh_G} {x : qc_X} {d : Nat} {sd : String → Nat → Nat} (hO : qc_O g x) (hP : qc_P g qp_ts sd) (a1 : Nat) (a2 : Int32) (hp : qc_H) (K : Option Nat → Prop) (hz : T_X1_find g a1 a2 hp K) : qc_S g x (d + 7) 0 I_X1_find [.ref a1, .int a2] hp (oO (fun v t => hp = t ∧ K v)) := by
  refine qc_S.of (by decide) rfl (ls := [some (.ref a1), some (.int a2), none]) rfl (Nat.le_of_ble_eq_true rfl) (ct_c rfl (ct_c rfl ct_n)) ?_
  unfold T_X1_find at hz
  have h := hz
  clear hz
  refine qc_aload_n E_X1_find (by rfl) dX1_find_0 ?_
  refine qc_iload_n E_X1_find (by rfl) dX1_find_1 ?_
  obtain ⟨⟨fz, hb⟩, h⟩ := h
  refine qc_callV (c := 0) (k := 0) (As := [.int a2]) (rest := []) hO E_X1_find rfl M_X7_placeOf rfl q574 q575 q576 (ci := 6) rfl rfl hb rfl rfl (Nat.le_of_ble_eq_true rfl) dX1_find_2 (qc_S.mono ?_ (C_X7_placeOf (d := d) hO hP a1 a2 hp _ h))
  clear h
  clear hb
  rintro _ _ ⟨r1, rfl, rfl, h⟩
  refine K1_i ?_
  refine qc_istore_n E_X1_find (by decide) dX1_find_5 ?_
  refine qc_iload_n E_X1_find (by rfl) dX1_find_6 ?_
  refine qc_iconst E_X1_find (-1) (by decide) dX1_find_7 ?_
  refine qc_icmp_ne E_X1_find 15 dX1_find_8 (by decide) (fun (c2 : ¬ r1 = ((-1))) => ?_) (fun (c2 : r1 = ((-1))) => ?_)
  · replace h := h.1 c2
    refine qc_aload_n E_X1_find (by rfl) dX1_find_15 ?_
    refine re_getR E_X1_find rfl ck_X7 (by decide) 2 (by decide) q278 dX1_find_16 h ?_
    clear h
    intro v3 h
    refine qc_iload_n E_X1_find (by rfl) dX1_find_19 ?_
    refine re_get (d := d + 1) hO E_X1_find rfl q1013 (Nat.le_of_ble_eq_true rfl) dX1_find_20 h ?_
    clear h
    intro p4 h
    refine re_castS (ci := 8) hO E_X1_find rfl rfl q633 dX1_find_23 h ?_
    clear h
    intro h
    exact re_aretO (r := some p4) E_X1_find rfl (Or.inl ⟨_, rfl⟩) dX1_find_26 (⟨_, rfl, rfl, h⟩)
  · replace h := h.2 c2
    refine qc_null E_X1_find dX1_find_11 ?_
    refine qc_goto E_X1_find 26 dX1_find_12 (by decide) ?_
    exact re_aretO (r := none) E_X1_find rfl (Or.inl ⟨_, rfl⟩) dX1_find_26 (⟨_, rfl, rfl, h⟩)
def I_X18_init : qh_I := (yX18_init, cX18_init, 5, (Option.none : Option Jvm.ClassFile.FieldType), [])
theorem E_X18_init : I_X18_init.2.1 = cX18_init := rfl
theorem M_X18_init : qh_M I_X18_init 4 := ⟨by decide, by decide, by decide +kernel, q126, q1626, by decide⟩
def T_X18_init (g : qh_G) (a0 : Nat) (a1 : Nat) (a2 : Nat) (a3 : Option Nat) (a4 : Option Nat) (hp : qc_H) (K : qc_H → Prop) : Prop := eP hp a0 15 3 (.ref a1) (fun h1 => eP h1 a0 15 0 (.ref a2) (fun h2 => eP h2 a0 15 1 (va_rf a3) (fun h3 => eP h3 a0 15 2 (va_rf a4) (fun h4 => K h4))))
set_option maxHeartbeats 8000000 in
theorem C_X18_init {g : qh_G} {x : qc_X} {d : Nat} {sd : String → Nat → Nat} (hO : qc_O g x) (hP : qc_P g qp_ts sd) (a0 : Nat) (a1 : Nat) (a2 : Nat) (a3 : Option Nat) (a4 : Option Nat) (hp : qc_H) (K : qc_H → Prop) (hz : T_X18_init g a0 a1 a2 a3 a4 hp K) : qc_S g x (d + 0) 0 I_X18_init [.ref a0, .ref a1, .ref a2, va_rf a3, va_rf a4] hp (oV K) := by
  refine qc_S.of (by decide) rfl (ls := [some (.ref a0), some (.ref a1), some (.ref a2), some (va_rf a3), some (va_rf a4)]) rfl (Nat.le_of_ble_eq_true rfl) (ct_c rfl (ct_c rfl (ct_c rfl (ct_c ct_o (ct_c ct_o ct_n))))) ?_
  unfold T_X18_init at hz
  have h := hz
  clear hz
  refine qc_aload_n E_X18_init (by rfl) dX18_init_0 ?_
  refine qc_aload_n E_X18_init (by rfl) dX18_init_1 ?_
  refine re_putF E_X18_init rfl rfl ck_X18 (by decide) 3 (by decide) q1631 rfl rfl rfl rfl dX18_init_2 h ?_
  clear h
  intro h1 h
  refine qc_aload_n E_X18_init (by rfl) dX18_init_5 ?_
  refine qc_objInit E_X18_init rfl q1627 q133 q134 dX18_init_6 (Nat.le_of_ble_eq_true rfl) ?_
  refine qc_aload_n E_X18_init (by rfl) dX18_init_9 ?_
  refine qc_aload_n E_X18_init (by rfl) dX18_init_10 ?_
  refine re_putF E_X18_init rfl rfl ck_X18 (by decide) 0 (by decide) q1628 rfl rfl rfl rfl dX18_init_11 h ?_
  clear h
  intro h2 h
  refine qc_aload_n E_X18_init (by rfl) dX18_init_14 ?_
  refine re_aloadO_n E_X18_init (by rfl) dX18_init_15 ?_
  refine re_putF E_X18_init rfl rfl ck_X18 (by decide) 1 (by decide) q1629 rfl rfl (by cases a3 <;> rfl) (by cases a3 <;> rfl) dX18_init_16 h ?_
  clear h
  intro h3 h
  refine qc_aload_n E_X18_init (by rfl) dX18_init_19 ?_
  refine re_aloadO E_X18_init (by rfl) dX18_init_20 ?_
  refine re_putF E_X18_init rfl rfl ck_X18 (by decide) 2 (by decide) q1630 rfl rfl (by cases a4 <;> rfl) (by cases a4 <;> rfl) dX18_init_22 h ?_
  clear h
  intro h4 h
  exact qc_vret E_X18_init rfl dX18_init_25 (⟨rfl, h⟩)
def I_X1_done : qh_I := (yX1_done, cX1_done, 4, (Option.some (Jvm.ClassFile.FieldType.object "QueryHarbor$Done")), [(9, 50, 124, 91), (9, 50, 124, 98), (9, 50, 124, 107), (51, 100, 124, 91), (51, 100, 124, 98), (51, 100, 124, 107), (101, 123, 124, 91), (101, 123, 124, 98), (101, 123, 124, 107)])
theorem E_X1_done : I_X1_done.2.1 = cX1_done := rfl
theorem M_X1_done : qh_M I_X1_done 1 := ⟨by decide, by decide, by decide +kernel, q85, q1617, by decide⟩
def T_X1_done (g : qh_G) (a0 : Nat) (a1 : Nat) (hp : qc_H) (c : Nat) (K : Option Nat → qc_H → Prop) : Prop := eR hp a0 0 1 (fun v1 => eA g.2.2.2.1 hp a1 1 (fun v2 => eQ g.2.2.2.1 5 hp v1 v2 (fun v3 => eA g.2.2.2.1 hp a1 0 (fun v4 => (¬ v4 = 0 → eA g.2.2.2.1 hp a1 2 (fun v6 => T_X1_find g v3 v6 hp (fun r7 => eA g.2.2.2.1 hp a1 0 (fun v8 => (¬ v8 = 1 → eA g.2.2.2.1 hp a1 1 (fun v10 => eA g.2.2.2.1 hp a1 2 (fun v11 => eC hp a0 0 (eK c (fun c13 k12 => T_X1_remove g a0 v10 v11 hp k12 (fun r14 h15 => eN h15 c13 15 4 [.null, .null, .null, .null] (fun w18 h19 c20 => T_X18_init g w18 a0 v3 r7 none h19 (fun h21 => K (some w18) h21))) (fun Ez h16 => (Ez = "java/lang/IndexOutOfBoundsException" ∧ ∀ q17 : Nat, K none h16))))))) ∧ (v8 = 1 → eA g.2.2.2.1 hp a1 1 (fun v22 => eA g.2.2.2.1 hp a1 2 (fun v23 => eA g.2.2.2.1 hp a1 3 (fun v24 => eA g.2.2.2.1 hp a1 4 (fun v25 => eC hp a0 0 (eK c (fun c27 k26 => T_X1_change g a0 v22 v23 v24 v25 hp k26 (fun r28 h29 => eN h29 c27 15 4 [.null, .null, .null, .null] (fun w33 h34 c35 => eA g.2.2.2.1 h34 a1 2 (fun v36 => T_X1_find g v3 v36 h34 (fun r37 => T_X18_init g w33 a0 v3 r7 r37 h34 (fun h38 => K (some w33) h38))))) (fun Ez h30 => (Ez = "java/lang/IllegalArgumentException" ∧ ∀ q31 : Nat, K none h30) ∨ (Ez = "java/lang/IndexOutOfBoundsException" ∧ ∀ q32 : Nat, K none h30))))))))))))) ∧ (v4 = 0 → eA g.2.2.2.1 hp a1 1 (fun v39 => eA g.2.2.2.1 hp a1 2 (fun v40 => eA g.2.2.2.1 hp a1 3 (fun v41 => eA g.2.2.2.1 hp a1 4 (fun v42 => eA g.2.2.2.1 hp a1 5 (fun v43 => eC hp a0 0 (eK c (fun c45 k44 => T_X1_add g a0 v39 v40 v41 v42 v43 hp k44 (fun r46 h47 => eN h47 c45 15 4 [.null, .null, .null, .null] (fun w52 h53 c54 => T_X1_find g v3 r46 h53 (fun r55 => T_X18_init g w52 a0 v3 none r55 h53 (fun h56 => K (some w52) h56)))) (fun Ez h48 => (Ez = "java/lang/IllegalArgumentException" ∧ ∀ q49 : Nat, K none h48) ∨ (Ez = "java/lang/IndexOutOfBoundsException" ∧ ∀ q50 : Nat, K none h48) ∨ (Ez = "java/lang/IllegalStateException" ∧ ∀ q51 : Nat, K none h48))))))))))))))
set_option maxHeartbeats 8000000 in
theorem C_X1_done {g : qh_G} {x : qc_X} {d : Nat} {sd : String → Nat → Nat} (hO : qc_O g x) (hP : qc_P g qp_ts sd) (a0 : Nat) (a1 : Nat) (hp : qc_H) (c : Nat) (K : Option Nat → qc_H → Prop) (hz : T_X1_done g a0 a1 hp c K) : qc_S g x (d + 11) c I_X1_done [.ref a0, .ref a1] hp (oO K) := by
  refine qc_S.ofH (by decide) rfl (ls := [some (.ref a0), some (.ref a1), none, none]) rfl (Nat.le_of_ble_eq_true rfl) (ct_c rfl (ct_c rfl ct_n)) ?_
  unfold T_X1_done at hz
  have h := hz
  clear hz
  refine qc_aload_n E_X1_done (by rfl) dX1_done_0 ?_
  refine re_getR E_X1_done rfl ck_X1 (by decide) 1 (by decide) q300 dX1_done_1 h ?_
  clear h
  intro v1 h
  refine qc_aload_n E_X1_done (by rfl) dX1_done_4 ?_
  refine qc_iconst E_X1_done 1 (by decide) dX1_done_5 ?_
  refine re_iald E_X1_done dX1_done_6 h ?_
  clear h
  intro v2 h
  refine re_aald 5 (fun _ => rfl) E_X1_done dX1_done_7 h ?_
  clear h
  intro v3 h
  refine qc_astore_n E_X1_done (by decide) dX1_done_8 ?_
  refine qc_aload_n E_X1_done (by rfl) dX1_done_9 ?_
  refine qc_iconst E_X1_done 0 (by decide) dX1_done_10 ?_
  refine re_iald E_X1_done dX1_done_11 h ?_
  clear h
  intro v4 h
  refine qc_if_ne E_X1_done 51 dX1_done_12 (by decide) (fun (c5 : ¬ v4 = 0) => ?_) (fun (c5 : v4 = 0) => ?_)
  · replace h := h.1 c5
    refine qc_aload_n E_X1_done (by rfl) dX1_done_51 ?_
    refine qc_aload_n E_X1_done (by rfl) dX1_done_52 ?_
    refine qc_iconst E_X1_done 2 (by decide) dX1_done_53 ?_
    refine re_iald E_X1_done dX1_done_54 h ?_
    clear h
    intro v6 h
    refine qc_callS (c := c) (k := 0) (As := [.ref v3, .int v6]) (rest := []) E_X1_done rfl M_X1_find rfl q1621 q1622 rfl rfl (Nat.le_of_ble_eq_true rfl) dX1_done_55 (qc_S.mono ?_ (C_X1_find (d := d + 3) hO hP v3 v6 hp _ h))
    clear h
    rintro _ _ ⟨r7, rfl, rfl, h⟩
    refine K1_o ?_
    refine re_astoreO_n E_X1_done (by decide) dX1_done_58 ?_
    refine qc_aload_n E_X1_done (by rfl) dX1_done_59 ?_
    refine qc_iconst E_X1_done 0 (by decide) dX1_done_60 ?_
    refine re_iald E_X1_done dX1_done_61 h ?_
    clear h
    intro v8 h
    refine qc_iconst E_X1_done 1 (by decide) dX1_done_62 ?_
    refine qc_icmp_ne E_X1_done 101 dX1_done_63 (by decide) (fun (c9 : ¬ v8 = 1) => ?_) (fun (c9 : v8 = 1) => ?_)
    · replace h := h.1 c9
      refine qc_aload_n E_X1_done (by rfl) dX1_done_101 ?_
      refine qc_aload_n E_X1_done (by rfl) dX1_done_102 ?_
      refine qc_iconst E_X1_done 1 (by decide) dX1_done_103 ?_
      refine re_iald E_X1_done dX1_done_104 h ?_
      clear h
      intro v10 h
      refine qc_aload_n E_X1_done (by rfl) dX1_done_105 ?_
      refine qc_iconst E_X1_done 2 (by decide) dX1_done_106 ?_
      refine re_iald E_X1_done dX1_done_107 h ?_
      clear h
      intro v11 h
      obtain ⟨⟨fz, hb⟩, c13, k12, rfl, h⟩ := h
      refine qc_callV (c := c13) (k := k12) (As := [.int v10, .int v11]) (rest := []) hO E_X1_done rfl M_X1_remove rfl q1642 q1070 q1071 (ci := 0) rfl rfl hb rfl rfl (Nat.le_of_ble_eq_true rfl) dX1_done_108 (qc_S.mono ?_ (C_X1_remove (d := d + 1) hO hP a0 v10 v11 hp k12 _ _ h))
      clear h
      clear hb
      rintro _ tz (hz | hz)
      · revert tz; rintro h15 ⟨r14, rfl, h⟩
        refine K1_i ?_
        refine qc_pop E_X1_done rfl dX1_done_111 ?_
        refine re_new hO E_X1_done rfl ck_X18 q1619 q1620 q126 df_X18 dX1_done_112 h ?_
        clear h
        intro w18 h19 c20 h
        refine qc_dup E_X1_done rfl dX1_done_115 ?_
        refine qc_aload_n E_X1_done (by rfl) dX1_done_116 ?_
        refine qc_aload_n E_X1_done (by rfl) dX1_done_117 ?_
        refine re_aloadO_n E_X1_done (by rfl) dX1_done_118 ?_
        refine qc_null E_X1_done dX1_done_119 ?_
        refine qc_callI (c := c20) (k := 0) (As := [.ref a0, .ref v3, va_rf r7, .null]) (rest := [.ref w18]) E_X1_done rfl M_X18_init rfl rfl rfl q1624 q1625 rfl rfl (Nat.le_of_ble_eq_true rfl) dX1_done_120 (qc_S.mono ?_ (C_X18_init (d := d + 10) hO hP w18 a0 v3 r7 none h19 _ h))
        clear h
        rintro _ h21 ⟨rfl, h⟩
        refine K1_v ?_
        exact re_aretO (r := some w18) E_X1_done rfl (Or.inl ⟨_, rfl⟩) dX1_done_123 (⟨_, rfl, h⟩)
      · revert tz; rintro h16 ⟨Ez, rfl, h⟩
        refine K1_x ?_
        obtain ⟨rfl, h⟩ := h
        · refine qc_catch (own := RX1) rfl [⟨9, 50, 124, 91⟩, ⟨9, 50, 124, 98⟩, ⟨9, 50, 124, 107⟩, ⟨51, 100, 124, 91⟩, ⟨51, 100, 124, 98⟩, ⟨51, 100, 124, 107⟩] ⟨101, 123, 124, 91⟩ [⟨101, 123, 124, 98⟩, ⟨101, 123, 124, 107⟩] rfl (by intro z hz; have hz : z ∈ ([⟨9, 50, 124, 91⟩, ⟨9, 50, 124, 98⟩, ⟨9, 50, 124, 107⟩, ⟨51, 100, 124, 91⟩, ⟨51, 100, 124, 98⟩, ⟨51, 100, 124, 107⟩] : List ExceptionTableEntry) := hz; simp only [List.mem_cons, List.not_mem_nil, or_false] at hz; rcases hz with rfl | rfl | rfl | rfl | rfl | rfl <;> first | exact Or.inl (by decide)) (by decide) (by decide) q497 (hP.2.1 _ (qp_n q499 rfl)) ?_
          intro q17
          replace h := h q17
          refine qc_astore_n E_X1_done (by decide) dX1_done_124 ?_
          refine qc_null E_X1_done dX1_done_125 ?_
          exact re_aretO (r := none) E_X1_done rfl (Or.inl ⟨_, rfl⟩) dX1_done_126 (⟨_, rfl, h⟩)
    · replace h := h.2 c9
      refine qc_aload_n E_X1_done (by rfl) dX1_done_66 ?_
      refine qc_aload_n E_X1_done (by rfl) dX1_done_67 ?_
      refine qc_iconst E_X1_done 1 (by decide) dX1_done_68 ?_
      refine re_iald E_X1_done dX1_done_69 h ?_
      clear h
      intro v22 h
      refine qc_aload_n E_X1_done (by rfl) dX1_done_70 ?_
      refine qc_iconst E_X1_done 2 (by decide) dX1_done_71 ?_
      refine re_iald E_X1_done dX1_done_72 h ?_
      clear h
      intro v23 h
      refine qc_aload_n E_X1_done (by rfl) dX1_done_73 ?_
      refine qc_iconst E_X1_done 3 (by decide) dX1_done_74 ?_
      refine re_iald E_X1_done dX1_done_75 h ?_
      clear h
      intro v24 h
      refine qc_aload_n E_X1_done (by rfl) dX1_done_76 ?_
      refine qc_iconst E_X1_done 4 (by decide) dX1_done_77 ?_
      refine re_iald E_X1_done dX1_done_78 h ?_
      clear h
      intro v25 h
      obtain ⟨⟨fz, hb⟩, c27, k26, rfl, h⟩ := h
      refine qc_callV (c := c27) (k := k26) (As := [.int v22, .int v23, .int v24, .int v25]) (rest := []) hO E_X1_done rfl M_X1_change rfl q1641 q1031 q1032 (ci := 0) rfl rfl hb rfl rfl (Nat.le_of_ble_eq_true rfl) dX1_done_79 (qc_S.mono ?_ (C_X1_change (d := d) hO hP a0 v22 v23 v24 v25 hp k26 _ _ h))
      clear h
      clear hb
      rintro _ tz (hz | hz)
      · revert tz; rintro h29 ⟨r28, rfl, h⟩
        refine K1_i ?_
        refine qc_pop E_X1_done rfl dX1_done_82 ?_
        refine re_new hO E_X1_done rfl ck_X18 q1619 q1620 q126 df_X18 dX1_done_83 h ?_
        clear h
        intro w33 h34 c35 h
        refine qc_dup E_X1_done rfl dX1_done_86 ?_
        refine qc_aload_n E_X1_done (by rfl) dX1_done_87 ?_
        refine qc_aload_n E_X1_done (by rfl) dX1_done_88 ?_
        refine re_aloadO_n E_X1_done (by rfl) dX1_done_89 ?_
        refine qc_aload_n E_X1_done (by rfl) dX1_done_90 ?_
        refine qc_aload_n E_X1_done (by rfl) dX1_done_91 ?_
        refine qc_iconst E_X1_done 2 (by decide) dX1_done_92 ?_
        refine re_iald E_X1_done dX1_done_93 h ?_
        clear h
        intro v36 h
        refine qc_callS (c := c35) (k := 0) (As := [.ref v3, .int v36]) (rest := [va_rf r7, .ref v3, .ref a0, .ref w33, .ref w33]) E_X1_done rfl M_X1_find rfl q1621 q1622 rfl rfl (by cases r7 <;> exact Nat.le_of_ble_eq_true rfl) dX1_done_94 (qc_S.mono ?_ (C_X1_find (d := d + 3) hO hP v3 v36 h34 _ h))
        clear h
        rintro _ _ ⟨r37, rfl, rfl, h⟩
        refine K1_o ?_
        refine qc_callI (c := c35) (k := 0) (As := [.ref a0, .ref v3, va_rf r7, va_rf r37]) (rest := [.ref w33]) E_X1_done rfl M_X18_init rfl rfl rfl q1624 q1625 rfl rfl (Nat.le_of_ble_eq_true rfl) dX1_done_97 (qc_S.mono ?_ (C_X18_init (d := d + 10) hO hP w33 a0 v3 r7 r37 h34 _ h))
        clear h
        rintro _ h38 ⟨rfl, h⟩
        refine K1_v ?_
        exact re_aretO (r := some w33) E_X1_done rfl (Or.inl ⟨_, rfl⟩) dX1_done_100 (⟨_, rfl, h⟩)
      · revert tz; rintro h30 ⟨Ez, rfl, h⟩
        refine K1_x ?_
        rcases h with ⟨rfl, h⟩ | ⟨rfl, h⟩
        · refine qc_catch (own := RX1) rfl [⟨9, 50, 124, 91⟩, ⟨9, 50, 124, 98⟩, ⟨9, 50, 124, 107⟩, ⟨51, 100, 124, 91⟩] ⟨51, 100, 124, 98⟩ [⟨51, 100, 124, 107⟩, ⟨101, 123, 124, 91⟩, ⟨101, 123, 124, 98⟩, ⟨101, 123, 124, 107⟩] rfl (by intro z hz; have hz : z ∈ ([⟨9, 50, 124, 91⟩, ⟨9, 50, 124, 98⟩, ⟨9, 50, 124, 107⟩, ⟨51, 100, 124, 91⟩] : List ExceptionTableEntry) := hz; simp only [List.mem_cons, List.not_mem_nil, or_false] at hz; rcases hz with rfl | rfl | rfl | rfl <;> first | exact Or.inl (by decide) | exact Or.inr ⟨by decide, _, q497, hP.2.2.1 ("java/lang/IllegalArgumentException", "java/lang/IndexOutOfBoundsException") (by decide)⟩) (by decide) (by decide) q543 (hP.2.1 _ (qp_n q545 rfl)) ?_
          intro q31
          replace h := h q31
          refine qc_astore_n E_X1_done (by decide) dX1_done_124 ?_
          refine qc_null E_X1_done dX1_done_125 ?_
          exact re_aretO (r := none) E_X1_done rfl (Or.inl ⟨_, rfl⟩) dX1_done_126 (⟨_, rfl, h⟩)
        · refine qc_catch (own := RX1) rfl [⟨9, 50, 124, 91⟩, ⟨9, 50, 124, 98⟩, ⟨9, 50, 124, 107⟩] ⟨51, 100, 124, 91⟩ [⟨51, 100, 124, 98⟩, ⟨51, 100, 124, 107⟩, ⟨101, 123, 124, 91⟩, ⟨101, 123, 124, 98⟩, ⟨101, 123, 124, 107⟩] rfl (by intro z hz; have hz : z ∈ ([⟨9, 50, 124, 91⟩, ⟨9, 50, 124, 98⟩, ⟨9, 50, 124, 107⟩] : List ExceptionTableEntry) := hz; simp only [List.mem_cons, List.not_mem_nil, or_false] at hz; rcases hz with rfl | rfl | rfl <;> first | exact Or.inl (by decide)) (by decide) (by decide) q497 (hP.2.1 _ (qp_n q499 rfl)) ?_
          intro q32
          replace h := h q32
          refine qc_astore_n E_X1_done (by decide) dX1_done_124 ?_
          refine qc_null E_X1_done dX1_done_125 ?_
          exact re_aretO (r := none) E_X1_done rfl (Or.inl ⟨_, rfl⟩) dX1_done_126 (⟨_, rfl, h⟩)
  · replace h := h.2 c5
    refine qc_aload_n E_X1_done (by rfl) dX1_done_15 ?_
    refine qc_aload_n E_X1_done (by rfl) dX1_done_16 ?_
    refine qc_iconst E_X1_done 1 (by decide) dX1_done_17 ?_
    refine re_iald E_X1_done dX1_done_18 h ?_
    clear h
    intro v39 h
    refine qc_aload_n E_X1_done (by rfl) dX1_done_19 ?_
    refine qc_iconst E_X1_done 2 (by decide) dX1_done_20 ?_
    refine re_iald E_X1_done dX1_done_21 h ?_
    clear h
    intro v40 h
    refine qc_aload_n E_X1_done (by rfl) dX1_done_22 ?_
    refine qc_iconst E_X1_done 3 (by decide) dX1_done_23 ?_
    refine re_iald E_X1_done dX1_done_24 h ?_
    clear h
    intro v41 h
    refine qc_aload_n E_X1_done (by rfl) dX1_done_25 ?_
    refine qc_iconst E_X1_done 4 (by decide) dX1_done_26 ?_
    refine re_iald E_X1_done dX1_done_27 h ?_
    clear h
    intro v42 h
    refine qc_aload_n E_X1_done (by rfl) dX1_done_28 ?_
    refine qc_iconst E_X1_done 5 (by decide) dX1_done_29 ?_
    refine re_iald E_X1_done dX1_done_30 h ?_
    clear h
    intro v43 h
    obtain ⟨⟨fz, hb⟩, c45, k44, rfl, h⟩ := h
    refine qc_callV (c := c45) (k := k44) (As := [.int v39, .int v40, .int v41, .int v42, .int v43]) (rest := []) hO E_X1_done rfl M_X1_add rfl q1618 q487 q488 (ci := 0) rfl rfl hb rfl rfl (Nat.le_of_ble_eq_true rfl) dX1_done_31 (qc_S.mono ?_ (C_X1_add (d := d + 1) hO hP a0 v39 v40 v41 v42 v43 hp k44 _ _ h))
    clear h
    clear hb
    rintro _ tz (hz | hz)
    · revert tz; rintro h47 ⟨r46, rfl, h⟩
      refine K1_i ?_
      refine qc_istore_n E_X1_done (by decide) dX1_done_34 ?_
      refine re_new hO E_X1_done rfl ck_X18 q1619 q1620 q126 df_X18 dX1_done_35 h ?_
      clear h
      intro w52 h53 c54 h
      refine qc_dup E_X1_done rfl dX1_done_38 ?_
      refine qc_aload_n E_X1_done (by rfl) dX1_done_39 ?_
      refine qc_aload_n E_X1_done (by rfl) dX1_done_40 ?_
      refine qc_null E_X1_done dX1_done_41 ?_
      refine qc_aload_n E_X1_done (by rfl) dX1_done_42 ?_
      refine qc_iload_n E_X1_done (by rfl) dX1_done_43 ?_
      refine qc_callS (c := c54) (k := 0) (As := [.ref v3, .int r46]) (rest := [.null, .ref v3, .ref a0, .ref w52, .ref w52]) E_X1_done rfl M_X1_find rfl q1621 q1622 rfl rfl (Nat.le_of_ble_eq_true rfl) dX1_done_44 (qc_S.mono ?_ (C_X1_find (d := d + 3) hO hP v3 r46 h53 _ h))
      clear h
      rintro _ _ ⟨r55, rfl, rfl, h⟩
      refine K1_o ?_
      refine qc_callI (c := c54) (k := 0) (As := [.ref a0, .ref v3, .null, va_rf r55]) (rest := [.ref w52]) E_X1_done rfl M_X18_init rfl rfl rfl q1624 q1625 rfl rfl (Nat.le_of_ble_eq_true rfl) dX1_done_47 (qc_S.mono ?_ (C_X18_init (d := d + 10) hO hP w52 a0 v3 none r55 h53 _ h))
      clear h
      rintro _ h56 ⟨rfl, h⟩
      refine K1_v ?_
      exact re_aretO (r := some w52) E_X1_done rfl (Or.inl ⟨_, rfl⟩) dX1_done_50 (⟨_, rfl, h⟩)
    · revert tz; rintro h48 ⟨Ez, rfl, h⟩
      refine K1_x ?_
      rcases h with ⟨rfl, h⟩ | ⟨rfl, h⟩ | ⟨rfl, h⟩
      · refine qc_catch (own := RX1) rfl [⟨9, 50, 124, 91⟩] ⟨9, 50, 124, 98⟩ [⟨9, 50, 124, 107⟩, ⟨51, 100, 124, 91⟩, ⟨51, 100, 124, 98⟩, ⟨51, 100, 124, 107⟩, ⟨101, 123, 124, 91⟩, ⟨101, 123, 124, 98⟩, ⟨101, 123, 124, 107⟩] rfl (by intro z hz; have hz : z ∈ ([⟨9, 50, 124, 91⟩] : List ExceptionTableEntry) := hz; simp only [List.mem_cons, List.not_mem_nil, or_false] at hz; subst hz; exact Or.inr ⟨by decide, _, q497, hP.2.2.1 ("java/lang/IllegalArgumentException", "java/lang/IndexOutOfBoundsException") (by decide)⟩) (by decide) (by decide) q543 (hP.2.1 _ (qp_n q545 rfl)) ?_
        intro q49
        replace h := h q49
        refine qc_astore_n E_X1_done (by decide) dX1_done_124 ?_
        refine qc_null E_X1_done dX1_done_125 ?_
        exact re_aretO (r := none) E_X1_done rfl (Or.inl ⟨_, rfl⟩) dX1_done_126 (⟨_, rfl, h⟩)
      · refine qc_catch (own := RX1) rfl [] ⟨9, 50, 124, 91⟩ [⟨9, 50, 124, 98⟩, ⟨9, 50, 124, 107⟩, ⟨51, 100, 124, 91⟩, ⟨51, 100, 124, 98⟩, ⟨51, 100, 124, 107⟩, ⟨101, 123, 124, 91⟩, ⟨101, 123, 124, 98⟩, ⟨101, 123, 124, 107⟩] rfl (by intro z hz; cases hz) (by decide) (by decide) q497 (hP.2.1 _ (qp_n q499 rfl)) ?_
        intro q50
        replace h := h q50
        refine qc_astore_n E_X1_done (by decide) dX1_done_124 ?_
        refine qc_null E_X1_done dX1_done_125 ?_
        exact re_aretO (r := none) E_X1_done rfl (Or.inl ⟨_, rfl⟩) dX1_done_126 (⟨_, rfl, h⟩)
      · refine qc_catch (own := RX1) rfl [⟨9, 50, 124, 91⟩, ⟨9, 50, 124, 98⟩] ⟨9, 50, 124, 107⟩ [⟨51, 100, 124, 91⟩, ⟨51, 100, 124, 98⟩, ⟨51, 100, 124, 107⟩, ⟨101, 123, 124, 91⟩, ⟨101, 123, 124, 98⟩, ⟨101, 123, 124, 107⟩] rfl (by intro z hz; have hz : z ∈ ([⟨9, 50, 124, 91⟩, ⟨9, 50, 124, 98⟩] : List ExceptionTableEntry) := hz; simp only [List.mem_cons, List.not_mem_nil, or_false] at hz; rcases hz with rfl | rfl <;> first | exact Or.inr ⟨by decide, _, q497, hP.2.2.1 ("java/lang/IllegalStateException", "java/lang/IndexOutOfBoundsException") (by decide)⟩ | exact Or.inr ⟨by decide, _, q543, hP.2.2.1 ("java/lang/IllegalStateException", "java/lang/IllegalArgumentException") (by decide)⟩) (by decide) (by decide) q597 (hP.2.1 _ (qp_n q599 rfl)) ?_
        intro q51
        replace h := h q51
        refine qc_astore_n E_X1_done (by decide) dX1_done_124 ?_
        refine qc_null E_X1_done dX1_done_125 ?_
        exact re_aretO (r := none) E_X1_done rfl (Or.inl ⟨_, rfl⟩) dX1_done_126 (⟨_, rfl, h⟩)
def I_X1_isDone : qh_I := (yX1_isDone, cX1_isDone, 10, (Option.some Jvm.ClassFile.FieldType.boolean), [(41, 53, 56, 330), (41, 53, 56, 314)])
theorem E_X1_isDone : I_X1_isDone.2.1 = cX1_isDone := rfl
theorem M_X1_isDone : qh_M I_X1_isDone 2 := ⟨by decide, by decide, by decide +kernel, q85, q1613, by decide⟩
def T_X1_isDone (g : qh_G) (a0 : Nat) (a1 : Nat) (a2 : Nat) (hp : qc_H) (c : Nat) (K : Int32 → qc_H → Prop) : Prop := eR hp a0 0 0 (fun v1 => eA g.2.2.2.1 hp a1 1 (fun v2 => eQ g.2.2.2.1 4 hp v1 (v2 / 2) (fun v3 => eN hp c 5 7 [.null, .null, .int 0, .int 0, .int 0, .int 0, .int 0] (fun w4 h5 c6 => eK c6 (fun c8 k7 => T_X6_init g w4 h5 k7 (fun h9 => ∀ X10 : Option Nat → Int32 → qc_H → Nat → Prop, (∀ (x11 : Option Nat) (x12 : Int32) (h13 : qc_H) (c14 : Nat), ((3 ≤ x12 → K 0 h13) ∧ (¬ 3 ≤ x12 → eI h13 v3 1 7 (fun v16 => eI h13 a0 0 15 (fun v17 => eC h13 a0 0 (eK c14 (fun c19 k18 => T_X1_attempt g a0 v3 v17 ((-1)) w4 h13 k18 (fun h20 => ∀ J64 : Option Nat → qc_H → Nat → Prop, (∀ (x65 : Option Nat) (h66 : qc_H) (c67 : Nat), ((x65 = none → K 0 h66) ∧ (∀ y68, x65 = some y68 → K 1 h66)) → J64 x65 h66 c67) → (∀ y54, x11 = some y54 → J64 (some y54) h20 c19) ∧ (x11 = none → eC h20 a0 0 (eK c19 (fun c57 k56 => T_X1_done g a0 a1 h20 k56 (fun r58 h59 => (r58 = none → J64 none h59 c57) ∧ (∀ y60, r58 = some y60 → eAd g h59 a2 y60 c57 (fun h62 c63 => J64 (some y60) h62 c63))))))) (fun Ez h21 => (Ez = "QueryHarbor$Failed" ∧ ∀ q22 : Nat, ∀ J34 : Option Nat → qc_H → Nat → Prop, (∀ (x35 : Option Nat) (h36 : qc_H) (c37 : Nat), (X10 x35 (x12 + 1) h36 c37) → J34 x35 h36 c37) → (∀ y23, x11 = some y23 → J34 (some y23) h21 c19) ∧ (x11 = none → (v16 = 0 → J34 none h21 c19) ∧ (¬ v16 = 0 → eC h21 a0 0 (eK c19 (fun c27 k26 => T_X1_done g a0 a1 h21 k26 (fun r28 h29 => (r28 = none → J34 none h29 c27) ∧ (∀ y30, r28 = some y30 → eAd g h29 a2 y30 c27 (fun h32 c33 => J34 (some y30) h32 c33)))))))) ∨ (Ez = "QueryHarbor$NoAnswer" ∧ ∀ q38 : Nat, ∀ J50 : Option Nat → qc_H → Nat → Prop, (∀ (x51 : Option Nat) (h52 : qc_H) (c53 : Nat), (X10 x51 (x12 + 1) h52 c53) → J50 x51 h52 c53) → (∀ y39, x11 = some y39 → J50 (some y39) h21 c19) ∧ (x11 = none → (v16 = 0 → J50 none h21 c19) ∧ (¬ v16 = 0 → eC h21 a0 0 (eK c19 (fun c43 k42 => T_X1_done g a0 a1 h21 k42 (fun r44 h45 => (r44 = none → J50 none h45 c43) ∧ (∀ y46, r44 = some y46 → eAd g h45 a2 y46 c43 (fun h48 c49 => J50 (some y46) h48 c49))))))))))))))) → X10 x11 x12 h13 c14) → X10 none 0 h9 c8))))))
set_option maxHeartbeats 8000000 in
theorem C_X1_isDone {g : qh_G} {x : qc_X} {d : Nat} {sd : String → Nat → Nat} (hO : qc_O g x) (hP : qc_P g qp_ts sd) (a0 : Nat) (a1 : Nat) (a2 : Nat) (hp : qc_H) (c : Nat) (K : Int32 → qc_H → Prop) (hz : T_X1_isDone g a0 a1 a2 hp c K) : qc_S g x (d + 12) c I_X1_isDone [.ref a0, .ref a1, .ref a2] hp (oZ K) := by
  refine qc_S.ofH (by decide) rfl (ls := [some (.ref a0), some (.ref a1), some (.ref a2), none, none, none, none, none, none, none]) rfl (Nat.le_of_ble_eq_true rfl) (ct_c rfl (ct_c rfl (ct_c rfl ct_n))) ?_
  unfold T_X1_isDone at hz
  have h := hz
  clear hz
  refine qc_aload_n E_X1_isDone (by rfl) dX1_isDone_0 ?_
  refine re_getR E_X1_isDone rfl ck_X1 (by decide) 0 (by decide) q298 dX1_isDone_1 h ?_
  clear h
  intro v1 h
  refine qc_aload_n E_X1_isDone (by rfl) dX1_isDone_4 ?_
  refine qc_iconst E_X1_isDone 1 (by decide) dX1_isDone_5 ?_
  refine re_iald E_X1_isDone dX1_isDone_6 h ?_
  clear h
  intro v2 h
  refine qc_iconst E_X1_isDone 2 (by decide) dX1_isDone_7 ?_
  refine qc_idiv E_X1_isDone (by decide) dX1_isDone_8 ?_
  refine re_aald 4 (fun _ => rfl) E_X1_isDone dX1_isDone_9 h ?_
  clear h
  intro v3 h
  refine qc_astore_n E_X1_isDone (by decide) dX1_isDone_10 ?_
  refine qc_null E_X1_isDone dX1_isDone_11 ?_
  refine qc_astoreN E_X1_isDone (by decide) dX1_isDone_12 ?_
  refine re_new hO E_X1_isDone rfl ck_X6 q231 q232 q93 df_X6 dX1_isDone_14 h ?_
  clear h
  intro w4 h5 c6 h
  refine qc_dup E_X1_isDone rfl dX1_isDone_17 ?_
  obtain ⟨c8, k7, rfl, h⟩ := h
  refine qc_callIN (c := c8) (k := k7) (As := []) (rest := [.ref w4]) E_X1_isDone rfl M_X6_init rfl rfl rfl (hO.2.1 _ (qj_N q233 rfl)) q234 rfl rfl (Nat.le_of_ble_eq_true rfl) dX1_isDone_18 (qc_S.mono ?_ (C_X6_init (d := d + 5) hO hP w4 h5 k7 _ h))
  clear h
  rintro _ h9 ⟨rfl, h⟩
  refine K1_v ?_
  refine qc_astore E_X1_isDone (by decide) dX1_isDone_21 ?_
  refine qc_iconst E_X1_isDone 0 (by decide) dX1_isDone_23 ?_
  refine qc_istore E_X1_isDone (by decide) dX1_isDone_24 ?_
  refine h (fun (x11 : Option Nat) (x12 : Int32) (h13 : qc_H) (c14 : Nat) => qc_wp g x (d + 12) c14 I_X1_isDone 26 [some (.ref a0), some (.ref a1), some (.ref a2), some (.ref v3), some (va_rf x11), some (.ref w4), some (.int x12), none, none, none] [] h13 (oZ K)) ?_
  clear h
  intro x11 x12 h13 c14 h
  refine qc_iload E_X1_isDone (by rfl) dX1_isDone_26 ?_
  refine qc_iconst E_X1_isDone 3 (by decide) dX1_isDone_28 ?_
  refine qc_icmp_ge E_X1_isDone 117 dX1_isDone_29 (by decide) (fun (c15 : 3 ≤ x12) => ?_) (fun (c15 : ¬ 3 ≤ x12) => ?_)
  · replace h := h.1 c15
    refine qc_iconst E_X1_isDone 0 (by decide) dX1_isDone_117 ?_
    exact qc_zret E_X1_isDone rfl (qm_nb (Or.inl rfl)) dX1_isDone_118 (⟨_, rfl, (Or.inl rfl), h⟩)
  · replace h := h.2 c15
    refine qc_iconst E_X1_isDone 1 (by decide) dX1_isDone_32 ?_
    refine qc_istore E_X1_isDone (by decide) dX1_isDone_33 ?_
    refine qc_aload_n E_X1_isDone (by rfl) dX1_isDone_35 ?_
    refine re_getI E_X1_isDone rfl ck_X2 (by decide) 7 (by decide) q162 dX1_isDone_36 h ?_
    clear h
    intro v16 h
    refine qc_istore E_X1_isDone (by decide) dX1_isDone_39 ?_
    refine qc_aload_n E_X1_isDone (by rfl) dX1_isDone_41 ?_
    refine qc_aload_n E_X1_isDone (by rfl) dX1_isDone_42 ?_
    refine qc_aload_n E_X1_isDone (by rfl) dX1_isDone_43 ?_
    refine re_getI E_X1_isDone rfl ck_X1 (by decide) 15 (by decide) q316 dX1_isDone_44 h ?_
    clear h
    intro v17 h
    refine qc_iconst E_X1_isDone (-1) (by decide) dX1_isDone_47 ?_
    refine qc_aload E_X1_isDone (by rfl) dX1_isDone_48 ?_
    obtain ⟨⟨fz, hb⟩, c19, k18, rfl, h⟩ := h
    refine qc_callV (c := c19) (k := k18) (As := [.ref v3, .int v17, .int ((-1)), .ref w4]) (rest := []) hO E_X1_isDone rfl M_X1_attempt rfl q1425 q1427 qs22 (ci := 0) rfl rfl hb rfl rfl (Nat.le_of_ble_eq_true rfl) dX1_isDone_50 (qc_S.mono ?_ (C_X1_attempt (d := d + 3) hO hP a0 v3 v17 ((-1)) w4 h13 k18 _ _ h))
    clear h
    clear hb
    rintro _ tz (hz | hz)
    · revert tz; rintro h20 ⟨rfl, h⟩
      refine K1_v ?_
      refine qc_goto E_X1_isDone 61 dX1_isDone_53 (by decide) ?_
      refine re_aloadO E_X1_isDone (by rfl) dX1_isDone_61 ?_
      have jz := h (fun (x65 : Option Nat) (h66 : qc_H) (c67 : Nat) => qc_wp g x (d + 12) c67 I_X1_isDone 95 [some (.ref a0), some (.ref a1), some (.ref a2), some (.ref v3), some (va_rf x65), some (.ref w4), some (.int x12), some (.int 1), none, none] [] h66 (oZ K))
      clear h
      have h := jz (by
        intro x65 h66 c67 h
        refine qc_iload E_X1_isDone (by rfl) dX1_isDone_95 ?_
        refine qc_if_eq E_X1_isDone 111 dX1_isDone_97 (by decide) (fun zz => absurd zz (by decide)) (fun _ => ?_)
        refine re_aloadO E_X1_isDone (by rfl) dX1_isDone_100 ?_
        refine re_ifnullO E_X1_isDone 109 dX1_isDone_102 (by decide) (fun c69 => ?_) (fun y68 c69 => ?_)
        · replace h := h.1 c69
          subst c69
          refine qc_iconst E_X1_isDone 0 (by decide) dX1_isDone_109 ?_
          exact qc_zret E_X1_isDone rfl (qm_nb (Or.inl rfl)) dX1_isDone_110 (⟨_, rfl, (Or.inl rfl), h⟩)
        · replace h := h.2 y68 c69
          subst c69
          refine qc_iconst E_X1_isDone 1 (by decide) dX1_isDone_105 ?_
          refine qc_goto E_X1_isDone 110 dX1_isDone_106 (by decide) ?_
          exact qc_zret E_X1_isDone rfl (qm_nb (Or.inr rfl)) dX1_isDone_110 (⟨_, rfl, (Or.inr rfl), h⟩))
      clear jz
      refine re_ifnonnullO E_X1_isDone 95 dX1_isDone_63 (by decide) (fun y54 c55 => ?_) (fun c55 => ?_)
      · replace h := h.1 y54 c55
        subst c55
        refine qc_drop 8 ?_
        exact h
      · replace h := h.2 c55
        subst c55
        refine qc_iload E_X1_isDone (by rfl) dX1_isDone_66 ?_
        refine qc_if_ne E_X1_isDone 76 dX1_isDone_68 (by decide) (fun _ => ?_) (fun zz => absurd zz (by decide))
        refine qc_aload_n E_X1_isDone (by rfl) dX1_isDone_76 ?_
        refine qc_aload_n E_X1_isDone (by rfl) dX1_isDone_77 ?_
        obtain ⟨⟨fz, hb⟩, c57, k56, rfl, h⟩ := h
        refine qc_callVX (c := c57) (k := k56) (As := [.ref a1]) (rest := []) hO E_X1_isDone rfl M_X1_done rfl q1614 q1616 qs32 (ci := 0) rfl rfl hb rfl rfl (Nat.le_of_ble_eq_true rfl) dX1_isDone_78 (qc_S.mono ?_ (C_X1_done (d := d) hO hP a0 a1 h20 k56 _ h))
        clear h
        clear hb
        rintro _ h59 ⟨r58, rfl, h⟩
        refine K1_o ?_
        refine re_astoreO E_X1_isDone (by decide) dX1_isDone_81 ?_
        refine re_aloadO E_X1_isDone (by rfl) dX1_isDone_83 ?_
        refine re_ifnullO E_X1_isDone 95 dX1_isDone_85 (by decide) (fun c61 => ?_) (fun y60 c61 => ?_)
        · replace h := h.1 c61
          subst c61
          refine qc_drop 8 ?_
          exact h
        · replace h := h.2 y60 c61
          subst c61
          refine qc_aload_n E_X1_isDone (by rfl) dX1_isDone_88 ?_
          refine qc_aload E_X1_isDone (by rfl) dX1_isDone_89 ?_
          refine re_add (d := d + 6) hO E_X1_isDone rfl q982 (Nat.le_of_ble_eq_true rfl) dX1_isDone_91 h ?_
          clear h
          intro h62 c63 h
          refine qc_pop E_X1_isDone rfl dX1_isDone_94 ?_
          refine qc_drop 8 ?_
          exact h
    · revert tz; rintro h21 ⟨Ez, rfl, h⟩
      refine K1_x ?_
      rcases h with ⟨rfl, h⟩ | ⟨rfl, h⟩
      · refine qc_catch (own := RX1) rfl [] ⟨41, 53, 56, 330⟩ [⟨41, 53, 56, 314⟩] rfl (by intro z hz; cases hz) (by decide) (by decide) q1424 (hP.2.1 _ (qp_n q1450 rfl)) ?_
        intro q22
        replace h := h q22
        refine qc_astore E_X1_isDone (by decide) dX1_isDone_56 ?_
        refine qc_iconst E_X1_isDone 0 (by decide) dX1_isDone_58 ?_
        refine qc_istore E_X1_isDone (by decide) dX1_isDone_59 ?_
        refine re_aloadO E_X1_isDone (by rfl) dX1_isDone_61 ?_
        have jz := h (fun (x35 : Option Nat) (h36 : qc_H) (c37 : Nat) => qc_wp g x (d + 12) c37 I_X1_isDone 95 [some (.ref a0), some (.ref a1), some (.ref a2), some (.ref v3), some (va_rf x35), some (.ref w4), some (.int x12), some (.int 0), none, none] [] h36 (oZ K))
        clear h
        have h := jz (by
          intro x35 h36 c37 h
          refine qc_iload E_X1_isDone (by rfl) dX1_isDone_95 ?_
          refine qc_if_eq E_X1_isDone 111 dX1_isDone_97 (by decide) (fun _ => ?_) (fun zz => absurd zz (by decide))
          refine qc_iinc E_X1_isDone 1 rfl (by decide) (by decide) dX1_isDone_111 ?_
          refine qc_goto E_X1_isDone 26 dX1_isDone_114 (by decide) ?_
          refine qc_drop 7 ?_
          exact h)
        clear jz
        refine re_ifnonnullO E_X1_isDone 95 dX1_isDone_63 (by decide) (fun y23 c24 => ?_) (fun c24 => ?_)
        · replace h := h.1 y23 c24
          subst c24
          refine qc_drop 8 ?_
          refine qc_drop 9 ?_
          exact h
        · replace h := h.2 c24
          subst c24
          refine qc_iload E_X1_isDone (by rfl) dX1_isDone_66 ?_
          refine qc_if_ne E_X1_isDone 76 dX1_isDone_68 (by decide) (fun zz => absurd zz (by decide)) (fun _ => ?_)
          refine qc_iload E_X1_isDone (by rfl) dX1_isDone_71 ?_
          refine qc_if_eq E_X1_isDone 95 dX1_isDone_73 (by decide) (fun (c25 : v16 = 0) => ?_) (fun (c25 : ¬ v16 = 0) => ?_)
          · replace h := h.1 c25
            refine qc_drop 8 ?_
            refine qc_drop 9 ?_
            exact h
          · replace h := h.2 c25
            refine qc_aload_n E_X1_isDone (by rfl) dX1_isDone_76 ?_
            refine qc_aload_n E_X1_isDone (by rfl) dX1_isDone_77 ?_
            obtain ⟨⟨fz, hb⟩, c27, k26, rfl, h⟩ := h
            refine qc_callVX (c := c27) (k := k26) (As := [.ref a1]) (rest := []) hO E_X1_isDone rfl M_X1_done rfl q1614 q1616 qs32 (ci := 0) rfl rfl hb rfl rfl (Nat.le_of_ble_eq_true rfl) dX1_isDone_78 (qc_S.mono ?_ (C_X1_done (d := d) hO hP a0 a1 h21 k26 _ h))
            clear h
            clear hb
            rintro _ h29 ⟨r28, rfl, h⟩
            refine K1_o ?_
            refine re_astoreO E_X1_isDone (by decide) dX1_isDone_81 ?_
            refine re_aloadO E_X1_isDone (by rfl) dX1_isDone_83 ?_
            refine re_ifnullO E_X1_isDone 95 dX1_isDone_85 (by decide) (fun c31 => ?_) (fun y30 c31 => ?_)
            · replace h := h.1 c31
              subst c31
              refine qc_drop 8 ?_
              refine qc_drop 9 ?_
              exact h
            · replace h := h.2 y30 c31
              subst c31
              refine qc_aload_n E_X1_isDone (by rfl) dX1_isDone_88 ?_
              refine qc_aload E_X1_isDone (by rfl) dX1_isDone_89 ?_
              refine re_add (d := d + 6) hO E_X1_isDone rfl q982 (Nat.le_of_ble_eq_true rfl) dX1_isDone_91 h ?_
              clear h
              intro h32 c33 h
              refine qc_pop E_X1_isDone rfl dX1_isDone_94 ?_
              refine qc_drop 8 ?_
              refine qc_drop 9 ?_
              exact h
      · refine qc_catch (own := RX1) rfl [⟨41, 53, 56, 330⟩] ⟨41, 53, 56, 314⟩ [] rfl (by intro z hz; have hz : z ∈ ([⟨41, 53, 56, 330⟩] : List ExceptionTableEntry) := hz; simp only [List.mem_cons, List.not_mem_nil, or_false] at hz; subst hz; exact Or.inr ⟨by decide, _, q1424, hP.2.2.1 ("QueryHarbor$NoAnswer", "QueryHarbor$Failed") (by decide)⟩) (by decide) (by decide) q1362 (hP.2.1 _ (qp_n q1430 rfl)) ?_
        intro q38
        replace h := h q38
        refine qc_astore E_X1_isDone (by decide) dX1_isDone_56 ?_
        refine qc_iconst E_X1_isDone 0 (by decide) dX1_isDone_58 ?_
        refine qc_istore E_X1_isDone (by decide) dX1_isDone_59 ?_
        refine re_aloadO E_X1_isDone (by rfl) dX1_isDone_61 ?_
        have jz := h (fun (x51 : Option Nat) (h52 : qc_H) (c53 : Nat) => qc_wp g x (d + 12) c53 I_X1_isDone 95 [some (.ref a0), some (.ref a1), some (.ref a2), some (.ref v3), some (va_rf x51), some (.ref w4), some (.int x12), some (.int 0), none, none] [] h52 (oZ K))
        clear h
        have h := jz (by
          intro x51 h52 c53 h
          refine qc_iload E_X1_isDone (by rfl) dX1_isDone_95 ?_
          refine qc_if_eq E_X1_isDone 111 dX1_isDone_97 (by decide) (fun _ => ?_) (fun zz => absurd zz (by decide))
          refine qc_iinc E_X1_isDone 1 rfl (by decide) (by decide) dX1_isDone_111 ?_
          refine qc_goto E_X1_isDone 26 dX1_isDone_114 (by decide) ?_
          refine qc_drop 7 ?_
          exact h)
        clear jz
        refine re_ifnonnullO E_X1_isDone 95 dX1_isDone_63 (by decide) (fun y39 c40 => ?_) (fun c40 => ?_)
        · replace h := h.1 y39 c40
          subst c40
          refine qc_drop 8 ?_
          refine qc_drop 9 ?_
          exact h
        · replace h := h.2 c40
          subst c40
          refine qc_iload E_X1_isDone (by rfl) dX1_isDone_66 ?_
          refine qc_if_ne E_X1_isDone 76 dX1_isDone_68 (by decide) (fun zz => absurd zz (by decide)) (fun _ => ?_)
          refine qc_iload E_X1_isDone (by rfl) dX1_isDone_71 ?_
          refine qc_if_eq E_X1_isDone 95 dX1_isDone_73 (by decide) (fun (c41 : v16 = 0) => ?_) (fun (c41 : ¬ v16 = 0) => ?_)
          · replace h := h.1 c41
            refine qc_drop 8 ?_
            refine qc_drop 9 ?_
            exact h
          · replace h := h.2 c41
            refine qc_aload_n E_X1_isDone (by rfl) dX1_isDone_76 ?_
            refine qc_aload_n E_X1_isDone (by rfl) dX1_isDone_77 ?_
            obtain ⟨⟨fz, hb⟩, c43, k42, rfl, h⟩ := h
            refine qc_callVX (c := c43) (k := k42) (As := [.ref a1]) (rest := []) hO E_X1_isDone rfl M_X1_done rfl q1614 q1616 qs32 (ci := 0) rfl rfl hb rfl rfl (Nat.le_of_ble_eq_true rfl) dX1_isDone_78 (qc_S.mono ?_ (C_X1_done (d := d) hO hP a0 a1 h21 k42 _ h))
            clear h
            clear hb
            rintro _ h45 ⟨r44, rfl, h⟩
            refine K1_o ?_
            refine re_astoreO E_X1_isDone (by decide) dX1_isDone_81 ?_
            refine re_aloadO E_X1_isDone (by rfl) dX1_isDone_83 ?_
            refine re_ifnullO E_X1_isDone 95 dX1_isDone_85 (by decide) (fun c47 => ?_) (fun y46 c47 => ?_)
            · replace h := h.1 c47
              subst c47
              refine qc_drop 8 ?_
              refine qc_drop 9 ?_
              exact h
            · replace h := h.2 y46 c47
              subst c47
              refine qc_aload_n E_X1_isDone (by rfl) dX1_isDone_88 ?_
              refine qc_aload E_X1_isDone (by rfl) dX1_isDone_89 ?_
              refine re_add (d := d + 6) hO E_X1_isDone rfl q982 (Nat.le_of_ble_eq_true rfl) dX1_isDone_91 h ?_
              clear h
              intro h48 c49 h
              refine qc_pop E_X1_isDone rfl dX1_isDone_94 ?_
              refine qc_drop 8 ?_
              refine qc_drop 9 ?_
              exact h
def I_X18_takeBack : qh_I := (yX18_takeBack, cX18_takeBack, 1, (Option.none : Option Jvm.ClassFile.FieldType), [])
theorem E_X18_takeBack : I_X18_takeBack.2.1 = cX18_takeBack := rfl
theorem M_X18_takeBack : qh_M I_X18_takeBack 0 := ⟨by decide, by decide, by decide +kernel, q126, q1646, by decide⟩
def T_X18_takeBack (g : qh_G) (a0 : Nat) (hp : qc_H) (c : Nat) (K : qc_H → Prop) : Prop := eO hp a0 15 2 (fun v1 => ∀ J13 : qc_H → Prop, (∀ (h14 : qc_H), (eO h14 a0 15 1 (fun v15 => ∀ J24 : qc_H → Nat → Prop, (∀ (h25 : qc_H) (c26 : Nat), (eR h25 a0 15 3 (fun v27 => eR h25 a0 15 0 (fun v28 => eC h25 v27 0 (eK c26 (fun c30 k29 => T_X1_written g v27 v28 h25 k29 (fun h31 => K h31)))))) → J24 h25 c26) → (v15 = none → J24 h14 c) ∧ (∀ y16, v15 = some y16 → eR h14 a0 15 0 (fun v18 => eO h14 a0 15 1 (fun v19 => ∃ y20 : Nat, v19 = some y20 ∧ eC h14 v18 6 (eK c (fun c22 k21 => T_X7_lay g v18 y20 h14 k21 (fun h23 => J24 h23 c22)))))))) → J13 h14) → (v1 = none → J13 hp) ∧ (∀ y2, v1 = some y2 → eR hp a0 15 0 (fun v4 => eR hp v4 6 2 (fun v5 => eR hp a0 15 0 (fun v6 => eO hp a0 15 2 (fun v7 => ∃ y8 : Nat, v7 = some y8 ∧ eI hp y8 8 0 (fun v9 => eC hp v6 6 (T_X7_placeOf g v6 v9 hp (fun r10 => eRm hp v5 r10 (fun p12 h11 => J13 h11))))))))))
set_option maxHeartbeats 8000000 in
theorem C_X18_takeBack {g : qh_G} {x : qc_X} {d : Nat} {sd : String → Nat → Nat} (hO : qc_O g x) (hP : qc_P g qp_ts sd) (a0 : Nat) (hp : qc_H) (c : Nat) (K : qc_H → Prop) (hz : T_X18_takeBack g a0 hp c K) : qc_S g x (d + 9) c I_X18_takeBack [.ref a0] hp (oV K) := by
  refine qc_S.of (by decide) rfl (ls := [some (.ref a0)]) rfl (Nat.le_of_ble_eq_true rfl) (ct_c rfl ct_n) ?_
  unfold T_X18_takeBack at hz
  have h := hz
  clear hz
  refine qc_aload_n E_X18_takeBack (by rfl) dX18_takeBack_0 ?_
  refine re_getO E_X18_takeBack rfl ck_X18 (by decide) 2 (by decide) q1630 dX18_takeBack_1 h ?_
  clear h
  intro v1 h
  have jz := h (fun (h14 : qc_H) => qc_wp g x (d + 9) c I_X18_takeBack 32 [some (.ref a0)] [] h14 (oV K))
  clear h
  have h := jz (by
    intro h14 h
    refine qc_aload_n E_X18_takeBack (by rfl) dX18_takeBack_32 ?_
    refine re_getO E_X18_takeBack rfl ck_X18 (by decide) 1 (by decide) q1629 dX18_takeBack_33 h ?_
    clear h
    intro v15 h
    have jz := h (fun (h25 : qc_H) (c26 : Nat) => qc_wp g x (d + 9) c26 I_X18_takeBack 50 [some (.ref a0)] [] h25 (oV K))
    clear h
    have h := jz (by
      intro h25 c26 h
      refine qc_aload_n E_X18_takeBack (by rfl) dX18_takeBack_50 ?_
      refine re_getR E_X18_takeBack rfl ck_X18 (by decide) 3 (by decide) q1631 dX18_takeBack_51 h ?_
      clear h
      intro v27 h
      refine qc_aload_n E_X18_takeBack (by rfl) dX18_takeBack_54 ?_
      refine re_getR E_X18_takeBack rfl ck_X18 (by decide) 0 (by decide) q1628 dX18_takeBack_55 h ?_
      clear h
      intro v28 h
      obtain ⟨⟨fz, hb⟩, c30, k29, rfl, h⟩ := h
      refine qc_callVN (c := c30) (k := k29) (As := [.ref v28]) (rest := []) hO E_X18_takeBack rfl M_X1_written rfl (hO.2.1 _ (qj_N q1650 rfl)) q960 qs6 (ci := 0) rfl rfl hb rfl rfl (Nat.le_of_ble_eq_true rfl) dX18_takeBack_58 (qc_S.mono ?_ (C_X1_written (d := d) hO hP v27 v28 h25 k29 _ h))
      clear h
      clear hb
      rintro _ h31 ⟨rfl, h⟩
      refine K1_v ?_
      exact qc_vret E_X18_takeBack rfl dX18_takeBack_61 (⟨rfl, h⟩))
    clear jz
    refine re_ifnullO E_X18_takeBack 50 dX18_takeBack_36 (by decide) (fun c17 => ?_) (fun y16 c17 => ?_)
    · replace h := h.1 c17
      subst c17
      exact h
    · replace h := h.2 y16 c17
      subst c17
      refine qc_aload_n E_X18_takeBack (by rfl) dX18_takeBack_39 ?_
      refine re_getR E_X18_takeBack rfl ck_X18 (by decide) 0 (by decide) q1628 dX18_takeBack_40 h ?_
      clear h
      intro v18 h
      refine qc_aload_n E_X18_takeBack (by rfl) dX18_takeBack_43 ?_
      refine re_getO E_X18_takeBack rfl ck_X18 (by decide) 1 (by decide) q1629 dX18_takeBack_44 h ?_
      clear h
      intro v19 h
      obtain ⟨y20, rfl, h⟩ := h
      obtain ⟨⟨fz, hb⟩, c22, k21, rfl, h⟩ := h
      refine qc_callV (c := c22) (k := k21) (As := [.ref y20]) (rest := []) hO E_X18_takeBack rfl M_X7_lay rfl q1649 q653 q654 (ci := 6) rfl rfl hb rfl rfl (Nat.le_of_ble_eq_true rfl) dX18_takeBack_47 (qc_S.mono ?_ (C_X7_lay (d := d + 2) hO hP v18 y20 h14 k21 _ h))
      clear h
      clear hb
      rintro _ h23 ⟨rfl, h⟩
      refine K1_v ?_
      exact h)
  clear jz
  refine re_ifnullO E_X18_takeBack 32 dX18_takeBack_4 (by decide) (fun c3 => ?_) (fun y2 c3 => ?_)
  · replace h := h.1 c3
    subst c3
    exact h
  · replace h := h.2 y2 c3
    subst c3
    refine qc_aload_n E_X18_takeBack (by rfl) dX18_takeBack_7 ?_
    refine re_getR E_X18_takeBack rfl ck_X18 (by decide) 0 (by decide) q1628 dX18_takeBack_8 h ?_
    clear h
    intro v4 h
    refine re_getR E_X18_takeBack rfl ck_X7 (by decide) 2 (by decide) q277 dX18_takeBack_11 h ?_
    clear h
    intro v5 h
    refine qc_aload_n E_X18_takeBack (by rfl) dX18_takeBack_14 ?_
    refine re_getR E_X18_takeBack rfl ck_X18 (by decide) 0 (by decide) q1628 dX18_takeBack_15 h ?_
    clear h
    intro v6 h
    refine qc_aload_n E_X18_takeBack (by rfl) dX18_takeBack_18 ?_
    refine re_getO E_X18_takeBack rfl ck_X18 (by decide) 2 (by decide) q1630 dX18_takeBack_19 h ?_
    clear h
    intro v7 h
    obtain ⟨y8, rfl, h⟩ := h
    refine re_getI E_X18_takeBack rfl ck_X9 (by decide) 0 (by decide) q640 dX18_takeBack_22 h ?_
    clear h
    intro v9 h
    obtain ⟨⟨fz, hb⟩, h⟩ := h
    refine qc_callV (c := c) (k := 0) (As := [.int v9]) (rest := [.ref v5]) hO E_X18_takeBack rfl M_X7_placeOf rfl q1647 q575 q576 (ci := 6) rfl rfl hb rfl rfl (Nat.le_of_ble_eq_true rfl) dX18_takeBack_25 (qc_S.mono ?_ (C_X7_placeOf (d := d + 2) hO hP v6 v9 hp _ h))
    clear h
    clear hb
    rintro _ _ ⟨r10, rfl, rfl, h⟩
    refine K1_i ?_
    refine re_remove (d := d + 3) hO E_X18_takeBack rfl q1648 (Nat.le_of_ble_eq_true rfl) dX18_takeBack_28 h ?_
    clear h
    intro p12 h11 h
    refine qc_pop E_X18_takeBack rfl dX18_takeBack_31 ?_
    exact h
def I_X1_run : qh_I := (yX1_run, cX1_run, 4, (Option.some Jvm.ClassFile.FieldType.int), [])
theorem E_X1_run : I_X1_run.2.1 = cX1_run := rfl
theorem M_X1_run : qh_M I_X1_run 0 := ⟨by decide, by decide, by decide +kernel, q85, q1609, by decide⟩
def T_X1_run (g : qh_G) (a0 : Nat) (hp : qc_H) (c : Nat) (K : Int32 → qc_H → Prop) (KX : String → qc_H → Prop) : Prop := eR hp a0 0 9 (fun v1 => eEm hp v1 (fun n2 => ∀ J4 : Int32 → Prop, (∀ (x5 : Int32), (eK c (fun c7 k6 => T_X1_allowed g x5 hp k6 (eNL hp c7 (fun w8 h9 c10 => ∀ X11 : Int32 → Int32 → qc_H → Nat → Prop, (∀ (x12 : Int32) (x13 : Int32) (h14 : qc_H) (c15 : Nat), (eR h14 a0 0 9 (fun v16 => eSz h14 v16 (fun n17 => ∀ J30 : Prop, ((eSz h14 w8 (fun n31 => ∀ X32 : Int32 → qc_H → Nat → Prop, (∀ (x33 : Int32) (h34 : qc_H) (c35 : Nat), (∀ J42 : Prop, ((eR h34 a0 0 9 (fun v43 => eCl h34 v43 (fun h44 => K x12 h44))) → J42) → (x33 < 0 → J42) ∧ (¬ x33 < 0 → (x12 = ((-1)) → J42) ∧ (¬ x12 = ((-1)) → eGt h34 w8 x33 (fun p38 => eC h34 p38 15 (eC h34 p38 15 (eK c35 (fun c40 k39 => T_X18_takeBack g p38 h34 k39 (fun h41 => X32 (x33 + (-1)) h41 c40)))))))) → X32 x33 h34 c35) → X32 (n31 - 1) h14 c15)) → J30) → (n17 ≤ x13 → J30) ∧ (¬ n17 ≤ x13 → (¬ x12 = ((-1)) → J30) ∧ (x12 = ((-1)) → eR h14 a0 0 9 (fun v20 => eGt h14 v20 x13 (fun p21 => eCA g.2.2.2.1 h14 p21 (eC h14 a0 0 (eK c15 (fun c23 k22 => T_X1_isDone g a0 p21 w8 h14 k22 (fun r24 h26 => ∀ J28 : Int32 → Prop, (∀ (x29 : Int32), (X11 x29 (x13 + 1) h26 c23) → J28 x29) → (r24 = 0 → J28 x13) ∧ (¬ r24 = 0 → J28 ((-1)))))))))))))) → X11 x12 x13 h14 c15) → X11 ((-1)) 0 h9 c10)) (fun Ez => KX Ez hp))) → J4 x5) → (¬ n2 = 0 → J4 0) ∧ (n2 = 0 → J4 1)))
set_option maxHeartbeats 8000000 in
theorem C_X1_run {g : qh_G} {x : qc_X} {d : Nat} {sd : String → Nat → Nat} (hO : qc_O g x) (hP : qc_P g qp_ts sd) (a0 : Nat) (hp : qc_H) (c : Nat) (K : Int32 → qc_H → Prop) (KX : String → qc_H → Prop) (hz : T_X1_run g a0 hp c K KX) : qc_S g x (d + 13) c I_X1_run [.ref a0] hp (oX (oI K) KX) := by
  refine qc_S.of (by decide) rfl (ls := [some (.ref a0), none, none, none]) rfl (Nat.le_of_ble_eq_true rfl) (ct_c rfl ct_n) ?_
  unfold T_X1_run at hz
  have h := hz
  clear hz
  refine qc_aload_n E_X1_run (by rfl) dX1_run_0 ?_
  refine re_getR E_X1_run rfl ck_X1 (by decide) 9 (by decide) q310 dX1_run_1 h ?_
  clear h
  intro v1 h
  refine re_empty (d := d + 7) hO E_X1_run rfl q1250 (Nat.le_of_ble_eq_true rfl) dX1_run_4 h ?_
  clear h
  intro n2 h
  have jz := h (fun (x5 : Int32) => qc_wp g x (d + 13) c I_X1_run 15 [some (.ref a0), none, none, none] [.int x5] hp (oX (oI K) KX))
  clear h
  have h := jz (by
    intro x5 h
    obtain ⟨c7, k6, rfl, h⟩ := h
    refine qc_callS (c := c7) (k := k6) (As := [.int x5]) (rest := []) E_X1_run rfl M_X1_allowed rfl q594 q595 rfl rfl (Nat.le_of_ble_eq_true rfl) dX1_run_15 (qc_S.mono ?_ (C_X1_allowed (d := d + 12) hO hP x5 hp k6 _ _ h))
    clear h
    rintro _ tz (hz | hz)
    · obtain ⟨rfl, rfl, h⟩ := hz
      refine K1_v ?_
      refine re_newL (d := d + 7) hO E_X1_run rfl q204 q206 (Nat.le_of_ble_eq_true rfl) dX1_run_18 dX1_run_21 dX1_run_22 h ?_
      clear h
      intro w8 h9 c10 h
      refine qc_astore_n E_X1_run (by decide) dX1_run_25 ?_
      refine qc_iconst E_X1_run (-1) (by decide) dX1_run_26 ?_
      refine qc_istore_n E_X1_run (by decide) dX1_run_27 ?_
      refine qc_iconst E_X1_run 0 (by decide) dX1_run_28 ?_
      refine qc_istore_n E_X1_run (by decide) dX1_run_29 ?_
      refine h (fun (x12 : Int32) (x13 : Int32) (h14 : qc_H) (c15 : Nat) => qc_wp g x (d + 13) c15 I_X1_run 30 [some (.ref a0), some (.ref w8), some (.int x12), some (.int x13)] [] h14 (oX (oI K) KX)) ?_
      clear h
      intro x12 x13 h14 c15 h
      refine qc_iload_n E_X1_run (by rfl) dX1_run_30 ?_
      refine qc_aload_n E_X1_run (by rfl) dX1_run_31 ?_
      refine re_getR E_X1_run rfl ck_X1 (by decide) 9 (by decide) q310 dX1_run_32 h ?_
      clear h
      intro v16 h
      refine re_size (d := d + 7) hO E_X1_run rfl q366 (Nat.le_of_ble_eq_true rfl) dX1_run_35 h ?_
      clear h
      intro n17 h
      have jz := h (qc_wp g x (d + 13) c15 I_X1_run 77 [some (.ref a0), some (.ref w8), some (.int x12), none] [] h14 (oX (oI K) KX))
      clear h
      have h := jz (by
        intro h
        refine qc_aload_n E_X1_run (by rfl) dX1_run_77 ?_
        refine re_size (d := d + 7) hO E_X1_run rfl q366 (Nat.le_of_ble_eq_true rfl) dX1_run_78 h ?_
        clear h
        intro n31 h
        refine qc_iconst E_X1_run 1 (by decide) dX1_run_81 ?_
        refine qc_isub E_X1_run dX1_run_82 ?_
        refine qc_istore_n E_X1_run (by decide) dX1_run_83 ?_
        refine h (fun (x33 : Int32) (h34 : qc_H) (c35 : Nat) => qc_wp g x (d + 13) c35 I_X1_run 84 [some (.ref a0), some (.ref w8), some (.int x12), some (.int x33)] [] h34 (oX (oI K) KX)) ?_
        clear h
        intro x33 h34 c35 h
        refine qc_iload_n E_X1_run (by rfl) dX1_run_84 ?_
        have jz := h (qc_wp g x (d + 13) c35 I_X1_run 110 [some (.ref a0), none, some (.int x12), none] [] h34 (oX (oI K) KX))
        clear h
        have h := jz (by
          intro h
          refine qc_aload_n E_X1_run (by rfl) dX1_run_110 ?_
          refine re_getR E_X1_run rfl ck_X1 (by decide) 9 (by decide) q310 dX1_run_111 h ?_
          clear h
          intro v43 h
          refine re_clear (d := d + 7) hO E_X1_run rfl q370 (Nat.le_of_ble_eq_true rfl) dX1_run_114 h ?_
          clear h
          intro h44 h
          refine qc_iload_n E_X1_run (by rfl) dX1_run_117 ?_
          exact qc_iret E_X1_run rfl dX1_run_118 (Or.inl (⟨_, rfl, h⟩)))
        clear jz
        refine qc_if_lt E_X1_run 110 dX1_run_85 (by decide) (fun (c36 : x33 < 0) => ?_) (fun (c36 : ¬ x33 < 0) => ?_)
        · replace h := h.1 c36
          refine qc_drop 1 ?_
          refine qc_drop 3 ?_
          exact h
        · replace h := h.2 c36
          refine qc_iload_n E_X1_run (by rfl) dX1_run_88 ?_
          refine qc_iconst E_X1_run (-1) (by decide) dX1_run_89 ?_
          refine qc_icmp_eq E_X1_run 110 dX1_run_90 (by decide) (fun (c37 : x12 = ((-1))) => ?_) (fun (c37 : ¬ x12 = ((-1))) => ?_)
          · replace h := h.1 c37
            refine qc_drop 1 ?_
            refine qc_drop 3 ?_
            exact h
          · replace h := h.2 c37
            refine qc_aload_n E_X1_run (by rfl) dX1_run_93 ?_
            refine qc_iload_n E_X1_run (by rfl) dX1_run_94 ?_
            refine re_get (d := d + 7) hO E_X1_run rfl q1013 (Nat.le_of_ble_eq_true rfl) dX1_run_95 h ?_
            clear h
            intro p38 h
            refine re_castS (ci := 15) hO E_X1_run rfl rfl q1619 dX1_run_98 h ?_
            clear h
            intro h
            obtain ⟨⟨fz, hb⟩, c40, k39, rfl, h⟩ := h
            refine qc_callV (c := c40) (k := k39) (As := []) (rest := []) hO E_X1_run rfl M_X18_takeBack rfl q1643 q1644 q1645 (ci := 15) rfl rfl hb rfl rfl (Nat.le_of_ble_eq_true rfl) dX1_run_101 (qc_S.mono ?_ (C_X18_takeBack (d := d + 3) hO hP p38 h34 k39 _ h))
            clear h
            clear hb
            rintro _ h41 ⟨rfl, h⟩
            refine K1_v ?_
            refine qc_iinc E_X1_run (-1) rfl (by decide) (by decide) dX1_run_104 ?_
            refine qc_goto E_X1_run 84 dX1_run_107 (by decide) ?_
            exact h)
      clear jz
      refine qc_icmp_ge E_X1_run 77 dX1_run_38 (by decide) (fun (c18 : n17 ≤ x13) => ?_) (fun (c18 : ¬ n17 ≤ x13) => ?_)
      · replace h := h.1 c18
        refine qc_drop 3 ?_
        exact h
      · replace h := h.2 c18
        refine qc_iload_n E_X1_run (by rfl) dX1_run_41 ?_
        refine qc_iconst E_X1_run (-1) (by decide) dX1_run_42 ?_
        refine qc_icmp_ne E_X1_run 77 dX1_run_43 (by decide) (fun (c19 : ¬ x12 = ((-1))) => ?_) (fun (c19 : x12 = ((-1))) => ?_)
        · replace h := h.1 c19
          refine qc_drop 3 ?_
          exact h
        · replace h := h.2 c19
          refine qc_aload_n E_X1_run (by rfl) dX1_run_46 ?_
          refine qc_aload_n E_X1_run (by rfl) dX1_run_47 ?_
          refine re_getR E_X1_run rfl ck_X1 (by decide) 9 (by decide) q310 dX1_run_48 h ?_
          clear h
          intro v20 h
          refine qc_iload_n E_X1_run (by rfl) dX1_run_51 ?_
          refine re_get (d := d + 7) hO E_X1_run rfl q1013 (Nat.le_of_ble_eq_true rfl) dX1_run_52 h ?_
          clear h
          intro p21 h
          refine re_castA E_X1_run rfl q1536 dX1_run_55 h ?_
          clear h
          intro h
          refine qc_aload_n E_X1_run (by rfl) dX1_run_58 ?_
          obtain ⟨⟨fz, hb⟩, c23, k22, rfl, h⟩ := h
          refine qc_callVX (c := c23) (k := k22) (As := [.ref p21, .ref w8]) (rest := []) hO E_X1_run rfl M_X1_isDone rfl q1610 q1612 qs31 (ci := 0) rfl rfl hb rfl rfl (Nat.le_of_ble_eq_true rfl) dX1_run_59 (qc_S.mono ?_ (C_X1_isDone (d := d) hO hP a0 p21 w8 h14 k22 _ h))
          clear h
          clear hb
          rintro _ h26 ⟨r24, rfl, z25, h⟩
          refine K1_i ?_
          have jz := h (fun (x29 : Int32) => qc_wp g x (d + 13) c23 I_X1_run 70 [some (.ref a0), some (.ref w8), none, some (.int x13)] [.int x29] h26 (oX (oI K) KX))
          clear h
          have h := jz (by
            intro x29 h
            refine qc_istore_n E_X1_run (by decide) dX1_run_70 ?_
            refine qc_iinc E_X1_run 1 rfl (by decide) (by decide) dX1_run_71 ?_
            refine qc_goto E_X1_run 30 dX1_run_74 (by decide) ?_
            exact h)
          clear jz
          refine qc_if_eq E_X1_run 69 dX1_run_62 (by decide) (fun (c27 : r24 = 0) => ?_) (fun (c27 : ¬ r24 = 0) => ?_)
          · replace h := h.1 c27
            refine qc_iload_n E_X1_run (by rfl) dX1_run_69 ?_
            refine qc_drop 2 ?_
            exact h
          · replace h := h.2 c27
            refine qc_iconst E_X1_run (-1) (by decide) dX1_run_65 ?_
            refine qc_goto E_X1_run 70 dX1_run_66 (by decide) ?_
            refine qc_drop 2 ?_
            exact h
    · revert tz; rintro _ ⟨Ez, rfl, rfl, h⟩
      refine K1_x ?_
      exact qc_out (by decide) (Or.inr ⟨_, rfl, h⟩))
  clear jz
  refine qc_if_ne E_X1_run 14 dX1_run_7 (by decide) (fun (c3 : ¬ n2 = 0) => ?_) (fun (c3 : n2 = 0) => ?_)
  · replace h := h.1 c3
    refine qc_iconst E_X1_run 0 (by decide) dX1_run_14 ?_
    exact h
  · replace h := h.2 c3
    refine qc_iconst E_X1_run 1 (by decide) dX1_run_10 ?_
    refine qc_goto E_X1_run 15 dX1_run_11 (by decide) ?_
    exact h
def I_X2_init : qh_I := (yX2_init, cX2_init, 2, (Option.none : Option Jvm.ClassFile.FieldType), [])
theorem E_X2_init : I_X2_init.2.1 = cX2_init := rfl
theorem M_X2_init : qh_M I_X2_init 1 := ⟨by decide, by decide, by decide +kernel, q86, q147, by decide⟩
def T_X2_init (g : qh_G) (a0 : Nat) (a1 : Nat) (hp : qc_H) (K : qc_H → Prop) : Prop := eP hp a0 1 1 (.int 1) (fun h1 => eP h1 a0 1 3 (.int 20) (fun h2 => eP h2 a0 1 4 (.int 12) (fun h3 => eP h3 a0 1 5 (.int 60) (fun h4 => eP h4 a0 1 0 (.ref a1) (fun h5 => K h5)))))
set_option maxHeartbeats 8000000 in
theorem C_X2_init {g : qh_G} {x : qc_X} {d : Nat} {sd : String → Nat → Nat} (hO : qc_O g x) (hP : qc_P g qp_ts sd) (a0 : Nat) (a1 : Nat) (hp : qc_H) (K : qc_H → Prop) (hz : T_X2_init g a0 a1 hp K) : qc_S g x (d + 0) 0 I_X2_init [.ref a0, .ref a1] hp (oV K) := by
  refine qc_S.of (by decide) rfl (ls := [some (.ref a0), some (.ref a1)]) rfl (Nat.le_of_ble_eq_true rfl) (ct_c rfl (ct_c rfl ct_n)) ?_
  unfold T_X2_init at hz
  have h := hz
  clear hz
  refine qc_aload_n E_X2_init (by rfl) dX2_init_0 ?_
  refine qc_objInit E_X2_init rfl q148 q133 q134 dX2_init_1 (Nat.le_of_ble_eq_true rfl) ?_
  refine qc_aload_n E_X2_init (by rfl) dX2_init_4 ?_
  refine qc_iconst E_X2_init 1 (by decide) dX2_init_5 ?_
  refine re_put E_X2_init rfl ck_X2 (by decide) 1 (by decide) q152 rfl rfl rfl dX2_init_6 h ?_
  clear h
  intro h1 h
  refine qc_aload_n E_X2_init (by rfl) dX2_init_9 ?_
  refine qc_bipush E_X2_init 20 (by decide) dX2_init_10 ?_
  refine re_put E_X2_init rfl ck_X2 (by decide) 3 (by decide) q155 rfl rfl rfl dX2_init_12 h ?_
  clear h
  intro h2 h
  refine qc_aload_n E_X2_init (by rfl) dX2_init_15 ?_
  refine qc_bipush E_X2_init 12 (by decide) dX2_init_16 ?_
  refine re_put E_X2_init rfl ck_X2 (by decide) 4 (by decide) q157 rfl rfl rfl dX2_init_18 h ?_
  clear h
  intro h3 h
  refine qc_aload_n E_X2_init (by rfl) dX2_init_21 ?_
  refine qc_bipush E_X2_init 60 (by decide) dX2_init_22 ?_
  refine re_put E_X2_init rfl ck_X2 (by decide) 5 (by decide) q159 rfl rfl rfl dX2_init_24 h ?_
  clear h
  intro h4 h
  refine qc_aload_n E_X2_init (by rfl) dX2_init_27 ?_
  refine qc_aload_n E_X2_init (by rfl) dX2_init_28 ?_
  refine re_putF E_X2_init rfl rfl ck_X2 (by decide) 0 (by decide) q149 rfl rfl rfl rfl dX2_init_29 h ?_
  clear h
  intro h5 h
  exact qc_vret E_X2_init rfl dX2_init_32 (⟨rfl, h⟩)
def I_X3_init : qh_I := (yX3_init, cX3_init, 1, (Option.none : Option Jvm.ClassFile.FieldType), [])
theorem E_X3_init : I_X3_init.2.1 = cX3_init := rfl
theorem M_X3_init : qh_M I_X3_init 0 := ⟨by decide, by decide, by decide +kernel, q87, q142, by decide⟩
def T_X3_init (g : qh_G) (a0 : Nat) (hp : qc_H) (K : Prop) : Prop := K
set_option maxHeartbeats 8000000 in
theorem C_X3_init {g : qh_G} {x : qc_X} {d : Nat} {sd : String → Nat → Nat} (hO : qc_O g x) (hP : qc_P g qp_ts sd) (a0 : Nat) (hp : qc_H) (K : Prop) (hz : T_X3_init g a0 hp K) : qc_S g x (d + 0) 0 I_X3_init [.ref a0] hp (oV (fun t => hp = t ∧ K)) := by
  refine qc_S.of (by decide) rfl (ls := [some (.ref a0)]) rfl (Nat.le_of_ble_eq_true rfl) (ct_c rfl ct_n) ?_
  unfold T_X3_init at hz
  have h := hz
  clear hz
  refine qc_aload_n E_X3_init (by rfl) dX3_init_0 ?_
  refine qc_objInit E_X3_init rfl q143 q133 q134 dX3_init_1 (Nat.le_of_ble_eq_true rfl) ?_
  exact qc_vret E_X3_init rfl dX3_init_4 (⟨rfl, rfl, h⟩)
def I_X4_init : qh_I := (yX4_init, cX4_init, 1, (Option.none : Option Jvm.ClassFile.FieldType), [])
theorem E_X4_init : I_X4_init.2.1 = cX4_init := rfl
theorem M_X4_init : qh_M I_X4_init 0 := ⟨by decide, by decide, by decide +kernel, q88, q190, by decide⟩
def T_X4_init (g : qh_G) (a0 : Nat) (hp : qc_H) (K : Prop) : Prop := K
set_option maxHeartbeats 8000000 in
theorem C_X4_init {g : qh_G} {x : qc_X} {d : Nat} {sd : String → Nat → Nat} (hO : qc_O g x) (hP : qc_P g qp_ts sd) (a0 : Nat) (hp : qc_H) (K : Prop) (hz : T_X4_init g a0 hp K) : qc_S g x (d + 0) 0 I_X4_init [.ref a0] hp (oV (fun t => hp = t ∧ K)) := by
  refine qc_S.of (by decide) rfl (ls := [some (.ref a0)]) rfl (Nat.le_of_ble_eq_true rfl) (ct_c rfl ct_n) ?_
  unfold T_X4_init at hz
  have h := hz
  clear hz
  refine qc_aload_n E_X4_init (by rfl) dX4_init_0 ?_
  refine qc_objInit E_X4_init rfl q191 q133 q134 dX4_init_1 (Nat.le_of_ble_eq_true rfl) ?_
  exact qc_vret E_X4_init rfl dX4_init_4 (⟨rfl, rfl, h⟩)
def I_X5_init : qh_I := (yX5_init, cX5_init, 1, (Option.none : Option Jvm.ClassFile.FieldType), [])
theorem E_X5_init : I_X5_init.2.1 = cX5_init := rfl
theorem M_X5_init : qh_M I_X5_init 0 := ⟨by decide, by decide, by decide +kernel, q89, q197, by decide⟩
def T_X5_init (g : qh_G) (a0 : Nat) (hp : qc_H) (K : Prop) : Prop := K
set_option maxHeartbeats 8000000 in
theorem C_X5_init {g : qh_G} {x : qc_X} {d : Nat} {sd : String → Nat → Nat} (hO : qc_O g x) (hP : qc_P g qp_ts sd) (a0 : Nat) (hp : qc_H) (K : Prop) (hz : T_X5_init g a0 hp K) : qc_S g x (d + 0) 0 I_X5_init [.ref a0] hp (oV (fun t => hp = t ∧ K)) := by
  refine qc_S.of (by decide) rfl (ls := [some (.ref a0)]) rfl (Nat.le_of_ble_eq_true rfl) (ct_c rfl ct_n) ?_
  unfold T_X5_init at hz
  have h := hz
  clear hz
  refine qc_aload_n E_X5_init (by rfl) dX5_init_0 ?_
  refine qc_objInit E_X5_init rfl q198 q133 q134 dX5_init_1 (Nat.le_of_ble_eq_true rfl) ?_
  exact qc_vret E_X5_init rfl dX5_init_4 (⟨rfl, rfl, h⟩)
def I_X7_init : qh_I := (yX7_init, cX7_init, 3, (Option.none : Option Jvm.ClassFile.FieldType), [])
theorem E_X7_init : I_X7_init.2.1 = cX7_init := rfl
theorem M_X7_init : qh_M I_X7_init 2 := ⟨by decide, by decide, by decide +kernel, q94, q267, by decide⟩
def T_X7_init (g : qh_G) (a0 : Nat) (a1 : Int32) (a2 : Nat) (hp : qc_H) (c : Nat) (K : qc_H → Prop) : Prop := eNL hp c (fun w1 h2 c3 => eP h2 a0 6 2 (.ref w1) (fun h4 => eNL h4 c3 (fun w5 h6 c7 => eP h6 a0 6 3 (.ref w5) (fun h8 => eP h8 a0 6 5 (.int 10) (fun h9 => eP h9 a0 6 0 (.int a1) (fun h10 => eP h10 a0 6 1 (.ref a2) (fun h11 => K h11)))))))
set_option maxHeartbeats 8000000 in
theorem C_X7_init {g : qh_G} {x : qc_X} {d : Nat} {sd : String → Nat → Nat} (hO : qc_O g x) (hP : qc_P g qp_ts sd) (a0 : Nat) (a1 : Int32) (a2 : Nat) (hp : qc_H) (c : Nat) (K : qc_H → Prop) (hz : T_X7_init g a0 a1 a2 hp c K) : qc_S g x (d + 6) c I_X7_init [.ref a0, .int a1, .ref a2] hp (oV K) := by
  refine qc_S.of (by decide) rfl (ls := [some (.ref a0), some (.int a1), some (.ref a2)]) rfl (Nat.le_of_ble_eq_true rfl) (ct_c rfl (ct_c rfl (ct_c rfl ct_n))) ?_
  unfold T_X7_init at hz
  have h := hz
  clear hz
  refine qc_aload_n E_X7_init (by rfl) dX7_init_0 ?_
  refine qc_objInit E_X7_init rfl q268 q133 q134 dX7_init_1 (Nat.le_of_ble_eq_true rfl) ?_
  refine qc_aload_n E_X7_init (by rfl) dX7_init_4 ?_
  refine re_newL (d := d) hO E_X7_init rfl q269 q270 (Nat.le_of_ble_eq_true rfl) dX7_init_5 dX7_init_8 dX7_init_9 h ?_
  clear h
  intro w1 h2 c3 h
  refine re_putF E_X7_init rfl rfl ck_X7 (by decide) 2 (by decide) q276 rfl rfl rfl rfl dX7_init_12 h ?_
  clear h
  intro h4 h
  refine qc_aload_n E_X7_init (by rfl) dX7_init_15 ?_
  refine re_newL (d := d) hO E_X7_init rfl q269 q270 (Nat.le_of_ble_eq_true rfl) dX7_init_16 dX7_init_19 dX7_init_20 h ?_
  clear h
  intro w5 h6 c7 h
  refine re_putF E_X7_init rfl rfl ck_X7 (by decide) 3 (by decide) q279 rfl rfl rfl rfl dX7_init_23 h ?_
  clear h
  intro h8 h
  refine qc_aload_n E_X7_init (by rfl) dX7_init_26 ?_
  refine qc_bipush E_X7_init 10 (by decide) dX7_init_27 ?_
  refine re_put E_X7_init rfl ck_X7 (by decide) 5 (by decide) q282 rfl rfl rfl dX7_init_29 h ?_
  clear h
  intro h9 h
  refine qc_aload_n E_X7_init (by rfl) dX7_init_32 ?_
  refine qc_iload_n E_X7_init (by rfl) dX7_init_33 ?_
  refine re_putF E_X7_init rfl rfl ck_X7 (by decide) 0 (by decide) q271 rfl rfl rfl rfl dX7_init_34 h ?_
  clear h
  intro h10 h
  refine qc_aload_n E_X7_init (by rfl) dX7_init_37 ?_
  refine qc_aload_n E_X7_init (by rfl) dX7_init_38 ?_
  refine re_putF E_X7_init rfl rfl ck_X7 (by decide) 1 (by decide) q273 rfl rfl rfl rfl dX7_init_39 h ?_
  clear h
  intro h11 h
  exact qc_vret E_X7_init rfl dX7_init_42 (⟨rfl, h⟩)
