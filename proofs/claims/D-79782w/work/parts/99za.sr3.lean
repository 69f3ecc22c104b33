/-! SR 3 (printed by gen3.py): the law's own methods -/
set_option maxRecDepth 100000
/-- beyond qc_P: an IndexOutOfBoundsException is no IllegalStateException -/
def qw_X (g : qh_G) : Prop := ∀ U, g.2.2.2.2 U → va_Nc "java/lang/IndexOutOfBoundsException" "java/lang/IllegalStateException" U
def I_X0_add : qh_I := (yX0_add, cX0_add, 8, (Option.some Jvm.ClassFile.FieldType.int), [(0, 16, 19, 13), (0, 16, 23, 15), (0, 16, 27, 17)])
theorem E_X0_add : I_X0_add.2.1 = cX0_add := rfl
theorem M_X0_add : qh_M I_X0_add 7 := ⟨by decide, by decide, by decide +kernel, q84, q404, by decide⟩
def T_X0_add (g : qh_G) (a1 : Nat) (a2 : Int32) (a3 : Int32) (a4 : Int32) (a5 : Int32) (a6 : Int32) (a7 : Nat) (hp : qc_H) (c : Nat) (K : Int32 → qc_H → Prop) (KX : String → qc_H → Prop) : Prop := eC hp a1 0 (eK c (fun c2 k1 => T_X1_add g a1 a2 a3 a4 a5 a6 hp k1 (fun r3 h4 => eLW g.2.2.2.1 h4 a7 0 (Int32.toInt64 r3) (fun h9 => K 0 h9)) (fun Ez h5 => (Ez = "java/lang/IllegalArgumentException" ∧ ∀ q6 : Nat, K 2 h5) ∨ (Ez = "java/lang/IndexOutOfBoundsException" ∧ ∀ q7 : Nat, K 1 h5) ∨ (Ez = "java/lang/IllegalStateException" ∧ ∀ q8 : Nat, K 3 h5))))
set_option maxHeartbeats 8000000 in
theorem C_X0_add {g : qh_G} {x : qc_X} {d : Nat} {sd : String → Nat → Nat} (hO : qc_O g x) (hP : qc_P g qp_ts sd) (hX : qw_X g) (a1 : Nat) (a2 : Int32) (a3 : Int32) (a4 : Int32) (a5 : Int32) (a6 : Int32) (a7 : Nat) (hp : qc_H) (c : Nat) (K : Int32 → qc_H → Prop) (KX : String → qc_H → Prop) (hz : T_X0_add g a1 a2 a3 a4 a5 a6 a7 hp c K KX) : qc_S g x (d + 10) c I_X0_add [.ref a1, .int a2, .int a3, .int a4, .int a5, .int a6, .ref a7] hp (oX (oI K) KX) := by
  refine qc_S.ofH (by decide) rfl (ls := [some (.ref a1), some (.int a2), some (.int a3), some (.int a4), some (.int a5), some (.int a6), some (.ref a7), none]) rfl (Nat.le_of_ble_eq_true rfl) (ct_c rfl (ct_c rfl (ct_c rfl (ct_c rfl (ct_c rfl (ct_c rfl (ct_c rfl ct_n))))))) ?_
  unfold T_X0_add at hz
  have h := hz
  clear hz
  refine qc_aload E_X0_add (by rfl) dX0_add_0 ?_
  refine qc_iconst E_X0_add 0 (by decide) dX0_add_2 ?_
  refine qc_aload_n E_X0_add (by rfl) dX0_add_3 ?_
  refine qc_iload_n E_X0_add (by rfl) dX0_add_4 ?_
  refine qc_iload_n E_X0_add (by rfl) dX0_add_5 ?_
  refine qc_iload_n E_X0_add (by rfl) dX0_add_6 ?_
  refine qc_iload E_X0_add (by rfl) dX0_add_7 ?_
  refine qc_iload E_X0_add (by rfl) dX0_add_9 ?_
  obtain ⟨⟨fz, hb⟩, c2, k1, rfl, h⟩ := h
  refine qc_callV (c := c2) (k := k1) (As := [.int a2, .int a3, .int a4, .int a5, .int a6]) (rest := [.int 0, .ref a7]) hO E_X0_add rfl M_X1_add rfl q486 q487 q488 (ci := 0) rfl rfl hb rfl rfl (Nat.le_of_ble_eq_true rfl) dX0_add_11 (qc_S.mono ?_ (C_X1_add (d := d) hO hP a1 a2 a3 a4 a5 a6 hp k1 _ _ h))
  clear h
  clear hb
  rintro _ tz (hz | hz)
  · revert tz; rintro h4 ⟨r3, rfl, h⟩
    refine K1_i ?_
    refine qc_i2l E_X0_add dX0_add_14 ?_
    refine re_last E_X0_add dX0_add_15 h ?_
    clear h
    intro h9 h
    refine qc_goto E_X0_add 31 dX0_add_16 (by decide) ?_
    refine qc_iconst E_X0_add 0 (by decide) dX0_add_31 ?_
    exact qc_iret E_X0_add rfl dX0_add_32 (Or.inl (⟨_, rfl, h⟩))
  · revert tz; rintro h5 ⟨Ez, rfl, h⟩
    refine K1_x ?_
    rcases h with ⟨rfl, h⟩ | ⟨rfl, h⟩ | ⟨rfl, h⟩
    · refine qc_catch (own := RX0) rfl [⟨0, 16, 19, 13⟩] ⟨0, 16, 23, 15⟩ [⟨0, 16, 27, 17⟩] rfl (by intro z hz; have hz : z ∈ ([⟨0, 16, 19, 13⟩] : List ExceptionTableEntry) := hz; simp only [List.mem_cons, List.not_mem_nil, or_false] at hz; subst hz; exact Or.inr ⟨by decide, _, q405, hP.2.2.1 ("java/lang/IllegalArgumentException", "java/lang/IndexOutOfBoundsException") (by decide)⟩) (by decide) (by decide) q484 (hP.2.1 _ (qp_n q545 rfl)) ?_
      intro q6
      replace h := h q6
      refine qc_astore E_X0_add (by decide) dX0_add_23 ?_
      refine qc_iconst E_X0_add 2 (by decide) dX0_add_25 ?_
      exact qc_iret E_X0_add rfl dX0_add_26 (Or.inl (⟨_, rfl, h⟩))
    · refine qc_catch (own := RX0) rfl [] ⟨0, 16, 19, 13⟩ [⟨0, 16, 23, 15⟩, ⟨0, 16, 27, 17⟩] rfl (by intro z hz; cases hz) (by decide) (by decide) q405 (hP.2.1 _ (qp_n q499 rfl)) ?_
      intro q7
      replace h := h q7
      refine qc_astore E_X0_add (by decide) dX0_add_19 ?_
      refine qc_iconst E_X0_add 1 (by decide) dX0_add_21 ?_
      exact qc_iret E_X0_add rfl dX0_add_22 (Or.inl (⟨_, rfl, h⟩))
    · refine qc_catch (own := RX0) rfl [⟨0, 16, 19, 13⟩, ⟨0, 16, 23, 15⟩] ⟨0, 16, 27, 17⟩ [] rfl (by intro z hz; have hz : z ∈ ([⟨0, 16, 19, 13⟩, ⟨0, 16, 23, 15⟩] : List ExceptionTableEntry) := hz; simp only [List.mem_cons, List.not_mem_nil, or_false] at hz; rcases hz with rfl | rfl <;> first | exact Or.inr ⟨by decide, _, q405, hP.2.2.1 ("java/lang/IllegalStateException", "java/lang/IndexOutOfBoundsException") (by decide)⟩ | exact Or.inr ⟨by decide, _, q484, hP.2.2.1 ("java/lang/IllegalStateException", "java/lang/IllegalArgumentException") (by decide)⟩) (by decide) (by decide) q485 (hP.2.1 _ (qp_n q599 rfl)) ?_
      intro q8
      replace h := h q8
      refine qc_astore E_X0_add (by decide) dX0_add_27 ?_
      refine qc_iconst E_X0_add 3 (by decide) dX0_add_29 ?_
      exact qc_iret E_X0_add rfl dX0_add_30 (Or.inl (⟨_, rfl, h⟩))
def I_X0_change : qh_I := (yX0_change, cX0_change, 7, (Option.some Jvm.ClassFile.FieldType.int), [(0, 14, 17, 13), (0, 14, 21, 15)])
theorem E_X0_change : I_X0_change.2.1 = cX0_change := rfl
theorem M_X0_change : qh_M I_X0_change 6 := ⟨by decide, by decide, by decide +kernel, q84, q1029, by decide⟩
def T_X0_change (g : qh_G) (a1 : Nat) (a2 : Int32) (a3 : Int32) (a4 : Int32) (a5 : Int32) (a6 : Nat) (hp : qc_H) (c : Nat) (K : Int32 → qc_H → Prop) (KX : String → qc_H → Prop) : Prop := eC hp a1 0 (eK c (fun c2 k1 => T_X1_change g a1 a2 a3 a4 a5 hp k1 (fun r3 h4 => eLW g.2.2.2.1 h4 a6 0 (Int32.toInt64 r3) (fun h8 => K 0 h8)) (fun Ez h5 => (Ez = "java/lang/IllegalArgumentException" ∧ ∀ q6 : Nat, K 2 h5) ∨ (Ez = "java/lang/IndexOutOfBoundsException" ∧ ∀ q7 : Nat, K 1 h5))))
set_option maxHeartbeats 8000000 in
theorem C_X0_change {g : qh_G} {x : qc_X} {d : Nat} {sd : String → Nat → Nat} (hO : qc_O g x) (hP : qc_P g qp_ts sd) (hX : qw_X g) (a1 : Nat) (a2 : Int32) (a3 : Int32) (a4 : Int32) (a5 : Int32) (a6 : Nat) (hp : qc_H) (c : Nat) (K : Int32 → qc_H → Prop) (KX : String → qc_H → Prop) (hz : T_X0_change g a1 a2 a3 a4 a5 a6 hp c K KX) : qc_S g x (d + 11) c I_X0_change [.ref a1, .int a2, .int a3, .int a4, .int a5, .ref a6] hp (oX (oI K) KX) := by
  refine qc_S.ofH (by decide) rfl (ls := [some (.ref a1), some (.int a2), some (.int a3), some (.int a4), some (.int a5), some (.ref a6), none]) rfl (Nat.le_of_ble_eq_true rfl) (ct_c rfl (ct_c rfl (ct_c rfl (ct_c rfl (ct_c rfl (ct_c rfl ct_n)))))) ?_
  unfold T_X0_change at hz
  have h := hz
  clear hz
  refine qc_aload E_X0_change (by rfl) dX0_change_0 ?_
  refine qc_iconst E_X0_change 0 (by decide) dX0_change_2 ?_
  refine qc_aload_n E_X0_change (by rfl) dX0_change_3 ?_
  refine qc_iload_n E_X0_change (by rfl) dX0_change_4 ?_
  refine qc_iload_n E_X0_change (by rfl) dX0_change_5 ?_
  refine qc_iload_n E_X0_change (by rfl) dX0_change_6 ?_
  refine qc_iload E_X0_change (by rfl) dX0_change_7 ?_
  obtain ⟨⟨fz, hb⟩, c2, k1, rfl, h⟩ := h
  refine qc_callV (c := c2) (k := k1) (As := [.int a2, .int a3, .int a4, .int a5]) (rest := [.int 0, .ref a6]) hO E_X0_change rfl M_X1_change rfl q1030 q1031 q1032 (ci := 0) rfl rfl hb rfl rfl (Nat.le_of_ble_eq_true rfl) dX0_change_9 (qc_S.mono ?_ (C_X1_change (d := d) hO hP a1 a2 a3 a4 a5 hp k1 _ _ h))
  clear h
  clear hb
  rintro _ tz (hz | hz)
  · revert tz; rintro h4 ⟨r3, rfl, h⟩
    refine K1_i ?_
    refine qc_i2l E_X0_change dX0_change_12 ?_
    refine re_last E_X0_change dX0_change_13 h ?_
    clear h
    intro h8 h
    refine qc_goto E_X0_change 25 dX0_change_14 (by decide) ?_
    refine qc_iconst E_X0_change 0 (by decide) dX0_change_25 ?_
    exact qc_iret E_X0_change rfl dX0_change_26 (Or.inl (⟨_, rfl, h⟩))
  · revert tz; rintro h5 ⟨Ez, rfl, h⟩
    refine K1_x ?_
    rcases h with ⟨rfl, h⟩ | ⟨rfl, h⟩
    · refine qc_catch (own := RX0) rfl [⟨0, 14, 17, 13⟩] ⟨0, 14, 21, 15⟩ [] rfl (by intro z hz; have hz : z ∈ ([⟨0, 14, 17, 13⟩] : List ExceptionTableEntry) := hz; simp only [List.mem_cons, List.not_mem_nil, or_false] at hz; subst hz; exact Or.inr ⟨by decide, _, q405, hP.2.2.1 ("java/lang/IllegalArgumentException", "java/lang/IndexOutOfBoundsException") (by decide)⟩) (by decide) (by decide) q484 (hP.2.1 _ (qp_n q545 rfl)) ?_
      intro q6
      replace h := h q6
      refine qc_astore E_X0_change (by decide) dX0_change_21 ?_
      refine qc_iconst E_X0_change 2 (by decide) dX0_change_23 ?_
      exact qc_iret E_X0_change rfl dX0_change_24 (Or.inl (⟨_, rfl, h⟩))
    · refine qc_catch (own := RX0) rfl [] ⟨0, 14, 17, 13⟩ [⟨0, 14, 21, 15⟩] rfl (by intro z hz; cases hz) (by decide) (by decide) q405 (hP.2.1 _ (qp_n q499 rfl)) ?_
      intro q7
      replace h := h q7
      refine qc_astore E_X0_change (by decide) dX0_change_17 ?_
      refine qc_iconst E_X0_change 1 (by decide) dX0_change_19 ?_
      exact qc_iret E_X0_change rfl dX0_change_20 (Or.inl (⟨_, rfl, h⟩))
def I_X0_remove : qh_I := (yX0_remove, cX0_remove, 5, (Option.some Jvm.ClassFile.FieldType.int), [(0, 10, 13, 13)])
theorem E_X0_remove : I_X0_remove.2.1 = cX0_remove := rfl
theorem M_X0_remove : qh_M I_X0_remove 4 := ⟨by decide, by decide, by decide +kernel, q84, q1068, by decide⟩
def T_X0_remove (g : qh_G) (a1 : Nat) (a2 : Int32) (a3 : Int32) (a4 : Nat) (hp : qc_H) (c : Nat) (K : Int32 → qc_H → Prop) (KX : String → qc_H → Prop) : Prop := eC hp a1 0 (eK c (fun c2 k1 => T_X1_remove g a1 a2 a3 hp k1 (fun r3 h4 => eLW g.2.2.2.1 h4 a4 0 (Int32.toInt64 r3) (fun h7 => K 0 h7)) (fun Ez h5 => (Ez = "java/lang/IndexOutOfBoundsException" ∧ ∀ q6 : Nat, K 1 h5))))
set_option maxHeartbeats 8000000 in
theorem C_X0_remove {g : qh_G} {x : qc_X} {d : Nat} {sd : String → Nat → Nat} (hO : qc_O g x) (hP : qc_P g qp_ts sd) (hX : qw_X g) (a1 : Nat) (a2 : Int32) (a3 : Int32) (a4 : Nat) (hp : qc_H) (c : Nat) (K : Int32 → qc_H → Prop) (KX : String → qc_H → Prop) (hz : T_X0_remove g a1 a2 a3 a4 hp c K KX) : qc_S g x (d + 10) c I_X0_remove [.ref a1, .int a2, .int a3, .ref a4] hp (oX (oI K) KX) := by
  refine qc_S.ofH (by decide) rfl (ls := [some (.ref a1), some (.int a2), some (.int a3), some (.ref a4), none]) rfl (Nat.le_of_ble_eq_true rfl) (ct_c rfl (ct_c rfl (ct_c rfl (ct_c rfl ct_n)))) ?_
  unfold T_X0_remove at hz
  have h := hz
  clear hz
  refine qc_aload_n E_X0_remove (by rfl) dX0_remove_0 ?_
  refine qc_iconst E_X0_remove 0 (by decide) dX0_remove_1 ?_
  refine qc_aload_n E_X0_remove (by rfl) dX0_remove_2 ?_
  refine qc_iload_n E_X0_remove (by rfl) dX0_remove_3 ?_
  refine qc_iload_n E_X0_remove (by rfl) dX0_remove_4 ?_
  obtain ⟨⟨fz, hb⟩, c2, k1, rfl, h⟩ := h
  refine qc_callV (c := c2) (k := k1) (As := [.int a2, .int a3]) (rest := [.int 0, .ref a4]) hO E_X0_remove rfl M_X1_remove rfl q1069 q1070 q1071 (ci := 0) rfl rfl hb rfl rfl (Nat.le_of_ble_eq_true rfl) dX0_remove_5 (qc_S.mono ?_ (C_X1_remove (d := d) hO hP a1 a2 a3 hp k1 _ _ h))
  clear h
  clear hb
  rintro _ tz (hz | hz)
  · revert tz; rintro h4 ⟨r3, rfl, h⟩
    refine K1_i ?_
    refine qc_i2l E_X0_remove dX0_remove_8 ?_
    refine re_last E_X0_remove dX0_remove_9 h ?_
    clear h
    intro h7 h
    refine qc_goto E_X0_remove 17 dX0_remove_10 (by decide) ?_
    refine qc_iconst E_X0_remove 0 (by decide) dX0_remove_17 ?_
    exact qc_iret E_X0_remove rfl dX0_remove_18 (Or.inl (⟨_, rfl, h⟩))
  · revert tz; rintro h5 ⟨Ez, rfl, h⟩
    refine K1_x ?_
    obtain ⟨rfl, h⟩ := h
    · refine qc_catch (own := RX0) rfl [] ⟨0, 10, 13, 13⟩ [] rfl (by intro z hz; cases hz) (by decide) (by decide) q405 (hP.2.1 _ (qp_n q499 rfl)) ?_
      intro q6
      replace h := h q6
      refine qc_astore E_X0_remove (by decide) dX0_remove_13 ?_
      refine qc_iconst E_X0_remove 1 (by decide) dX0_remove_15 ?_
      exact qc_iret E_X0_remove rfl dX0_remove_16 (Or.inl (⟨_, rfl, h⟩))
def I_X0_count : qh_I := (yX0_count, cX0_count, 4, (Option.some Jvm.ClassFile.FieldType.int), [(0, 9, 12, 13)])
theorem E_X0_count : I_X0_count.2.1 = cX0_count := rfl
theorem M_X0_count : qh_M I_X0_count 3 := ⟨by decide, by decide, by decide +kernel, q84, q1075, by decide⟩
def T_X0_count (g : qh_G) (a1 : Nat) (a2 : Int32) (a3 : Nat) (hp : qc_H) (c : Nat) (K : Int32 → qc_H → Prop) (KX : String → qc_H → Prop) : Prop := eC hp a1 0 (eK c (fun c2 k1 => T_X1_count g a1 a2 hp k1 (fun r3 => eLW g.2.2.2.1 hp a3 0 (Int32.toInt64 r3) (fun h5 => K 0 h5)) (fun Ez => (Ez = "java/lang/IndexOutOfBoundsException" ∧ ∀ q4 : Nat, K 1 hp))))
set_option maxHeartbeats 8000000 in
theorem C_X0_count {g : qh_G} {x : qc_X} {d : Nat} {sd : String → Nat → Nat} (hO : qc_O g x) (hP : qc_P g qp_ts sd) (hX : qw_X g) (a1 : Nat) (a2 : Int32) (a3 : Nat) (hp : qc_H) (c : Nat) (K : Int32 → qc_H → Prop) (KX : String → qc_H → Prop) (hz : T_X0_count g a1 a2 a3 hp c K KX) : qc_S g x (d + 7) c I_X0_count [.ref a1, .int a2, .ref a3] hp (oX (oI K) KX) := by
  refine qc_S.ofH (by decide) rfl (ls := [some (.ref a1), some (.int a2), some (.ref a3), none]) rfl (Nat.le_of_ble_eq_true rfl) (ct_c rfl (ct_c rfl (ct_c rfl ct_n))) ?_
  unfold T_X0_count at hz
  have h := hz
  clear hz
  refine qc_aload_n E_X0_count (by rfl) dX0_count_0 ?_
  refine qc_iconst E_X0_count 0 (by decide) dX0_count_1 ?_
  refine qc_aload_n E_X0_count (by rfl) dX0_count_2 ?_
  refine qc_iload_n E_X0_count (by rfl) dX0_count_3 ?_
  obtain ⟨⟨fz, hb⟩, c2, k1, rfl, h⟩ := h
  refine qc_callV (c := c2) (k := k1) (As := [.int a2]) (rest := [.int 0, .ref a3]) hO E_X0_count rfl M_X1_count rfl q1076 q1077 q1078 (ci := 0) rfl rfl hb rfl rfl (Nat.le_of_ble_eq_true rfl) dX0_count_4 (qc_S.mono ?_ (C_X1_count (d := d) hO hP a1 a2 hp k1 _ _ h))
  clear h
  clear hb
  rintro _ tz (hz | hz)
  · obtain ⟨r3, rfl, rfl, h⟩ := hz
    refine K1_i ?_
    refine qc_i2l E_X0_count dX0_count_7 ?_
    refine re_last E_X0_count dX0_count_8 h ?_
    clear h
    intro h5 h
    refine qc_goto E_X0_count 15 dX0_count_9 (by decide) ?_
    refine qc_iconst E_X0_count 0 (by decide) dX0_count_15 ?_
    exact qc_iret E_X0_count rfl dX0_count_16 (Or.inl (⟨_, rfl, h⟩))
  · revert tz; rintro _ ⟨Ez, rfl, rfl, h⟩
    refine K1_x ?_
    obtain ⟨rfl, h⟩ := h
    · refine qc_catch (own := RX0) rfl [] ⟨0, 9, 12, 13⟩ [] rfl (by intro z hz; cases hz) (by decide) (by decide) q405 (hP.2.1 _ (qp_n q499 rfl)) ?_
      intro q4
      replace h := h q4
      refine qc_astore_n E_X0_count (by decide) dX0_count_12 ?_
      refine qc_iconst E_X0_count 1 (by decide) dX0_count_13 ?_
      exact qc_iret E_X0_count rfl dX0_count_14 (Or.inl (⟨_, rfl, h⟩))
def I_X0_cell : qh_I := (yX0_cell, cX0_cell, 6, (Option.some Jvm.ClassFile.FieldType.int), [(0, 12, 15, 13)])
theorem E_X0_cell : I_X0_cell.2.1 = cX0_cell := rfl
theorem M_X0_cell : qh_M I_X0_cell 5 := ⟨by decide, by decide, by decide +kernel, q84, q1082, by decide⟩
def T_X0_cell (g : qh_G) (a1 : Nat) (a2 : Int32) (a3 : Int32) (a4 : Int32) (a5 : Nat) (hp : qc_H) (c : Nat) (K : Int32 → qc_H → Prop) (KX : String → qc_H → Prop) : Prop := eC hp a1 0 (eK c (fun c2 k1 => T_X1_cell g a1 a2 a3 a4 hp k1 (fun r3 => eLW g.2.2.2.1 hp a5 0 (Int32.toInt64 r3) (fun h5 => K 0 h5)) (fun Ez => (Ez = "java/lang/IndexOutOfBoundsException" ∧ ∀ q4 : Nat, K 1 hp))))
set_option maxHeartbeats 8000000 in
theorem C_X0_cell {g : qh_G} {x : qc_X} {d : Nat} {sd : String → Nat → Nat} (hO : qc_O g x) (hP : qc_P g qp_ts sd) (hX : qw_X g) (a1 : Nat) (a2 : Int32) (a3 : Int32) (a4 : Int32) (a5 : Nat) (hp : qc_H) (c : Nat) (K : Int32 → qc_H → Prop) (KX : String → qc_H → Prop) (hz : T_X0_cell g a1 a2 a3 a4 a5 hp c K KX) : qc_S g x (d + 9) c I_X0_cell [.ref a1, .int a2, .int a3, .int a4, .ref a5] hp (oX (oI K) KX) := by
  refine qc_S.ofH (by decide) rfl (ls := [some (.ref a1), some (.int a2), some (.int a3), some (.int a4), some (.ref a5), none]) rfl (Nat.le_of_ble_eq_true rfl) (ct_c rfl (ct_c rfl (ct_c rfl (ct_c rfl (ct_c rfl ct_n))))) ?_
  unfold T_X0_cell at hz
  have h := hz
  clear hz
  refine qc_aload E_X0_cell (by rfl) dX0_cell_0 ?_
  refine qc_iconst E_X0_cell 0 (by decide) dX0_cell_2 ?_
  refine qc_aload_n E_X0_cell (by rfl) dX0_cell_3 ?_
  refine qc_iload_n E_X0_cell (by rfl) dX0_cell_4 ?_
  refine qc_iload_n E_X0_cell (by rfl) dX0_cell_5 ?_
  refine qc_iload_n E_X0_cell (by rfl) dX0_cell_6 ?_
  obtain ⟨⟨fz, hb⟩, c2, k1, rfl, h⟩ := h
  refine qc_callV (c := c2) (k := k1) (As := [.int a2, .int a3, .int a4]) (rest := [.int 0, .ref a5]) hO E_X0_cell rfl M_X1_cell rfl q1083 q1084 q1085 (ci := 0) rfl rfl hb rfl rfl (Nat.le_of_ble_eq_true rfl) dX0_cell_7 (qc_S.mono ?_ (C_X1_cell (d := d) hO hP a1 a2 a3 a4 hp k1 _ _ h))
  clear h
  clear hb
  rintro _ tz (hz | hz)
  · obtain ⟨r3, rfl, rfl, h⟩ := hz
    refine K1_i ?_
    refine qc_i2l E_X0_cell dX0_cell_10 ?_
    refine re_last E_X0_cell dX0_cell_11 h ?_
    clear h
    intro h5 h
    refine qc_goto E_X0_cell 19 dX0_cell_12 (by decide) ?_
    refine qc_iconst E_X0_cell 0 (by decide) dX0_cell_19 ?_
    exact qc_iret E_X0_cell rfl dX0_cell_20 (Or.inl (⟨_, rfl, h⟩))
  · revert tz; rintro _ ⟨Ez, rfl, rfl, h⟩
    refine K1_x ?_
    obtain ⟨rfl, h⟩ := h
    · refine qc_catch (own := RX0) rfl [] ⟨0, 12, 15, 13⟩ [] rfl (by intro z hz; cases hz) (by decide) (by decide) q405 (hP.2.1 _ (qp_n q499 rfl)) ?_
      intro q4
      replace h := h q4
      refine qc_astore E_X0_cell (by decide) dX0_cell_15 ?_
      refine qc_iconst E_X0_cell 1 (by decide) dX0_cell_17 ?_
      exact qc_iret E_X0_cell rfl dX0_cell_18 (Or.inl (⟨_, rfl, h⟩))
def I_X0_setPace : qh_I := (yX0_setPace, cX0_setPace, 6, (Option.some Jvm.ClassFile.FieldType.int), [(0, 12, 15, 13), (0, 12, 19, 15)])
theorem E_X0_setPace : I_X0_setPace.2.1 = cX0_setPace := rfl
theorem M_X0_setPace : qh_M I_X0_setPace 5 := ⟨by decide, by decide, by decide +kernel, q84, q1089, by decide⟩
def T_X0_setPace (g : qh_G) (a1 : Nat) (a2 : Int32) (a3 : Int32) (a4 : Int32) (a5 : Nat) (hp : qc_H) (c : Nat) (K : Int32 → qc_H → Prop) (KX : String → qc_H → Prop) : Prop := eC hp a1 0 (eK c (fun c2 k1 => T_X1_setPace g a1 a2 a3 a4 hp k1 (fun r3 h4 => eLW g.2.2.2.1 h4 a5 0 (Int32.toInt64 r3) (fun h8 => K 0 h8)) (fun Ez h5 => (Ez = "java/lang/IllegalArgumentException" ∧ ∀ q6 : Nat, K 2 h5) ∨ (Ez = "java/lang/IndexOutOfBoundsException" ∧ ∀ q7 : Nat, K 1 h5))))
set_option maxHeartbeats 8000000 in
theorem C_X0_setPace {g : qh_G} {x : qc_X} {d : Nat} {sd : String → Nat → Nat} (hO : qc_O g x) (hP : qc_P g qp_ts sd) (hX : qw_X g) (a1 : Nat) (a2 : Int32) (a3 : Int32) (a4 : Int32) (a5 : Nat) (hp : qc_H) (c : Nat) (K : Int32 → qc_H → Prop) (KX : String → qc_H → Prop) (hz : T_X0_setPace g a1 a2 a3 a4 a5 hp c K KX) : qc_S g x (d + 3) c I_X0_setPace [.ref a1, .int a2, .int a3, .int a4, .ref a5] hp (oX (oI K) KX) := by
  refine qc_S.ofH (by decide) rfl (ls := [some (.ref a1), some (.int a2), some (.int a3), some (.int a4), some (.ref a5), none]) rfl (Nat.le_of_ble_eq_true rfl) (ct_c rfl (ct_c rfl (ct_c rfl (ct_c rfl (ct_c rfl ct_n))))) ?_
  unfold T_X0_setPace at hz
  have h := hz
  clear hz
  refine qc_aload E_X0_setPace (by rfl) dX0_setPace_0 ?_
  refine qc_iconst E_X0_setPace 0 (by decide) dX0_setPace_2 ?_
  refine qc_aload_n E_X0_setPace (by rfl) dX0_setPace_3 ?_
  refine qc_iload_n E_X0_setPace (by rfl) dX0_setPace_4 ?_
  refine qc_iload_n E_X0_setPace (by rfl) dX0_setPace_5 ?_
  refine qc_iload_n E_X0_setPace (by rfl) dX0_setPace_6 ?_
  obtain ⟨⟨fz, hb⟩, c2, k1, rfl, h⟩ := h
  refine qc_callV (c := c2) (k := k1) (As := [.int a2, .int a3, .int a4]) (rest := [.int 0, .ref a5]) hO E_X0_setPace rfl M_X1_setPace rfl q1090 q1091 q1092 (ci := 0) rfl rfl hb rfl rfl (Nat.le_of_ble_eq_true rfl) dX0_setPace_7 (qc_S.mono ?_ (C_X1_setPace (d := d) hO hP a1 a2 a3 a4 hp k1 _ _ h))
  clear h
  clear hb
  rintro _ tz (hz | hz)
  · revert tz; rintro h4 ⟨r3, rfl, h⟩
    refine K1_i ?_
    refine qc_i2l E_X0_setPace dX0_setPace_10 ?_
    refine re_last E_X0_setPace dX0_setPace_11 h ?_
    clear h
    intro h8 h
    refine qc_goto E_X0_setPace 23 dX0_setPace_12 (by decide) ?_
    refine qc_iconst E_X0_setPace 0 (by decide) dX0_setPace_23 ?_
    exact qc_iret E_X0_setPace rfl dX0_setPace_24 (Or.inl (⟨_, rfl, h⟩))
  · revert tz; rintro h5 ⟨Ez, rfl, h⟩
    refine K1_x ?_
    rcases h with ⟨rfl, h⟩ | ⟨rfl, h⟩
    · refine qc_catch (own := RX0) rfl [⟨0, 12, 15, 13⟩] ⟨0, 12, 19, 15⟩ [] rfl (by intro z hz; have hz : z ∈ ([⟨0, 12, 15, 13⟩] : List ExceptionTableEntry) := hz; simp only [List.mem_cons, List.not_mem_nil, or_false] at hz; subst hz; exact Or.inr ⟨by decide, _, q405, hP.2.2.1 ("java/lang/IllegalArgumentException", "java/lang/IndexOutOfBoundsException") (by decide)⟩) (by decide) (by decide) q484 (hP.2.1 _ (qp_n q545 rfl)) ?_
      intro q6
      replace h := h q6
      refine qc_astore E_X0_setPace (by decide) dX0_setPace_19 ?_
      refine qc_iconst E_X0_setPace 2 (by decide) dX0_setPace_21 ?_
      exact qc_iret E_X0_setPace rfl dX0_setPace_22 (Or.inl (⟨_, rfl, h⟩))
    · refine qc_catch (own := RX0) rfl [] ⟨0, 12, 15, 13⟩ [⟨0, 12, 19, 15⟩] rfl (by intro z hz; cases hz) (by decide) (by decide) q405 (hP.2.1 _ (qp_n q499 rfl)) ?_
      intro q7
      replace h := h q7
      refine qc_astore E_X0_setPace (by decide) dX0_setPace_15 ?_
      refine qc_iconst E_X0_setPace 1 (by decide) dX0_setPace_17 ?_
      exact qc_iret E_X0_setPace rfl dX0_setPace_18 (Or.inl (⟨_, rfl, h⟩))
def I_X0_setBounds : qh_I := (yX0_setBounds, cX0_setBounds, 6, (Option.some Jvm.ClassFile.FieldType.int), [(0, 12, 15, 13), (0, 12, 19, 15)])
theorem E_X0_setBounds : I_X0_setBounds.2.1 = cX0_setBounds := rfl
theorem M_X0_setBounds : qh_M I_X0_setBounds 5 := ⟨by decide, by decide, by decide +kernel, q84, q1103, by decide⟩
def T_X0_setBounds (g : qh_G) (a1 : Nat) (a2 : Int32) (a3 : Int32) (a4 : Int32) (a5 : Nat) (hp : qc_H) (c : Nat) (K : Int32 → qc_H → Prop) (KX : String → qc_H → Prop) : Prop := eC hp a1 0 (eK c (fun c2 k1 => T_X1_setBounds g a1 a2 a3 a4 hp k1 (fun r3 h4 => eLW g.2.2.2.1 h4 a5 0 (Int32.toInt64 r3) (fun h8 => K 0 h8)) (fun Ez h5 => (Ez = "java/lang/IllegalArgumentException" ∧ ∀ q6 : Nat, K 2 h5) ∨ (Ez = "java/lang/IndexOutOfBoundsException" ∧ ∀ q7 : Nat, K 1 h5))))
set_option maxHeartbeats 8000000 in
theorem C_X0_setBounds {g : qh_G} {x : qc_X} {d : Nat} {sd : String → Nat → Nat} (hO : qc_O g x) (hP : qc_P g qp_ts sd) (hX : qw_X g) (a1 : Nat) (a2 : Int32) (a3 : Int32) (a4 : Int32) (a5 : Nat) (hp : qc_H) (c : Nat) (K : Int32 → qc_H → Prop) (KX : String → qc_H → Prop) (hz : T_X0_setBounds g a1 a2 a3 a4 a5 hp c K KX) : qc_S g x (d + 3) c I_X0_setBounds [.ref a1, .int a2, .int a3, .int a4, .ref a5] hp (oX (oI K) KX) := by
  refine qc_S.ofH (by decide) rfl (ls := [some (.ref a1), some (.int a2), some (.int a3), some (.int a4), some (.ref a5), none]) rfl (Nat.le_of_ble_eq_true rfl) (ct_c rfl (ct_c rfl (ct_c rfl (ct_c rfl (ct_c rfl ct_n))))) ?_
  unfold T_X0_setBounds at hz
  have h := hz
  clear hz
  refine qc_aload E_X0_setBounds (by rfl) dX0_setBounds_0 ?_
  refine qc_iconst E_X0_setBounds 0 (by decide) dX0_setBounds_2 ?_
  refine qc_aload_n E_X0_setBounds (by rfl) dX0_setBounds_3 ?_
  refine qc_iload_n E_X0_setBounds (by rfl) dX0_setBounds_4 ?_
  refine qc_iload_n E_X0_setBounds (by rfl) dX0_setBounds_5 ?_
  refine qc_iload_n E_X0_setBounds (by rfl) dX0_setBounds_6 ?_
  obtain ⟨⟨fz, hb⟩, c2, k1, rfl, h⟩ := h
  refine qc_callV (c := c2) (k := k1) (As := [.int a2, .int a3, .int a4]) (rest := [.int 0, .ref a5]) hO E_X0_setBounds rfl M_X1_setBounds rfl q1104 q1105 q1106 (ci := 0) rfl rfl hb rfl rfl (Nat.le_of_ble_eq_true rfl) dX0_setBounds_7 (qc_S.mono ?_ (C_X1_setBounds (d := d) hO hP a1 a2 a3 a4 hp k1 _ _ h))
  clear h
  clear hb
  rintro _ tz (hz | hz)
  · revert tz; rintro h4 ⟨r3, rfl, h⟩
    refine K1_i ?_
    refine qc_i2l E_X0_setBounds dX0_setBounds_10 ?_
    refine re_last E_X0_setBounds dX0_setBounds_11 h ?_
    clear h
    intro h8 h
    refine qc_goto E_X0_setBounds 23 dX0_setBounds_12 (by decide) ?_
    refine qc_iconst E_X0_setBounds 0 (by decide) dX0_setBounds_23 ?_
    exact qc_iret E_X0_setBounds rfl dX0_setBounds_24 (Or.inl (⟨_, rfl, h⟩))
  · revert tz; rintro h5 ⟨Ez, rfl, h⟩
    refine K1_x ?_
    rcases h with ⟨rfl, h⟩ | ⟨rfl, h⟩
    · refine qc_catch (own := RX0) rfl [⟨0, 12, 15, 13⟩] ⟨0, 12, 19, 15⟩ [] rfl (by intro z hz; have hz : z ∈ ([⟨0, 12, 15, 13⟩] : List ExceptionTableEntry) := hz; simp only [List.mem_cons, List.not_mem_nil, or_false] at hz; subst hz; exact Or.inr ⟨by decide, _, q405, hP.2.2.1 ("java/lang/IllegalArgumentException", "java/lang/IndexOutOfBoundsException") (by decide)⟩) (by decide) (by decide) q484 (hP.2.1 _ (qp_n q545 rfl)) ?_
      intro q6
      replace h := h q6
      refine qc_astore E_X0_setBounds (by decide) dX0_setBounds_19 ?_
      refine qc_iconst E_X0_setBounds 2 (by decide) dX0_setBounds_21 ?_
      exact qc_iret E_X0_setBounds rfl dX0_setBounds_22 (Or.inl (⟨_, rfl, h⟩))
    · refine qc_catch (own := RX0) rfl [] ⟨0, 12, 15, 13⟩ [⟨0, 12, 19, 15⟩] rfl (by intro z hz; cases hz) (by decide) (by decide) q405 (hP.2.1 _ (qp_n q499 rfl)) ?_
      intro q7
      replace h := h q7
      refine qc_astore E_X0_setBounds (by decide) dX0_setBounds_15 ?_
      refine qc_iconst E_X0_setBounds 1 (by decide) dX0_setBounds_17 ?_
      exact qc_iret E_X0_setBounds rfl dX0_setBounds_18 (Or.inl (⟨_, rfl, h⟩))
def I_X0_setLease : qh_I := (yX0_setLease, cX0_setLease, 5, (Option.some Jvm.ClassFile.FieldType.int), [(0, 10, 13, 13), (0, 10, 17, 15)])
theorem E_X0_setLease : I_X0_setLease.2.1 = cX0_setLease := rfl
theorem M_X0_setLease : qh_M I_X0_setLease 4 := ⟨by decide, by decide, by decide +kernel, q84, q1110, by decide⟩
def T_X0_setLease (g : qh_G) (a1 : Nat) (a2 : Int32) (a3 : Int32) (a4 : Nat) (hp : qc_H) (c : Nat) (K : Int32 → qc_H → Prop) (KX : String → qc_H → Prop) : Prop := eC hp a1 0 (eK c (fun c2 k1 => T_X1_setLease g a1 a2 a3 hp k1 (fun r3 h4 => eLW g.2.2.2.1 h4 a4 0 (Int32.toInt64 r3) (fun h8 => K 0 h8)) (fun Ez h5 => (Ez = "java/lang/IllegalArgumentException" ∧ ∀ q6 : Nat, K 2 h5) ∨ (Ez = "java/lang/IndexOutOfBoundsException" ∧ ∀ q7 : Nat, K 1 h5))))
set_option maxHeartbeats 8000000 in
theorem C_X0_setLease {g : qh_G} {x : qc_X} {d : Nat} {sd : String → Nat → Nat} (hO : qc_O g x) (hP : qc_P g qp_ts sd) (hX : qw_X g) (a1 : Nat) (a2 : Int32) (a3 : Int32) (a4 : Nat) (hp : qc_H) (c : Nat) (K : Int32 → qc_H → Prop) (KX : String → qc_H → Prop) (hz : T_X0_setLease g a1 a2 a3 a4 hp c K KX) : qc_S g x (d + 9) c I_X0_setLease [.ref a1, .int a2, .int a3, .ref a4] hp (oX (oI K) KX) := by
  refine qc_S.ofH (by decide) rfl (ls := [some (.ref a1), some (.int a2), some (.int a3), some (.ref a4), none]) rfl (Nat.le_of_ble_eq_true rfl) (ct_c rfl (ct_c rfl (ct_c rfl (ct_c rfl ct_n)))) ?_
  unfold T_X0_setLease at hz
  have h := hz
  clear hz
  refine qc_aload_n E_X0_setLease (by rfl) dX0_setLease_0 ?_
  refine qc_iconst E_X0_setLease 0 (by decide) dX0_setLease_1 ?_
  refine qc_aload_n E_X0_setLease (by rfl) dX0_setLease_2 ?_
  refine qc_iload_n E_X0_setLease (by rfl) dX0_setLease_3 ?_
  refine qc_iload_n E_X0_setLease (by rfl) dX0_setLease_4 ?_
  obtain ⟨⟨fz, hb⟩, c2, k1, rfl, h⟩ := h
  refine qc_callV (c := c2) (k := k1) (As := [.int a2, .int a3]) (rest := [.int 0, .ref a4]) hO E_X0_setLease rfl M_X1_setLease rfl q1111 q1112 q1113 (ci := 0) rfl rfl hb rfl rfl (Nat.le_of_ble_eq_true rfl) dX0_setLease_5 (qc_S.mono ?_ (C_X1_setLease (d := d) hO hP a1 a2 a3 hp k1 _ _ h))
  clear h
  clear hb
  rintro _ tz (hz | hz)
  · revert tz; rintro h4 ⟨r3, rfl, h⟩
    refine K1_i ?_
    refine qc_i2l E_X0_setLease dX0_setLease_8 ?_
    refine re_last E_X0_setLease dX0_setLease_9 h ?_
    clear h
    intro h8 h
    refine qc_goto E_X0_setLease 21 dX0_setLease_10 (by decide) ?_
    refine qc_iconst E_X0_setLease 0 (by decide) dX0_setLease_21 ?_
    exact qc_iret E_X0_setLease rfl dX0_setLease_22 (Or.inl (⟨_, rfl, h⟩))
  · revert tz; rintro h5 ⟨Ez, rfl, h⟩
    refine K1_x ?_
    rcases h with ⟨rfl, h⟩ | ⟨rfl, h⟩
    · refine qc_catch (own := RX0) rfl [⟨0, 10, 13, 13⟩] ⟨0, 10, 17, 15⟩ [] rfl (by intro z hz; have hz : z ∈ ([⟨0, 10, 13, 13⟩] : List ExceptionTableEntry) := hz; simp only [List.mem_cons, List.not_mem_nil, or_false] at hz; subst hz; exact Or.inr ⟨by decide, _, q405, hP.2.2.1 ("java/lang/IllegalArgumentException", "java/lang/IndexOutOfBoundsException") (by decide)⟩) (by decide) (by decide) q484 (hP.2.1 _ (qp_n q545 rfl)) ?_
      intro q6
      replace h := h q6
      refine qc_astore E_X0_setLease (by decide) dX0_setLease_17 ?_
      refine qc_iconst E_X0_setLease 2 (by decide) dX0_setLease_19 ?_
      exact qc_iret E_X0_setLease rfl dX0_setLease_20 (Or.inl (⟨_, rfl, h⟩))
    · refine qc_catch (own := RX0) rfl [] ⟨0, 10, 13, 13⟩ [⟨0, 10, 17, 15⟩] rfl (by intro z hz; cases hz) (by decide) (by decide) q405 (hP.2.1 _ (qp_n q499 rfl)) ?_
      intro q7
      replace h := h q7
      refine qc_astore E_X0_setLease (by decide) dX0_setLease_13 ?_
      refine qc_iconst E_X0_setLease 1 (by decide) dX0_setLease_15 ?_
      exact qc_iret E_X0_setLease rfl dX0_setLease_16 (Or.inl (⟨_, rfl, h⟩))
def I_X0_fail : qh_I := (yX0_fail, cX0_fail, 6, (Option.some Jvm.ClassFile.FieldType.int), [(0, 12, 15, 13), (0, 12, 19, 15)])
theorem E_X0_fail : I_X0_fail.2.1 = cX0_fail := rfl
theorem M_X0_fail : qh_M I_X0_fail 5 := ⟨by decide, by decide, by decide +kernel, q84, q1117, by decide⟩
def T_X0_fail (g : qh_G) (a1 : Nat) (a2 : Int32) (a3 : Int32) (a4 : Int32) (a5 : Nat) (hp : qc_H) (c : Nat) (K : Int32 → qc_H → Prop) (KX : String → qc_H → Prop) : Prop := eC hp a1 0 (eK c (fun c2 k1 => T_X1_fail g a1 a2 a3 a4 hp k1 (fun r3 h4 => eLW g.2.2.2.1 h4 a5 0 (Int32.toInt64 r3) (fun h8 => K 0 h8)) (fun Ez h5 => (Ez = "java/lang/IllegalArgumentException" ∧ ∀ q6 : Nat, K 2 h5) ∨ (Ez = "java/lang/IndexOutOfBoundsException" ∧ ∀ q7 : Nat, K 1 h5))))
set_option maxHeartbeats 8000000 in
theorem C_X0_fail {g : qh_G} {x : qc_X} {d : Nat} {sd : String → Nat → Nat} (hO : qc_O g x) (hP : qc_P g qp_ts sd) (hX : qw_X g) (a1 : Nat) (a2 : Int32) (a3 : Int32) (a4 : Int32) (a5 : Nat) (hp : qc_H) (c : Nat) (K : Int32 → qc_H → Prop) (KX : String → qc_H → Prop) (hz : T_X0_fail g a1 a2 a3 a4 a5 hp c K KX) : qc_S g x (d + 3) c I_X0_fail [.ref a1, .int a2, .int a3, .int a4, .ref a5] hp (oX (oI K) KX) := by
  refine qc_S.ofH (by decide) rfl (ls := [some (.ref a1), some (.int a2), some (.int a3), some (.int a4), some (.ref a5), none]) rfl (Nat.le_of_ble_eq_true rfl) (ct_c rfl (ct_c rfl (ct_c rfl (ct_c rfl (ct_c rfl ct_n))))) ?_
  unfold T_X0_fail at hz
  have h := hz
  clear hz
  refine qc_aload E_X0_fail (by rfl) dX0_fail_0 ?_
  refine qc_iconst E_X0_fail 0 (by decide) dX0_fail_2 ?_
  refine qc_aload_n E_X0_fail (by rfl) dX0_fail_3 ?_
  refine qc_iload_n E_X0_fail (by rfl) dX0_fail_4 ?_
  refine qc_iload_n E_X0_fail (by rfl) dX0_fail_5 ?_
  refine qc_iload_n E_X0_fail (by rfl) dX0_fail_6 ?_
  obtain ⟨⟨fz, hb⟩, c2, k1, rfl, h⟩ := h
  refine qc_callV (c := c2) (k := k1) (As := [.int a2, .int a3, .int a4]) (rest := [.int 0, .ref a5]) hO E_X0_fail rfl M_X1_fail rfl q1118 q1119 q1120 (ci := 0) rfl rfl hb rfl rfl (Nat.le_of_ble_eq_true rfl) dX0_fail_7 (qc_S.mono ?_ (C_X1_fail (d := d) hO hP a1 a2 a3 a4 hp k1 _ _ h))
  clear h
  clear hb
  rintro _ tz (hz | hz)
  · revert tz; rintro h4 ⟨r3, rfl, h⟩
    refine K1_i ?_
    refine qc_i2l E_X0_fail dX0_fail_10 ?_
    refine re_last E_X0_fail dX0_fail_11 h ?_
    clear h
    intro h8 h
    refine qc_goto E_X0_fail 23 dX0_fail_12 (by decide) ?_
    refine qc_iconst E_X0_fail 0 (by decide) dX0_fail_23 ?_
    exact qc_iret E_X0_fail rfl dX0_fail_24 (Or.inl (⟨_, rfl, h⟩))
  · revert tz; rintro h5 ⟨Ez, rfl, h⟩
    refine K1_x ?_
    rcases h with ⟨rfl, h⟩ | ⟨rfl, h⟩
    · refine qc_catch (own := RX0) rfl [⟨0, 12, 15, 13⟩] ⟨0, 12, 19, 15⟩ [] rfl (by intro z hz; have hz : z ∈ ([⟨0, 12, 15, 13⟩] : List ExceptionTableEntry) := hz; simp only [List.mem_cons, List.not_mem_nil, or_false] at hz; subst hz; exact Or.inr ⟨by decide, _, q405, hP.2.2.1 ("java/lang/IllegalArgumentException", "java/lang/IndexOutOfBoundsException") (by decide)⟩) (by decide) (by decide) q484 (hP.2.1 _ (qp_n q545 rfl)) ?_
      intro q6
      replace h := h q6
      refine qc_astore E_X0_fail (by decide) dX0_fail_19 ?_
      refine qc_iconst E_X0_fail 2 (by decide) dX0_fail_21 ?_
      exact qc_iret E_X0_fail rfl dX0_fail_22 (Or.inl (⟨_, rfl, h⟩))
    · refine qc_catch (own := RX0) rfl [] ⟨0, 12, 15, 13⟩ [⟨0, 12, 19, 15⟩] rfl (by intro z hz; cases hz) (by decide) (by decide) q405 (hP.2.1 _ (qp_n q499 rfl)) ?_
      intro q7
      replace h := h q7
      refine qc_astore E_X0_fail (by decide) dX0_fail_15 ?_
      refine qc_iconst E_X0_fail 1 (by decide) dX0_fail_17 ?_
      exact qc_iret E_X0_fail rfl dX0_fail_18 (Or.inl (⟨_, rfl, h⟩))
def I_X0_forbid : qh_I := (yX0_forbid, cX0_forbid, 6, (Option.some Jvm.ClassFile.FieldType.int), [(0, 19, 22, 13)])
theorem E_X0_forbid : I_X0_forbid.2.1 = cX0_forbid := rfl
theorem M_X0_forbid : qh_M I_X0_forbid 5 := ⟨by decide, by decide, by decide +kernel, q84, q1124, by decide⟩
def T_X0_forbid (g : qh_G) (a1 : Nat) (a2 : Int32) (a3 : Int32) (a4 : Int32) (a5 : Nat) (hp : qc_H) (c : Nat) (K : Int32 → qc_H → Prop) (KX : String → qc_H → Prop) : Prop := eC hp a1 0 (eK c (fun c2 k1 => T_X1_forbid g a1 a2 a3 a4 hp k1 (fun r3 h5 => ∀ J9 : Int64 → Prop, (∀ (x10 : Int64), (eLW g.2.2.2.1 h5 a5 0 x10 (fun h11 => K 0 h11)) → J9 x10) → (r3 = 0 → J9 ((0 : Int64))) ∧ (¬ r3 = 0 → J9 ((1 : Int64)))) (fun Ez h6 => (Ez = "java/lang/IndexOutOfBoundsException" ∧ ∀ q7 : Nat, K 1 h6))))
set_option maxHeartbeats 8000000 in
theorem C_X0_forbid {g : qh_G} {x : qc_X} {d : Nat} {sd : String → Nat → Nat} (hO : qc_O g x) (hP : qc_P g qp_ts sd) (hX : qw_X g) (a1 : Nat) (a2 : Int32) (a3 : Int32) (a4 : Int32) (a5 : Nat) (hp : qc_H) (c : Nat) (K : Int32 → qc_H → Prop) (KX : String → qc_H → Prop) (hz : T_X0_forbid g a1 a2 a3 a4 a5 hp c K KX) : qc_S g x (d + 2) c I_X0_forbid [.ref a1, .int a2, .int a3, .int a4, .ref a5] hp (oX (oI K) KX) := by
  refine qc_S.ofH (by decide) rfl (ls := [some (.ref a1), some (.int a2), some (.int a3), some (.int a4), some (.ref a5), none]) rfl (Nat.le_of_ble_eq_true rfl) (ct_c rfl (ct_c rfl (ct_c rfl (ct_c rfl (ct_c rfl ct_n))))) ?_
  unfold T_X0_forbid at hz
  have h := hz
  clear hz
  refine qc_aload E_X0_forbid (by rfl) dX0_forbid_0 ?_
  refine qc_iconst E_X0_forbid 0 (by decide) dX0_forbid_2 ?_
  refine qc_aload_n E_X0_forbid (by rfl) dX0_forbid_3 ?_
  refine qc_iload_n E_X0_forbid (by rfl) dX0_forbid_4 ?_
  refine qc_iload_n E_X0_forbid (by rfl) dX0_forbid_5 ?_
  refine qc_iload_n E_X0_forbid (by rfl) dX0_forbid_6 ?_
  obtain ⟨⟨fz, hb⟩, c2, k1, rfl, h⟩ := h
  refine qc_callV (c := c2) (k := k1) (As := [.int a2, .int a3, .int a4]) (rest := [.int 0, .ref a5]) hO E_X0_forbid rfl M_X1_forbid rfl q1125 q1126 q1127 (ci := 0) rfl rfl hb rfl rfl (Nat.le_of_ble_eq_true rfl) dX0_forbid_7 (qc_S.mono ?_ (C_X1_forbid (d := d) hO hP a1 a2 a3 a4 hp k1 _ _ h))
  clear h
  clear hb
  rintro _ tz (hz | hz)
  · revert tz; rintro h5 ⟨r3, rfl, z4, h⟩
    refine K1_i ?_
    have jz := h (fun (x10 : Int64) => qc_wp g x (d + 2) c2 I_X0_forbid 18 [none, none, none, none, none, none] [.long x10, .int 0, .ref a5] h5 (oX (oI K) KX))
    clear h
    have h := jz (by
      intro x10 h
      refine re_last E_X0_forbid dX0_forbid_18 h ?_
      clear h
      intro h11 h
      refine qc_goto E_X0_forbid 26 dX0_forbid_19 (by decide) ?_
      refine qc_iconst E_X0_forbid 0 (by decide) dX0_forbid_26 ?_
      exact qc_iret E_X0_forbid rfl dX0_forbid_27 (Or.inl (⟨_, rfl, h⟩)))
    clear jz
    refine qc_if_eq E_X0_forbid 17 dX0_forbid_10 (by decide) (fun (c8 : r3 = 0) => ?_) (fun (c8 : ¬ r3 = 0) => ?_)
    · replace h := h.1 c8
      refine qc_lconst E_X0_forbid (0 : Int64) rfl dX0_forbid_17 ?_
      refine qc_drop 0 ?_
      refine qc_drop 1 ?_
      refine qc_drop 2 ?_
      refine qc_drop 3 ?_
      refine qc_drop 4 ?_
      exact h
    · replace h := h.2 c8
      refine qc_lconst E_X0_forbid (1 : Int64) rfl dX0_forbid_13 ?_
      refine qc_goto E_X0_forbid 18 dX0_forbid_14 (by decide) ?_
      refine qc_drop 0 ?_
      refine qc_drop 1 ?_
      refine qc_drop 2 ?_
      refine qc_drop 3 ?_
      refine qc_drop 4 ?_
      exact h
  · revert tz; rintro h6 ⟨Ez, rfl, h⟩
    refine K1_x ?_
    obtain ⟨rfl, h⟩ := h
    · refine qc_catch (own := RX0) rfl [] ⟨0, 19, 22, 13⟩ [] rfl (by intro z hz; cases hz) (by decide) (by decide) q405 (hP.2.1 _ (qp_n q499 rfl)) ?_
      intro q7
      replace h := h q7
      refine qc_astore E_X0_forbid (by decide) dX0_forbid_22 ?_
      refine qc_iconst E_X0_forbid 1 (by decide) dX0_forbid_24 ?_
      exact qc_iret E_X0_forbid rfl dX0_forbid_25 (Or.inl (⟨_, rfl, h⟩))
def I_X0_pass : qh_I := (yX0_pass, cX0_pass, 4, (Option.some Jvm.ClassFile.FieldType.int), [(0, 9, 12, 15)])
theorem E_X0_pass : I_X0_pass.2.1 = cX0_pass := rfl
theorem M_X0_pass : qh_M I_X0_pass 3 := ⟨by decide, by decide, by decide +kernel, q84, q1131, by decide⟩
def T_X0_pass (g : qh_G) (a1 : Nat) (a2 : Int32) (a3 : Nat) (hp : qc_H) (c : Nat) (K : Int32 → qc_H → Prop) (KX : String → qc_H → Prop) : Prop := eC hp a1 0 (eK c (fun c2 k1 => T_X1_pass g a1 a2 hp k1 (fun r3 h4 => eLW g.2.2.2.1 h4 a3 0 (Int32.toInt64 r3) (fun h7 => K 0 h7)) (fun Ez h5 => (Ez = "java/lang/IllegalArgumentException" ∧ ∀ q6 : Nat, K 1 h5))))
set_option maxHeartbeats 8000000 in
theorem C_X0_pass {g : qh_G} {x : qc_X} {d : Nat} {sd : String → Nat → Nat} (hO : qc_O g x) (hP : qc_P g qp_ts sd) (hX : qw_X g) (a1 : Nat) (a2 : Int32) (a3 : Nat) (hp : qc_H) (c : Nat) (K : Int32 → qc_H → Prop) (KX : String → qc_H → Prop) (hz : T_X0_pass g a1 a2 a3 hp c K KX) : qc_S g x (d + 9) c I_X0_pass [.ref a1, .int a2, .ref a3] hp (oX (oI K) KX) := by
  refine qc_S.ofH (by decide) rfl (ls := [some (.ref a1), some (.int a2), some (.ref a3), none]) rfl (Nat.le_of_ble_eq_true rfl) (ct_c rfl (ct_c rfl (ct_c rfl ct_n))) ?_
  unfold T_X0_pass at hz
  have h := hz
  clear hz
  refine qc_aload_n E_X0_pass (by rfl) dX0_pass_0 ?_
  refine qc_iconst E_X0_pass 0 (by decide) dX0_pass_1 ?_
  refine qc_aload_n E_X0_pass (by rfl) dX0_pass_2 ?_
  refine qc_iload_n E_X0_pass (by rfl) dX0_pass_3 ?_
  obtain ⟨⟨fz, hb⟩, c2, k1, rfl, h⟩ := h
  refine qc_callV (c := c2) (k := k1) (As := [.int a2]) (rest := [.int 0, .ref a3]) hO E_X0_pass rfl M_X1_pass rfl q1132 q1133 q1134 (ci := 0) rfl rfl hb rfl rfl (Nat.le_of_ble_eq_true rfl) dX0_pass_4 (qc_S.mono ?_ (C_X1_pass (d := d) hO hP a1 a2 hp k1 _ _ h))
  clear h
  clear hb
  rintro _ tz (hz | hz)
  · revert tz; rintro h4 ⟨r3, rfl, h⟩
    refine K1_i ?_
    refine qc_i2l E_X0_pass dX0_pass_7 ?_
    refine re_last E_X0_pass dX0_pass_8 h ?_
    clear h
    intro h7 h
    refine qc_goto E_X0_pass 15 dX0_pass_9 (by decide) ?_
    refine qc_iconst E_X0_pass 0 (by decide) dX0_pass_15 ?_
    exact qc_iret E_X0_pass rfl dX0_pass_16 (Or.inl (⟨_, rfl, h⟩))
  · revert tz; rintro h5 ⟨Ez, rfl, h⟩
    refine K1_x ?_
    obtain ⟨rfl, h⟩ := h
    · refine qc_catch (own := RX0) rfl [] ⟨0, 9, 12, 15⟩ [] rfl (by intro z hz; cases hz) (by decide) (by decide) q484 (hP.2.1 _ (qp_n q545 rfl)) ?_
      intro q6
      replace h := h q6
      refine qc_astore_n E_X0_pass (by decide) dX0_pass_12 ?_
      refine qc_iconst E_X0_pass 1 (by decide) dX0_pass_13 ?_
      exact qc_iret E_X0_pass rfl dX0_pass_14 (Or.inl (⟨_, rfl, h⟩))
def I_X0_seat : qh_I := (yX0_seat, cX0_seat, 4, (Option.some Jvm.ClassFile.FieldType.int), [(0, 9, 12, 13), (0, 9, 15, 17)])
theorem E_X0_seat : I_X0_seat.2.1 = cX0_seat := rfl
theorem M_X0_seat : qh_M I_X0_seat 3 := ⟨by decide, by decide, by decide +kernel, q84, q1138, by decide⟩
def T_X0_seat (g : qh_G) (a1 : Nat) (a2 : Int32) (a3 : Nat) (hp : qc_H) (c : Nat) (K : Int32 → qc_H → Prop) (KX : String → qc_H → Prop) : Prop := eC hp a1 0 (eK c (fun c2 k1 => T_X1_seat g a1 a2 hp k1 (fun r3 h4 => eLW g.2.2.2.1 h4 a3 0 (Int32.toInt64 r3) (fun h8 => K 0 h8)) (fun Ez h5 => (Ez = "java/lang/IndexOutOfBoundsException" ∧ ∀ q6 : Nat, K 1 h5) ∨ (Ez = "java/lang/IllegalStateException" ∧ ∀ q7 : Nat, K 2 h5))))
set_option maxHeartbeats 8000000 in
theorem C_X0_seat {g : qh_G} {x : qc_X} {d : Nat} {sd : String → Nat → Nat} (hO : qc_O g x) (hP : qc_P g qp_ts sd) (hX : qw_X g) (a1 : Nat) (a2 : Int32) (a3 : Nat) (hp : qc_H) (c : Nat) (K : Int32 → qc_H → Prop) (KX : String → qc_H → Prop) (hz : T_X0_seat g a1 a2 a3 hp c K KX) : qc_S g x (d + 7) c I_X0_seat [.ref a1, .int a2, .ref a3] hp (oX (oI K) KX) := by
  refine qc_S.ofH (by decide) rfl (ls := [some (.ref a1), some (.int a2), some (.ref a3), none]) rfl (Nat.le_of_ble_eq_true rfl) (ct_c rfl (ct_c rfl (ct_c rfl ct_n))) ?_
  unfold T_X0_seat at hz
  have h := hz
  clear hz
  refine qc_aload_n E_X0_seat (by rfl) dX0_seat_0 ?_
  refine qc_iconst E_X0_seat 0 (by decide) dX0_seat_1 ?_
  refine qc_aload_n E_X0_seat (by rfl) dX0_seat_2 ?_
  refine qc_iload_n E_X0_seat (by rfl) dX0_seat_3 ?_
  obtain ⟨⟨fz, hb⟩, c2, k1, rfl, h⟩ := h
  refine qc_callV (c := c2) (k := k1) (As := [.int a2]) (rest := [.int 0, .ref a3]) hO E_X0_seat rfl M_X1_seat rfl q1139 q1140 q1141 (ci := 0) rfl rfl hb rfl rfl (Nat.le_of_ble_eq_true rfl) dX0_seat_4 (qc_S.mono ?_ (C_X1_seat (d := d) hO hP a1 a2 hp k1 _ _ h))
  clear h
  clear hb
  rintro _ tz (hz | hz)
  · revert tz; rintro h4 ⟨r3, rfl, h⟩
    refine K1_i ?_
    refine qc_i2l E_X0_seat dX0_seat_7 ?_
    refine re_last E_X0_seat dX0_seat_8 h ?_
    clear h
    intro h8 h
    refine qc_goto E_X0_seat 18 dX0_seat_9 (by decide) ?_
    refine qc_iconst E_X0_seat 0 (by decide) dX0_seat_18 ?_
    exact qc_iret E_X0_seat rfl dX0_seat_19 (Or.inl (⟨_, rfl, h⟩))
  · revert tz; rintro h5 ⟨Ez, rfl, h⟩
    refine K1_x ?_
    rcases h with ⟨rfl, h⟩ | ⟨rfl, h⟩
    · refine qc_catch (own := RX0) rfl [] ⟨0, 9, 12, 13⟩ [⟨0, 9, 15, 17⟩] rfl (by intro z hz; cases hz) (by decide) (by decide) q405 (hP.2.1 _ (qp_n q499 rfl)) ?_
      intro q6
      replace h := h q6
      refine qc_astore_n E_X0_seat (by decide) dX0_seat_12 ?_
      refine qc_iconst E_X0_seat 1 (by decide) dX0_seat_13 ?_
      exact qc_iret E_X0_seat rfl dX0_seat_14 (Or.inl (⟨_, rfl, h⟩))
    · refine qc_catch (own := RX0) rfl [⟨0, 9, 12, 13⟩] ⟨0, 9, 15, 17⟩ [] rfl (by intro z hz; have hz : z ∈ ([⟨0, 9, 12, 13⟩] : List ExceptionTableEntry) := hz; simp only [List.mem_cons, List.not_mem_nil, or_false] at hz; subst hz; exact Or.inr ⟨by decide, _, q405, hP.2.2.1 ("java/lang/IllegalStateException", "java/lang/IndexOutOfBoundsException") (by decide)⟩) (by decide) (by decide) q485 (hP.2.1 _ (qp_n q599 rfl)) ?_
      intro q7
      replace h := h q7
      refine qc_astore_n E_X0_seat (by decide) dX0_seat_15 ?_
      refine qc_iconst E_X0_seat 2 (by decide) dX0_seat_16 ?_
      exact qc_iret E_X0_seat rfl dX0_seat_17 (Or.inl (⟨_, rfl, h⟩))
def I_X0_link : qh_I := (yX0_link, cX0_link, 7, (Option.some Jvm.ClassFile.FieldType.int), [(0, 14, 17, 13), (0, 14, 21, 15), (0, 14, 25, 17)])
theorem E_X0_link : I_X0_link.2.1 = cX0_link := rfl
theorem M_X0_link : qh_M I_X0_link 6 := ⟨by decide, by decide, by decide +kernel, q84, q1145, by decide⟩
def T_X0_link (g : qh_G) (a1 : Nat) (a2 : Int32) (a3 : Int32) (a4 : Int32) (a5 : Int32) (a6 : Nat) (hp : qc_H) (c : Nat) (K : Int32 → qc_H → Prop) (KX : String → qc_H → Prop) : Prop := eC hp a1 0 (eK c (fun c2 k1 => T_X1_link g a1 a2 a3 a4 a5 hp k1 (fun r3 h4 => eLW g.2.2.2.1 h4 a6 0 (Int32.toInt64 r3) (fun h9 => K 0 h9)) (fun Ez h5 => (Ez = "java/lang/IllegalArgumentException" ∧ ∀ q6 : Nat, K 2 h5) ∨ (Ez = "java/lang/IndexOutOfBoundsException" ∧ ∀ q7 : Nat, K 1 h5) ∨ (Ez = "java/lang/IllegalStateException" ∧ ∀ q8 : Nat, K 3 h5))))
set_option maxHeartbeats 8000000 in
theorem C_X0_link {g : qh_G} {x : qc_X} {d : Nat} {sd : String → Nat → Nat} (hO : qc_O g x) (hP : qc_P g qp_ts sd) (hX : qw_X g) (a1 : Nat) (a2 : Int32) (a3 : Int32) (a4 : Int32) (a5 : Int32) (a6 : Nat) (hp : qc_H) (c : Nat) (K : Int32 → qc_H → Prop) (KX : String → qc_H → Prop) (hz : T_X0_link g a1 a2 a3 a4 a5 a6 hp c K KX) : qc_S g x (d + 9) c I_X0_link [.ref a1, .int a2, .int a3, .int a4, .int a5, .ref a6] hp (oX (oI K) KX) := by
  refine qc_S.ofH (by decide) rfl (ls := [some (.ref a1), some (.int a2), some (.int a3), some (.int a4), some (.int a5), some (.ref a6), none]) rfl (Nat.le_of_ble_eq_true rfl) (ct_c rfl (ct_c rfl (ct_c rfl (ct_c rfl (ct_c rfl (ct_c rfl ct_n)))))) ?_
  unfold T_X0_link at hz
  have h := hz
  clear hz
  refine qc_aload E_X0_link (by rfl) dX0_link_0 ?_
  refine qc_iconst E_X0_link 0 (by decide) dX0_link_2 ?_
  refine qc_aload_n E_X0_link (by rfl) dX0_link_3 ?_
  refine qc_iload_n E_X0_link (by rfl) dX0_link_4 ?_
  refine qc_iload_n E_X0_link (by rfl) dX0_link_5 ?_
  refine qc_iload_n E_X0_link (by rfl) dX0_link_6 ?_
  refine qc_iload E_X0_link (by rfl) dX0_link_7 ?_
  obtain ⟨⟨fz, hb⟩, c2, k1, rfl, h⟩ := h
  refine qc_callV (c := c2) (k := k1) (As := [.int a2, .int a3, .int a4, .int a5]) (rest := [.int 0, .ref a6]) hO E_X0_link rfl M_X1_link rfl q1146 q1147 q1148 (ci := 0) rfl rfl hb rfl rfl (Nat.le_of_ble_eq_true rfl) dX0_link_9 (qc_S.mono ?_ (C_X1_link (d := d) hO hP a1 a2 a3 a4 a5 hp k1 _ _ h))
  clear h
  clear hb
  rintro _ tz (hz | hz)
  · revert tz; rintro h4 ⟨r3, rfl, h⟩
    refine K1_i ?_
    refine qc_i2l E_X0_link dX0_link_12 ?_
    refine re_last E_X0_link dX0_link_13 h ?_
    clear h
    intro h9 h
    refine qc_goto E_X0_link 29 dX0_link_14 (by decide) ?_
    refine qc_iconst E_X0_link 0 (by decide) dX0_link_29 ?_
    exact qc_iret E_X0_link rfl dX0_link_30 (Or.inl (⟨_, rfl, h⟩))
  · revert tz; rintro h5 ⟨Ez, rfl, h⟩
    refine K1_x ?_
    rcases h with ⟨rfl, h⟩ | ⟨rfl, h⟩ | ⟨rfl, h⟩
    · refine qc_catch (own := RX0) rfl [⟨0, 14, 17, 13⟩] ⟨0, 14, 21, 15⟩ [⟨0, 14, 25, 17⟩] rfl (by intro z hz; have hz : z ∈ ([⟨0, 14, 17, 13⟩] : List ExceptionTableEntry) := hz; simp only [List.mem_cons, List.not_mem_nil, or_false] at hz; subst hz; exact Or.inr ⟨by decide, _, q405, hP.2.2.1 ("java/lang/IllegalArgumentException", "java/lang/IndexOutOfBoundsException") (by decide)⟩) (by decide) (by decide) q484 (hP.2.1 _ (qp_n q545 rfl)) ?_
      intro q6
      replace h := h q6
      refine qc_astore E_X0_link (by decide) dX0_link_21 ?_
      refine qc_iconst E_X0_link 2 (by decide) dX0_link_23 ?_
      exact qc_iret E_X0_link rfl dX0_link_24 (Or.inl (⟨_, rfl, h⟩))
    · refine qc_catch (own := RX0) rfl [] ⟨0, 14, 17, 13⟩ [⟨0, 14, 21, 15⟩, ⟨0, 14, 25, 17⟩] rfl (by intro z hz; cases hz) (by decide) (by decide) q405 (hP.2.1 _ (qp_n q499 rfl)) ?_
      intro q7
      replace h := h q7
      refine qc_astore E_X0_link (by decide) dX0_link_17 ?_
      refine qc_iconst E_X0_link 1 (by decide) dX0_link_19 ?_
      exact qc_iret E_X0_link rfl dX0_link_20 (Or.inl (⟨_, rfl, h⟩))
    · refine qc_catch (own := RX0) rfl [⟨0, 14, 17, 13⟩, ⟨0, 14, 21, 15⟩] ⟨0, 14, 25, 17⟩ [] rfl (by intro z hz; have hz : z ∈ ([⟨0, 14, 17, 13⟩, ⟨0, 14, 21, 15⟩] : List ExceptionTableEntry) := hz; simp only [List.mem_cons, List.not_mem_nil, or_false] at hz; rcases hz with rfl | rfl <;> first | exact Or.inr ⟨by decide, _, q405, hP.2.2.1 ("java/lang/IllegalStateException", "java/lang/IndexOutOfBoundsException") (by decide)⟩ | exact Or.inr ⟨by decide, _, q484, hP.2.2.1 ("java/lang/IllegalStateException", "java/lang/IllegalArgumentException") (by decide)⟩) (by decide) (by decide) q485 (hP.2.1 _ (qp_n q599 rfl)) ?_
      intro q8
      replace h := h q8
      refine qc_astore E_X0_link (by decide) dX0_link_25 ?_
      refine qc_iconst E_X0_link 3 (by decide) dX0_link_27 ?_
      exact qc_iret E_X0_link rfl dX0_link_28 (Or.inl (⟨_, rfl, h⟩))
def I_X0_where : qh_I := (yX0_where, cX0_where, 7, (Option.some Jvm.ClassFile.FieldType.int), [(0, 14, 17, 13), (0, 14, 21, 15), (0, 14, 25, 17)])
theorem E_X0_where : I_X0_where.2.1 = cX0_where := rfl
theorem M_X0_where : qh_M I_X0_where 6 := ⟨by decide, by decide, by decide +kernel, q84, q1186, by decide⟩
def T_X0_where (g : qh_G) (a1 : Nat) (a2 : Int32) (a3 : Int32) (a4 : Int32) (a5 : Int32) (a6 : Nat) (hp : qc_H) (c : Nat) (K : Int32 → qc_H → Prop) (KX : String → qc_H → Prop) : Prop := eC hp a1 0 (eK c (fun c2 k1 => T_X1_where g a1 a2 a3 a4 a5 hp k1 (fun r3 h4 => eLW g.2.2.2.1 h4 a6 0 (Int32.toInt64 r3) (fun h9 => K 0 h9)) (fun Ez h5 => (Ez = "java/lang/IllegalArgumentException" ∧ ∀ q6 : Nat, K 2 h5) ∨ (Ez = "java/lang/IndexOutOfBoundsException" ∧ ∀ q7 : Nat, K 1 h5) ∨ (Ez = "java/lang/IllegalStateException" ∧ ∀ q8 : Nat, K 3 h5))))
set_option maxHeartbeats 8000000 in
theorem C_X0_where {g : qh_G} {x : qc_X} {d : Nat} {sd : String → Nat → Nat} (hO : qc_O g x) (hP : qc_P g qp_ts sd) (hX : qw_X g) (a1 : Nat) (a2 : Int32) (a3 : Int32) (a4 : Int32) (a5 : Int32) (a6 : Nat) (hp : qc_H) (c : Nat) (K : Int32 → qc_H → Prop) (KX : String → qc_H → Prop) (hz : T_X0_where g a1 a2 a3 a4 a5 a6 hp c K KX) : qc_S g x (d + 9) c I_X0_where [.ref a1, .int a2, .int a3, .int a4, .int a5, .ref a6] hp (oX (oI K) KX) := by
  refine qc_S.ofH (by decide) rfl (ls := [some (.ref a1), some (.int a2), some (.int a3), some (.int a4), some (.int a5), some (.ref a6), none]) rfl (Nat.le_of_ble_eq_true rfl) (ct_c rfl (ct_c rfl (ct_c rfl (ct_c rfl (ct_c rfl (ct_c rfl ct_n)))))) ?_
  unfold T_X0_where at hz
  have h := hz
  clear hz
  refine qc_aload E_X0_where (by rfl) dX0_where_0 ?_
  refine qc_iconst E_X0_where 0 (by decide) dX0_where_2 ?_
  refine qc_aload_n E_X0_where (by rfl) dX0_where_3 ?_
  refine qc_iload_n E_X0_where (by rfl) dX0_where_4 ?_
  refine qc_iload_n E_X0_where (by rfl) dX0_where_5 ?_
  refine qc_iload_n E_X0_where (by rfl) dX0_where_6 ?_
  refine qc_iload E_X0_where (by rfl) dX0_where_7 ?_
  obtain ⟨⟨fz, hb⟩, c2, k1, rfl, h⟩ := h
  refine qc_callV (c := c2) (k := k1) (As := [.int a2, .int a3, .int a4, .int a5]) (rest := [.int 0, .ref a6]) hO E_X0_where rfl M_X1_where rfl q1187 q1188 q1189 (ci := 0) rfl rfl hb rfl rfl (Nat.le_of_ble_eq_true rfl) dX0_where_9 (qc_S.mono ?_ (C_X1_where (d := d) hO hP a1 a2 a3 a4 a5 hp k1 _ _ h))
  clear h
  clear hb
  rintro _ tz (hz | hz)
  · revert tz; rintro h4 ⟨r3, rfl, h⟩
    refine K1_i ?_
    refine qc_i2l E_X0_where dX0_where_12 ?_
    refine re_last E_X0_where dX0_where_13 h ?_
    clear h
    intro h9 h
    refine qc_goto E_X0_where 29 dX0_where_14 (by decide) ?_
    refine qc_iconst E_X0_where 0 (by decide) dX0_where_29 ?_
    exact qc_iret E_X0_where rfl dX0_where_30 (Or.inl (⟨_, rfl, h⟩))
  · revert tz; rintro h5 ⟨Ez, rfl, h⟩
    refine K1_x ?_
    rcases h with ⟨rfl, h⟩ | ⟨rfl, h⟩ | ⟨rfl, h⟩
    · refine qc_catch (own := RX0) rfl [⟨0, 14, 17, 13⟩] ⟨0, 14, 21, 15⟩ [⟨0, 14, 25, 17⟩] rfl (by intro z hz; have hz : z ∈ ([⟨0, 14, 17, 13⟩] : List ExceptionTableEntry) := hz; simp only [List.mem_cons, List.not_mem_nil, or_false] at hz; subst hz; exact Or.inr ⟨by decide, _, q405, hP.2.2.1 ("java/lang/IllegalArgumentException", "java/lang/IndexOutOfBoundsException") (by decide)⟩) (by decide) (by decide) q484 (hP.2.1 _ (qp_n q545 rfl)) ?_
      intro q6
      replace h := h q6
      refine qc_astore E_X0_where (by decide) dX0_where_21 ?_
      refine qc_iconst E_X0_where 2 (by decide) dX0_where_23 ?_
      exact qc_iret E_X0_where rfl dX0_where_24 (Or.inl (⟨_, rfl, h⟩))
    · refine qc_catch (own := RX0) rfl [] ⟨0, 14, 17, 13⟩ [⟨0, 14, 21, 15⟩, ⟨0, 14, 25, 17⟩] rfl (by intro z hz; cases hz) (by decide) (by decide) q405 (hP.2.1 _ (qp_n q499 rfl)) ?_
      intro q7
      replace h := h q7
      refine qc_astore E_X0_where (by decide) dX0_where_17 ?_
      refine qc_iconst E_X0_where 1 (by decide) dX0_where_19 ?_
      exact qc_iret E_X0_where rfl dX0_where_20 (Or.inl (⟨_, rfl, h⟩))
    · refine qc_catch (own := RX0) rfl [⟨0, 14, 17, 13⟩, ⟨0, 14, 21, 15⟩] ⟨0, 14, 25, 17⟩ [] rfl (by intro z hz; have hz : z ∈ ([⟨0, 14, 17, 13⟩, ⟨0, 14, 21, 15⟩] : List ExceptionTableEntry) := hz; simp only [List.mem_cons, List.not_mem_nil, or_false] at hz; rcases hz with rfl | rfl <;> first | exact Or.inr ⟨by decide, _, q405, hP.2.2.1 ("java/lang/IllegalStateException", "java/lang/IndexOutOfBoundsException") (by decide)⟩ | exact Or.inr ⟨by decide, _, q484, hP.2.2.1 ("java/lang/IllegalStateException", "java/lang/IllegalArgumentException") (by decide)⟩) (by decide) (by decide) q485 (hP.2.1 _ (qp_n q599 rfl)) ?_
      intro q8
      replace h := h q8
      refine qc_astore E_X0_where (by decide) dX0_where_25 ?_
      refine qc_iconst E_X0_where 3 (by decide) dX0_where_27 ?_
      exact qc_iret E_X0_where rfl dX0_where_28 (Or.inl (⟨_, rfl, h⟩))
def I_X0_out : qh_I := (yX0_out, cX0_out, 5, (Option.some Jvm.ClassFile.FieldType.int), [(0, 10, 13, 13), (0, 10, 17, 17)])
theorem E_X0_out : I_X0_out.2.1 = cX0_out := rfl
theorem M_X0_out : qh_M I_X0_out 4 := ⟨by decide, by decide, by decide +kernel, q84, q1216, by decide⟩
def T_X0_out (g : qh_G) (a1 : Nat) (a2 : Int32) (a3 : Int32) (a4 : Nat) (hp : qc_H) (c : Nat) (K : Int32 → qc_H → Prop) (KX : String → qc_H → Prop) : Prop := eC hp a1 0 (eK c (fun c2 k1 => T_X1_out g a1 a2 a3 hp k1 (fun r3 h4 => eLW g.2.2.2.1 h4 a4 0 (Int32.toInt64 r3) (fun h8 => K 0 h8)) (fun Ez h5 => (Ez = "java/lang/IndexOutOfBoundsException" ∧ ∀ q6 : Nat, K 1 h5) ∨ (Ez = "java/lang/IllegalStateException" ∧ ∀ q7 : Nat, K 2 h5))))
set_option maxHeartbeats 8000000 in
theorem C_X0_out {g : qh_G} {x : qc_X} {d : Nat} {sd : String → Nat → Nat} (hO : qc_O g x) (hP : qc_P g qp_ts sd) (hX : qw_X g) (a1 : Nat) (a2 : Int32) (a3 : Int32) (a4 : Nat) (hp : qc_H) (c : Nat) (K : Int32 → qc_H → Prop) (KX : String → qc_H → Prop) (hz : T_X0_out g a1 a2 a3 a4 hp c K KX) : qc_S g x (d + 9) c I_X0_out [.ref a1, .int a2, .int a3, .ref a4] hp (oX (oI K) KX) := by
  refine qc_S.ofH (by decide) rfl (ls := [some (.ref a1), some (.int a2), some (.int a3), some (.ref a4), none]) rfl (Nat.le_of_ble_eq_true rfl) (ct_c rfl (ct_c rfl (ct_c rfl (ct_c rfl ct_n)))) ?_
  unfold T_X0_out at hz
  have h := hz
  clear hz
  refine qc_aload_n E_X0_out (by rfl) dX0_out_0 ?_
  refine qc_iconst E_X0_out 0 (by decide) dX0_out_1 ?_
  refine qc_aload_n E_X0_out (by rfl) dX0_out_2 ?_
  refine qc_iload_n E_X0_out (by rfl) dX0_out_3 ?_
  refine qc_iload_n E_X0_out (by rfl) dX0_out_4 ?_
  obtain ⟨⟨fz, hb⟩, c2, k1, rfl, h⟩ := h
  refine qc_callV (c := c2) (k := k1) (As := [.int a2, .int a3]) (rest := [.int 0, .ref a4]) hO E_X0_out rfl M_X1_out rfl q1217 q1218 q1219 (ci := 0) rfl rfl hb rfl rfl (Nat.le_of_ble_eq_true rfl) dX0_out_5 (qc_S.mono ?_ (C_X1_out (d := d) hO hP a1 a2 a3 hp k1 _ _ h))
  clear h
  clear hb
  rintro _ tz (hz | hz)
  · revert tz; rintro h4 ⟨r3, rfl, h⟩
    refine K1_i ?_
    refine qc_i2l E_X0_out dX0_out_8 ?_
    refine re_last E_X0_out dX0_out_9 h ?_
    clear h
    intro h8 h
    refine qc_goto E_X0_out 21 dX0_out_10 (by decide) ?_
    refine qc_iconst E_X0_out 0 (by decide) dX0_out_21 ?_
    exact qc_iret E_X0_out rfl dX0_out_22 (Or.inl (⟨_, rfl, h⟩))
  · revert tz; rintro h5 ⟨Ez, rfl, h⟩
    refine K1_x ?_
    rcases h with ⟨rfl, h⟩ | ⟨rfl, h⟩
    · refine qc_catch (own := RX0) rfl [] ⟨0, 10, 13, 13⟩ [⟨0, 10, 17, 17⟩] rfl (by intro z hz; cases hz) (by decide) (by decide) q405 (hP.2.1 _ (qp_n q499 rfl)) ?_
      intro q6
      replace h := h q6
      refine qc_astore E_X0_out (by decide) dX0_out_13 ?_
      refine qc_iconst E_X0_out 1 (by decide) dX0_out_15 ?_
      exact qc_iret E_X0_out rfl dX0_out_16 (Or.inl (⟨_, rfl, h⟩))
    · refine qc_catch (own := RX0) rfl [⟨0, 10, 13, 13⟩] ⟨0, 10, 17, 17⟩ [] rfl (by intro z hz; have hz : z ∈ ([⟨0, 10, 13, 13⟩] : List ExceptionTableEntry) := hz; simp only [List.mem_cons, List.not_mem_nil, or_false] at hz; subst hz; exact Or.inr ⟨by decide, _, q405, hP.2.2.1 ("java/lang/IllegalStateException", "java/lang/IndexOutOfBoundsException") (by decide)⟩) (by decide) (by decide) q485 (hP.2.1 _ (qp_n q599 rfl)) ?_
      intro q7
      replace h := h q7
      refine qc_astore E_X0_out (by decide) dX0_out_17 ?_
      refine qc_iconst E_X0_out 2 (by decide) dX0_out_19 ?_
      exact qc_iret E_X0_out rfl dX0_out_20 (Or.inl (⟨_, rfl, h⟩))
def I_X0_shape : qh_I := (yX0_shape, cX0_shape, 4, (Option.some Jvm.ClassFile.FieldType.int), [(0, 6, 9, 15)])
theorem E_X0_shape : I_X0_shape.2.1 = cX0_shape := rfl
theorem M_X0_shape : qh_M I_X0_shape 3 := ⟨by decide, by decide, by decide +kernel, q84, q1238, by decide⟩
def T_X0_shape (g : qh_G) (a1 : Nat) (a2 : Int32) (a3 : Int32) (hp : qc_H) (c : Nat) (K : Int32 → qc_H → Prop) (KX : String → qc_H → Prop) : Prop := eC hp a1 0 (eK c (fun c2 k1 => T_X1_shape g a1 a2 a3 hp k1 (fun h3 => K 0 h3) (fun Ez h4 => (Ez = "java/lang/IllegalArgumentException" ∧ ∀ q5 : Nat, K 1 h4))))
set_option maxHeartbeats 8000000 in
theorem C_X0_shape {g : qh_G} {x : qc_X} {d : Nat} {sd : String → Nat → Nat} (hO : qc_O g x) (hP : qc_P g qp_ts sd) (hX : qw_X g) (a1 : Nat) (a2 : Int32) (a3 : Int32) (hp : qc_H) (c : Nat) (K : Int32 → qc_H → Prop) (KX : String → qc_H → Prop) (hz : T_X0_shape g a1 a2 a3 hp c K KX) : qc_S g x (d + 3) c I_X0_shape [.ref a1, .int a2, .int a3] hp (oX (oI K) KX) := by
  refine qc_S.ofH (by decide) rfl (ls := [some (.ref a1), some (.int a2), some (.int a3), none]) rfl (Nat.le_of_ble_eq_true rfl) (ct_c rfl (ct_c rfl (ct_c rfl ct_n))) ?_
  unfold T_X0_shape at hz
  have h := hz
  clear hz
  refine qc_aload_n E_X0_shape (by rfl) dX0_shape_0 ?_
  refine qc_iload_n E_X0_shape (by rfl) dX0_shape_1 ?_
  refine qc_iload_n E_X0_shape (by rfl) dX0_shape_2 ?_
  obtain ⟨⟨fz, hb⟩, c2, k1, rfl, h⟩ := h
  refine qc_callV (c := c2) (k := k1) (As := [.int a2, .int a3]) (rest := []) hO E_X0_shape rfl M_X1_shape rfl q1239 q1240 q1241 (ci := 0) rfl rfl hb rfl rfl (Nat.le_of_ble_eq_true rfl) dX0_shape_3 (qc_S.mono ?_ (C_X1_shape (d := d) hO hP a1 a2 a3 hp k1 _ _ h))
  clear h
  clear hb
  rintro _ tz (hz | hz)
  · revert tz; rintro h3 ⟨rfl, h⟩
    refine K1_v ?_
    refine qc_goto E_X0_shape 12 dX0_shape_6 (by decide) ?_
    refine qc_iconst E_X0_shape 0 (by decide) dX0_shape_12 ?_
    exact qc_iret E_X0_shape rfl dX0_shape_13 (Or.inl (⟨_, rfl, h⟩))
  · revert tz; rintro h4 ⟨Ez, rfl, h⟩
    refine K1_x ?_
    obtain ⟨rfl, h⟩ := h
    · refine qc_catch (own := RX0) rfl [] ⟨0, 6, 9, 15⟩ [] rfl (by intro z hz; cases hz) (by decide) (by decide) q484 (hP.2.1 _ (qp_n q545 rfl)) ?_
      intro q5
      replace h := h q5
      refine qc_astore_n E_X0_shape (by decide) dX0_shape_9 ?_
      refine qc_iconst E_X0_shape 1 (by decide) dX0_shape_10 ?_
      exact qc_iret E_X0_shape rfl dX0_shape_11 (Or.inl (⟨_, rfl, h⟩))
def I_X0_ask : qh_I := (yX0_ask, cX0_ask, 5, (Option.some Jvm.ClassFile.FieldType.int), [(0, 10, 13, 15), (0, 10, 17, 17)])
theorem E_X0_ask : I_X0_ask.2.1 = cX0_ask := rfl
theorem M_X0_ask : qh_M I_X0_ask 4 := ⟨by decide, by decide, by decide +kernel, q84, q1245, by decide⟩
def T_X0_ask (g : qh_G) (a1 : Nat) (a2 : Int32) (a3 : Int32) (a4 : Nat) (hp : qc_H) (c : Nat) (K : Int32 → qc_H → Prop) (KX : String → qc_H → Prop) : Prop := eC hp a1 0 (eK c (fun c2 k1 => T_X1_ask g a1 a2 a3 hp k1 (fun r3 h4 => eLW g.2.2.2.1 h4 a4 0 (Int32.toInt64 r3) (fun h8 => K 0 h8)) (fun Ez h5 => (Ez = "java/lang/IllegalArgumentException" ∧ ∀ q6 : Nat, K 1 h5) ∨ (Ez = "java/lang/IllegalStateException" ∧ ∀ q7 : Nat, K 2 h5))))
set_option maxHeartbeats 8000000 in
theorem C_X0_ask {g : qh_G} {x : qc_X} {d : Nat} {sd : String → Nat → Nat} (hO : qc_O g x) (hP : qc_P g qp_ts sd) (hX : qw_X g) (a1 : Nat) (a2 : Int32) (a3 : Int32) (a4 : Nat) (hp : qc_H) (c : Nat) (K : Int32 → qc_H → Prop) (KX : String → qc_H → Prop) (hz : T_X0_ask g a1 a2 a3 a4 hp c K KX) : qc_S g x (d + 15) c I_X0_ask [.ref a1, .int a2, .int a3, .ref a4] hp (oX (oI K) KX) := by
  refine qc_S.ofH (by decide) rfl (ls := [some (.ref a1), some (.int a2), some (.int a3), some (.ref a4), none]) rfl (Nat.le_of_ble_eq_true rfl) (ct_c rfl (ct_c rfl (ct_c rfl (ct_c rfl ct_n)))) ?_
  unfold T_X0_ask at hz
  have h := hz
  clear hz
  refine qc_aload_n E_X0_ask (by rfl) dX0_ask_0 ?_
  refine qc_iconst E_X0_ask 0 (by decide) dX0_ask_1 ?_
  refine qc_aload_n E_X0_ask (by rfl) dX0_ask_2 ?_
  refine qc_iload_n E_X0_ask (by rfl) dX0_ask_3 ?_
  refine qc_iload_n E_X0_ask (by rfl) dX0_ask_4 ?_
  obtain ⟨⟨fz, hb⟩, c2, k1, rfl, h⟩ := h
  refine qc_callV (c := c2) (k := k1) (As := [.int a2, .int a3]) (rest := [.int 0, .ref a4]) hO E_X0_ask rfl M_X1_ask rfl q1246 q1247 q1248 (ci := 0) rfl rfl hb rfl rfl (Nat.le_of_ble_eq_true rfl) dX0_ask_5 (qc_S.mono ?_ (C_X1_ask (d := d) hO hP a1 a2 a3 hp k1 _ _ h))
  clear h
  clear hb
  rintro _ tz (hz | hz)
  · revert tz; rintro h4 ⟨r3, rfl, h⟩
    refine K1_i ?_
    refine qc_i2l E_X0_ask dX0_ask_8 ?_
    refine re_last E_X0_ask dX0_ask_9 h ?_
    clear h
    intro h8 h
    refine qc_goto E_X0_ask 21 dX0_ask_10 (by decide) ?_
    refine qc_iconst E_X0_ask 0 (by decide) dX0_ask_21 ?_
    exact qc_iret E_X0_ask rfl dX0_ask_22 (Or.inl (⟨_, rfl, h⟩))
  · revert tz; rintro h5 ⟨Ez, rfl, h⟩
    refine K1_x ?_
    rcases h with ⟨rfl, h⟩ | ⟨rfl, h⟩
    · refine qc_catch (own := RX0) rfl [] ⟨0, 10, 13, 15⟩ [⟨0, 10, 17, 17⟩] rfl (by intro z hz; cases hz) (by decide) (by decide) q484 (hP.2.1 _ (qp_n q545 rfl)) ?_
      intro q6
      replace h := h q6
      refine qc_astore E_X0_ask (by decide) dX0_ask_13 ?_
      refine qc_iconst E_X0_ask 1 (by decide) dX0_ask_15 ?_
      exact qc_iret E_X0_ask rfl dX0_ask_16 (Or.inl (⟨_, rfl, h⟩))
    · refine qc_catch (own := RX0) rfl [⟨0, 10, 13, 15⟩] ⟨0, 10, 17, 17⟩ [] rfl (by intro z hz; have hz : z ∈ ([⟨0, 10, 13, 15⟩] : List ExceptionTableEntry) := hz; simp only [List.mem_cons, List.not_mem_nil, or_false] at hz; subst hz; exact Or.inr ⟨by decide, _, q484, hP.2.2.1 ("java/lang/IllegalStateException", "java/lang/IllegalArgumentException") (by decide)⟩) (by decide) (by decide) q485 (hP.2.1 _ (qp_n q599 rfl)) ?_
      intro q7
      replace h := h q7
      refine qc_astore E_X0_ask (by decide) dX0_ask_17 ?_
      refine qc_iconst E_X0_ask 2 (by decide) dX0_ask_19 ?_
      exact qc_iret E_X0_ask rfl dX0_ask_20 (Or.inl (⟨_, rfl, h⟩))
def I_X0_answer : qh_I := (yX0_answer, cX0_answer, 5, (Option.some Jvm.ClassFile.FieldType.int), [(0, 10, 13, 13)])
theorem E_X0_answer : I_X0_answer.2.1 = cX0_answer := rfl
theorem M_X0_answer : qh_M I_X0_answer 4 := ⟨by decide, by decide, by decide +kernel, q84, q1555, by decide⟩
def T_X0_answer (g : qh_G) (a1 : Nat) (a2 : Int32) (a3 : Int32) (a4 : Nat) (hp : qc_H) (c : Nat) (K : Int32 → qc_H → Prop) (KX : String → qc_H → Prop) : Prop := eC hp a1 0 (eK c (fun c2 k1 => T_X1_answer g a1 a2 a3 hp k1 (fun r3 => eLW g.2.2.2.1 hp a4 0 (Int32.toInt64 r3) (fun h5 => K 0 h5)) (fun Ez => (Ez = "java/lang/IndexOutOfBoundsException" ∧ ∀ q4 : Nat, K 1 hp))))
set_option maxHeartbeats 8000000 in
theorem C_X0_answer {g : qh_G} {x : qc_X} {d : Nat} {sd : String → Nat → Nat} (hO : qc_O g x) (hP : qc_P g qp_ts sd) (hX : qw_X g) (a1 : Nat) (a2 : Int32) (a3 : Int32) (a4 : Nat) (hp : qc_H) (c : Nat) (K : Int32 → qc_H → Prop) (KX : String → qc_H → Prop) (hz : T_X0_answer g a1 a2 a3 a4 hp c K KX) : qc_S g x (d + 8) c I_X0_answer [.ref a1, .int a2, .int a3, .ref a4] hp (oX (oI K) KX) := by
  refine qc_S.ofH (by decide) rfl (ls := [some (.ref a1), some (.int a2), some (.int a3), some (.ref a4), none]) rfl (Nat.le_of_ble_eq_true rfl) (ct_c rfl (ct_c rfl (ct_c rfl (ct_c rfl ct_n)))) ?_
  unfold T_X0_answer at hz
  have h := hz
  clear hz
  refine qc_aload_n E_X0_answer (by rfl) dX0_answer_0 ?_
  refine qc_iconst E_X0_answer 0 (by decide) dX0_answer_1 ?_
  refine qc_aload_n E_X0_answer (by rfl) dX0_answer_2 ?_
  refine qc_iload_n E_X0_answer (by rfl) dX0_answer_3 ?_
  refine qc_iload_n E_X0_answer (by rfl) dX0_answer_4 ?_
  obtain ⟨⟨fz, hb⟩, c2, k1, rfl, h⟩ := h
  refine qc_callV (c := c2) (k := k1) (As := [.int a2, .int a3]) (rest := [.int 0, .ref a4]) hO E_X0_answer rfl M_X1_answer rfl q1556 q1557 q1558 (ci := 0) rfl rfl hb rfl rfl (Nat.le_of_ble_eq_true rfl) dX0_answer_5 (qc_S.mono ?_ (C_X1_answer (d := d) hO hP a1 a2 a3 hp k1 _ _ h))
  clear h
  clear hb
  rintro _ tz (hz | hz)
  · obtain ⟨r3, rfl, rfl, h⟩ := hz
    refine K1_i ?_
    refine qc_i2l E_X0_answer dX0_answer_8 ?_
    refine re_last E_X0_answer dX0_answer_9 h ?_
    clear h
    intro h5 h
    refine qc_goto E_X0_answer 17 dX0_answer_10 (by decide) ?_
    refine qc_iconst E_X0_answer 0 (by decide) dX0_answer_17 ?_
    exact qc_iret E_X0_answer rfl dX0_answer_18 (Or.inl (⟨_, rfl, h⟩))
  · revert tz; rintro _ ⟨Ez, rfl, rfl, h⟩
    refine K1_x ?_
    obtain ⟨rfl, h⟩ := h
    · refine qc_catch (own := RX0) rfl [] ⟨0, 10, 13, 13⟩ [] rfl (by intro z hz; cases hz) (by decide) (by decide) q405 (hP.2.1 _ (qp_n q499 rfl)) ?_
      intro q4
      replace h := h q4
      refine qc_astore E_X0_answer (by decide) dX0_answer_13 ?_
      refine qc_iconst E_X0_answer 1 (by decide) dX0_answer_15 ?_
      exact qc_iret E_X0_answer rfl dX0_answer_16 (Or.inl (⟨_, rfl, h⟩))
def I_X0_taken : qh_I := (yX0_taken, cX0_taken, 4, (Option.some Jvm.ClassFile.FieldType.int), [(0, 9, 12, 13)])
theorem E_X0_taken : I_X0_taken.2.1 = cX0_taken := rfl
theorem M_X0_taken : qh_M I_X0_taken 3 := ⟨by decide, by decide, by decide +kernel, q84, q1566, by decide⟩
def T_X0_taken (g : qh_G) (a1 : Nat) (a2 : Int32) (a3 : Nat) (hp : qc_H) (c : Nat) (K : Int32 → qc_H → Prop) (KX : String → qc_H → Prop) : Prop := eC hp a1 0 (eK c (fun c2 k1 => T_X1_taken g a1 a2 hp k1 (fun r3 => eLW g.2.2.2.1 hp a3 0 (Int32.toInt64 r3) (fun h5 => K 0 h5)) (fun Ez => (Ez = "java/lang/IndexOutOfBoundsException" ∧ ∀ q4 : Nat, K 1 hp))))
set_option maxHeartbeats 8000000 in
theorem C_X0_taken {g : qh_G} {x : qc_X} {d : Nat} {sd : String → Nat → Nat} (hO : qc_O g x) (hP : qc_P g qp_ts sd) (hX : qw_X g) (a1 : Nat) (a2 : Int32) (a3 : Nat) (hp : qc_H) (c : Nat) (K : Int32 → qc_H → Prop) (KX : String → qc_H → Prop) (hz : T_X0_taken g a1 a2 a3 hp c K KX) : qc_S g x (d + 7) c I_X0_taken [.ref a1, .int a2, .ref a3] hp (oX (oI K) KX) := by
  refine qc_S.ofH (by decide) rfl (ls := [some (.ref a1), some (.int a2), some (.ref a3), none]) rfl (Nat.le_of_ble_eq_true rfl) (ct_c rfl (ct_c rfl (ct_c rfl ct_n))) ?_
  unfold T_X0_taken at hz
  have h := hz
  clear hz
  refine qc_aload_n E_X0_taken (by rfl) dX0_taken_0 ?_
  refine qc_iconst E_X0_taken 0 (by decide) dX0_taken_1 ?_
  refine qc_aload_n E_X0_taken (by rfl) dX0_taken_2 ?_
  refine qc_iload_n E_X0_taken (by rfl) dX0_taken_3 ?_
  obtain ⟨⟨fz, hb⟩, c2, k1, rfl, h⟩ := h
  refine qc_callV (c := c2) (k := k1) (As := [.int a2]) (rest := [.int 0, .ref a3]) hO E_X0_taken rfl M_X1_taken rfl q1567 q1568 q1569 (ci := 0) rfl rfl hb rfl rfl (Nat.le_of_ble_eq_true rfl) dX0_taken_4 (qc_S.mono ?_ (C_X1_taken (d := d) hO hP a1 a2 hp k1 _ _ h))
  clear h
  clear hb
  rintro _ tz (hz | hz)
  · obtain ⟨r3, rfl, rfl, h⟩ := hz
    refine K1_i ?_
    refine qc_i2l E_X0_taken dX0_taken_7 ?_
    refine re_last E_X0_taken dX0_taken_8 h ?_
    clear h
    intro h5 h
    refine qc_goto E_X0_taken 15 dX0_taken_9 (by decide) ?_
    refine qc_iconst E_X0_taken 0 (by decide) dX0_taken_15 ?_
    exact qc_iret E_X0_taken rfl dX0_taken_16 (Or.inl (⟨_, rfl, h⟩))
  · revert tz; rintro _ ⟨Ez, rfl, rfl, h⟩
    refine K1_x ?_
    obtain ⟨rfl, h⟩ := h
    · refine qc_catch (own := RX0) rfl [] ⟨0, 9, 12, 13⟩ [] rfl (by intro z hz; cases hz) (by decide) (by decide) q405 (hP.2.1 _ (qp_n q499 rfl)) ?_
      intro q4
      replace h := h q4
      refine qc_astore_n E_X0_taken (by decide) dX0_taken_12 ?_
      refine qc_iconst E_X0_taken 1 (by decide) dX0_taken_13 ?_
      exact qc_iret E_X0_taken rfl dX0_taken_14 (Or.inl (⟨_, rfl, h⟩))
def I_X0_size : qh_I := (yX0_size, cX0_size, 4, (Option.some Jvm.ClassFile.FieldType.int), [(0, 9, 12, 13)])
theorem E_X0_size : I_X0_size.2.1 = cX0_size := rfl
theorem M_X0_size : qh_M I_X0_size 3 := ⟨by decide, by decide, by decide +kernel, q84, q1573, by decide⟩
def T_X0_size (g : qh_G) (a1 : Nat) (a2 : Int32) (a3 : Nat) (hp : qc_H) (c : Nat) (K : Int32 → qc_H → Prop) (KX : String → qc_H → Prop) : Prop := eC hp a1 0 (eK c (fun c2 k1 => T_X1_size g a1 a2 hp k1 (fun r3 => eLW g.2.2.2.1 hp a3 0 (Int32.toInt64 r3) (fun h5 => K 0 h5)) (fun Ez => (Ez = "java/lang/IndexOutOfBoundsException" ∧ ∀ q4 : Nat, K 1 hp))))
set_option maxHeartbeats 8000000 in
theorem C_X0_size {g : qh_G} {x : qc_X} {d : Nat} {sd : String → Nat → Nat} (hO : qc_O g x) (hP : qc_P g qp_ts sd) (hX : qw_X g) (a1 : Nat) (a2 : Int32) (a3 : Nat) (hp : qc_H) (c : Nat) (K : Int32 → qc_H → Prop) (KX : String → qc_H → Prop) (hz : T_X0_size g a1 a2 a3 hp c K KX) : qc_S g x (d + 3) c I_X0_size [.ref a1, .int a2, .ref a3] hp (oX (oI K) KX) := by
  refine qc_S.ofH (by decide) rfl (ls := [some (.ref a1), some (.int a2), some (.ref a3), none]) rfl (Nat.le_of_ble_eq_true rfl) (ct_c rfl (ct_c rfl (ct_c rfl ct_n))) ?_
  unfold T_X0_size at hz
  have h := hz
  clear hz
  refine qc_aload_n E_X0_size (by rfl) dX0_size_0 ?_
  refine qc_iconst E_X0_size 0 (by decide) dX0_size_1 ?_
  refine qc_aload_n E_X0_size (by rfl) dX0_size_2 ?_
  refine qc_iload_n E_X0_size (by rfl) dX0_size_3 ?_
  obtain ⟨⟨fz, hb⟩, c2, k1, rfl, h⟩ := h
  refine qc_callV (c := c2) (k := k1) (As := [.int a2]) (rest := [.int 0, .ref a3]) hO E_X0_size rfl M_X1_size rfl q1574 q1575 q1576 (ci := 0) rfl rfl hb rfl rfl (Nat.le_of_ble_eq_true rfl) dX0_size_4 (qc_S.mono ?_ (C_X1_size (d := d) hO hP a1 a2 hp k1 _ _ h))
  clear h
  clear hb
  rintro _ tz (hz | hz)
  · obtain ⟨r3, rfl, rfl, h⟩ := hz
    refine K1_i ?_
    refine qc_i2l E_X0_size dX0_size_7 ?_
    refine re_last E_X0_size dX0_size_8 h ?_
    clear h
    intro h5 h
    refine qc_goto E_X0_size 15 dX0_size_9 (by decide) ?_
    refine qc_iconst E_X0_size 0 (by decide) dX0_size_15 ?_
    exact qc_iret E_X0_size rfl dX0_size_16 (Or.inl (⟨_, rfl, h⟩))
  · revert tz; rintro _ ⟨Ez, rfl, rfl, h⟩
    refine K1_x ?_
    obtain ⟨rfl, h⟩ := h
    · refine qc_catch (own := RX0) rfl [] ⟨0, 9, 12, 13⟩ [] rfl (by intro z hz; cases hz) (by decide) (by decide) q405 (hP.2.1 _ (qp_n q499 rfl)) ?_
      intro q4
      replace h := h q4
      refine qc_astore_n E_X0_size (by decide) dX0_size_12 ?_
      refine qc_iconst E_X0_size 1 (by decide) dX0_size_13 ?_
      exact qc_iret E_X0_size rfl dX0_size_14 (Or.inl (⟨_, rfl, h⟩))
def I_X0_answersAnew : qh_I := (yX0_answersAnew, cX0_answersAnew, 3, (Option.some Jvm.ClassFile.FieldType.int), [(0, 8, 11, 17)])
theorem E_X0_answersAnew : I_X0_answersAnew.2.1 = cX0_answersAnew := rfl
theorem M_X0_answersAnew : qh_M I_X0_answersAnew 2 := ⟨by decide, by decide, by decide +kernel, q84, q1580, by decide⟩
def T_X0_answersAnew (g : qh_G) (a1 : Nat) (a2 : Nat) (hp : qc_H) (c : Nat) (K : Int32 → qc_H → Prop) (KX : String → qc_H → Prop) : Prop := eC hp a1 0 (eK c (fun c2 k1 => T_X1_answersAnew g a1 hp k1 (fun r3 h4 => eLW g.2.2.2.1 h4 a2 0 (Int32.toInt64 r3) (fun h7 => K 0 h7)) (fun Ez h5 => (Ez = "java/lang/IllegalStateException" ∧ ∀ q6 : Nat, K 1 h5))))
set_option maxHeartbeats 8000000 in
theorem C_X0_answersAnew {g : qh_G} {x : qc_X} {d : Nat} {sd : String → Nat → Nat} (hO : qc_O g x) (hP : qc_P g qp_ts sd) (hX : qw_X g) (a1 : Nat) (a2 : Nat) (hp : qc_H) (c : Nat) (K : Int32 → qc_H → Prop) (KX : String → qc_H → Prop) (hz : T_X0_answersAnew g a1 a2 hp c K KX) : qc_S g x (d + 16) c I_X0_answersAnew [.ref a1, .ref a2] hp (oX (oI K) KX) := by
  refine qc_S.ofH (by decide) rfl (ls := [some (.ref a1), some (.ref a2), none]) rfl (Nat.le_of_ble_eq_true rfl) (ct_c rfl (ct_c rfl ct_n)) ?_
  unfold T_X0_answersAnew at hz
  have h := hz
  clear hz
  refine qc_aload_n E_X0_answersAnew (by rfl) dX0_answersAnew_0 ?_
  refine qc_iconst E_X0_answersAnew 0 (by decide) dX0_answersAnew_1 ?_
  refine qc_aload_n E_X0_answersAnew (by rfl) dX0_answersAnew_2 ?_
  obtain ⟨⟨fz, hb⟩, c2, k1, rfl, h⟩ := h
  refine qc_callV (c := c2) (k := k1) (As := []) (rest := [.int 0, .ref a2]) hO E_X0_answersAnew rfl M_X1_answersAnew rfl q1581 q1582 q1583 (ci := 0) rfl rfl hb rfl rfl (Nat.le_of_ble_eq_true rfl) dX0_answersAnew_3 (qc_S.mono ?_ (C_X1_answersAnew (d := d) hO hP a1 hp k1 _ _ h))
  clear h
  clear hb
  rintro _ tz (hz | hz)
  · revert tz; rintro h4 ⟨r3, rfl, h⟩
    refine K1_i ?_
    refine qc_i2l E_X0_answersAnew dX0_answersAnew_6 ?_
    refine re_last E_X0_answersAnew dX0_answersAnew_7 h ?_
    clear h
    intro h7 h
    refine qc_goto E_X0_answersAnew 14 dX0_answersAnew_8 (by decide) ?_
    refine qc_iconst E_X0_answersAnew 0 (by decide) dX0_answersAnew_14 ?_
    exact qc_iret E_X0_answersAnew rfl dX0_answersAnew_15 (Or.inl (⟨_, rfl, h⟩))
  · revert tz; rintro h5 ⟨Ez, rfl, h⟩
    refine K1_x ?_
    obtain ⟨rfl, h⟩ := h
    · refine qc_catch (own := RX0) rfl [] ⟨0, 8, 11, 17⟩ [] rfl (by intro z hz; cases hz) (by decide) (by decide) q485 (hP.2.1 _ (qp_n q599 rfl)) ?_
      intro q6
      replace h := h q6
      refine qc_astore_n E_X0_answersAnew (by decide) dX0_answersAnew_11 ?_
      refine qc_iconst E_X0_answersAnew 1 (by decide) dX0_answersAnew_12 ?_
      exact qc_iret E_X0_answersAnew rfl dX0_answersAnew_13 (Or.inl (⟨_, rfl, h⟩))
def I_X0_answerAnew : qh_I := (yX0_answerAnew, cX0_answerAnew, 5, (Option.some Jvm.ClassFile.FieldType.int), [(0, 10, 13, 17), (0, 10, 17, 13)])
theorem E_X0_answerAnew : I_X0_answerAnew.2.1 = cX0_answerAnew := rfl
theorem M_X0_answerAnew : qh_M I_X0_answerAnew 4 := ⟨by decide, by decide, by decide +kernel, q84, q1591, by decide⟩
def T_X0_answerAnew (g : qh_G) (a1 : Nat) (a2 : Int32) (a3 : Int32) (a4 : Nat) (hp : qc_H) (c : Nat) (K : Int32 → qc_H → Prop) (KX : String → qc_H → Prop) : Prop := eC hp a1 0 (eK c (fun c2 k1 => T_X1_answerAnew g a1 a2 a3 hp k1 (fun r3 h4 => eLW g.2.2.2.1 h4 a4 0 (Int32.toInt64 r3) (fun h8 => K 0 h8)) (fun Ez h5 => (Ez = "java/lang/IndexOutOfBoundsException" ∧ ∀ q6 : Nat, K 2 h5) ∨ (Ez = "java/lang/IllegalStateException" ∧ ∀ q7 : Nat, K 1 h5))))
set_option maxHeartbeats 8000000 in
theorem C_X0_answerAnew {g : qh_G} {x : qc_X} {d : Nat} {sd : String → Nat → Nat} (hO : qc_O g x) (hP : qc_P g qp_ts sd) (hX : qw_X g) (a1 : Nat) (a2 : Int32) (a3 : Int32) (a4 : Nat) (hp : qc_H) (c : Nat) (K : Int32 → qc_H → Prop) (KX : String → qc_H → Prop) (hz : T_X0_answerAnew g a1 a2 a3 a4 hp c K KX) : qc_S g x (d + 16) c I_X0_answerAnew [.ref a1, .int a2, .int a3, .ref a4] hp (oX (oI K) KX) := by
  refine qc_S.ofH (by decide) rfl (ls := [some (.ref a1), some (.int a2), some (.int a3), some (.ref a4), none]) rfl (Nat.le_of_ble_eq_true rfl) (ct_c rfl (ct_c rfl (ct_c rfl (ct_c rfl ct_n)))) ?_
  unfold T_X0_answerAnew at hz
  have h := hz
  clear hz
  refine qc_aload_n E_X0_answerAnew (by rfl) dX0_answerAnew_0 ?_
  refine qc_iconst E_X0_answerAnew 0 (by decide) dX0_answerAnew_1 ?_
  refine qc_aload_n E_X0_answerAnew (by rfl) dX0_answerAnew_2 ?_
  refine qc_iload_n E_X0_answerAnew (by rfl) dX0_answerAnew_3 ?_
  refine qc_iload_n E_X0_answerAnew (by rfl) dX0_answerAnew_4 ?_
  obtain ⟨⟨fz, hb⟩, c2, k1, rfl, h⟩ := h
  refine qc_callV (c := c2) (k := k1) (As := [.int a2, .int a3]) (rest := [.int 0, .ref a4]) hO E_X0_answerAnew rfl M_X1_answerAnew rfl q1592 q1593 q1594 (ci := 0) rfl rfl hb rfl rfl (Nat.le_of_ble_eq_true rfl) dX0_answerAnew_5 (qc_S.mono ?_ (C_X1_answerAnew (d := d) hO hP a1 a2 a3 hp k1 _ _ h))
  clear h
  clear hb
  rintro _ tz (hz | hz)
  · revert tz; rintro h4 ⟨r3, rfl, h⟩
    refine K1_i ?_
    refine qc_i2l E_X0_answerAnew dX0_answerAnew_8 ?_
    refine re_last E_X0_answerAnew dX0_answerAnew_9 h ?_
    clear h
    intro h8 h
    refine qc_goto E_X0_answerAnew 21 dX0_answerAnew_10 (by decide) ?_
    refine qc_iconst E_X0_answerAnew 0 (by decide) dX0_answerAnew_21 ?_
    exact qc_iret E_X0_answerAnew rfl dX0_answerAnew_22 (Or.inl (⟨_, rfl, h⟩))
  · revert tz; rintro h5 ⟨Ez, rfl, h⟩
    refine K1_x ?_
    rcases h with ⟨rfl, h⟩ | ⟨rfl, h⟩
    · refine qc_catch (own := RX0) rfl [⟨0, 10, 13, 17⟩] ⟨0, 10, 17, 13⟩ [] rfl (by intro z hz; have hz : z ∈ ([⟨0, 10, 13, 17⟩] : List ExceptionTableEntry) := hz; simp only [List.mem_cons, List.not_mem_nil, or_false] at hz; subst hz; exact Or.inr ⟨by decide, _, q485, hX⟩) (by decide) (by decide) q405 (hP.2.1 _ (qp_n q499 rfl)) ?_
      intro q6
      replace h := h q6
      refine qc_astore E_X0_answerAnew (by decide) dX0_answerAnew_17 ?_
      refine qc_iconst E_X0_answerAnew 2 (by decide) dX0_answerAnew_19 ?_
      exact qc_iret E_X0_answerAnew rfl dX0_answerAnew_20 (Or.inl (⟨_, rfl, h⟩))
    · refine qc_catch (own := RX0) rfl [] ⟨0, 10, 13, 17⟩ [⟨0, 10, 17, 13⟩] rfl (by intro z hz; cases hz) (by decide) (by decide) q485 (hP.2.1 _ (qp_n q599 rfl)) ?_
      intro q7
      replace h := h q7
      refine qc_astore E_X0_answerAnew (by decide) dX0_answerAnew_13 ?_
      refine qc_iconst E_X0_answerAnew 1 (by decide) dX0_answerAnew_15 ?_
      exact qc_iret E_X0_answerAnew rfl dX0_answerAnew_16 (Or.inl (⟨_, rfl, h⟩))
def I_X0_step : qh_I := (yX0_step, cX0_step, 9, (Option.some Jvm.ClassFile.FieldType.int), [(0, 18, 21, 13), (0, 18, 25, 15), (0, 18, 29, 17)])
theorem E_X0_step : I_X0_step.2.1 = cX0_step := rfl
theorem M_X0_step : qh_M I_X0_step 8 := ⟨by decide, by decide, by decide +kernel, q84, q1598, by decide⟩
def T_X0_step (g : qh_G) (a1 : Nat) (a2 : Int32) (a3 : Int32) (a4 : Int32) (a5 : Int32) (a6 : Int32) (a7 : Int32) (a8 : Nat) (hp : qc_H) (c : Nat) (K : Int32 → qc_H → Prop) (KX : String → qc_H → Prop) : Prop := eC hp a1 0 (eK c (fun c2 k1 => T_X1_step_2 g a1 a2 a3 a4 a5 a6 a7 hp k1 (fun r3 h4 => eLW g.2.2.2.1 h4 a8 0 (Int32.toInt64 r3) (fun h9 => K 0 h9)) (fun Ez h5 => (Ez = "java/lang/IllegalArgumentException" ∧ ∀ q6 : Nat, K 2 h5) ∨ (Ez = "java/lang/IndexOutOfBoundsException" ∧ ∀ q7 : Nat, K 1 h5) ∨ (Ez = "java/lang/IllegalStateException" ∧ ∀ q8 : Nat, K 3 h5))))
set_option maxHeartbeats 8000000 in
theorem C_X0_step {g : qh_G} {x : qc_X} {d : Nat} {sd : String → Nat → Nat} (hO : qc_O g x) (hP : qc_P g qp_ts sd) (hX : qw_X g) (a1 : Nat) (a2 : Int32) (a3 : Int32) (a4 : Int32) (a5 : Int32) (a6 : Int32) (a7 : Int32) (a8 : Nat) (hp : qc_H) (c : Nat) (K : Int32 → qc_H → Prop) (KX : String → qc_H → Prop) (hz : T_X0_step g a1 a2 a3 a4 a5 a6 a7 a8 hp c K KX) : qc_S g x (d + 7) c I_X0_step [.ref a1, .int a2, .int a3, .int a4, .int a5, .int a6, .int a7, .ref a8] hp (oX (oI K) KX) := by
  refine qc_S.ofH (by decide) rfl (ls := [some (.ref a1), some (.int a2), some (.int a3), some (.int a4), some (.int a5), some (.int a6), some (.int a7), some (.ref a8), none]) rfl (Nat.le_of_ble_eq_true rfl) (ct_c rfl (ct_c rfl (ct_c rfl (ct_c rfl (ct_c rfl (ct_c rfl (ct_c rfl (ct_c rfl ct_n)))))))) ?_
  unfold T_X0_step at hz
  have h := hz
  clear hz
  refine qc_aload E_X0_step (by rfl) dX0_step_0 ?_
  refine qc_iconst E_X0_step 0 (by decide) dX0_step_2 ?_
  refine qc_aload_n E_X0_step (by rfl) dX0_step_3 ?_
  refine qc_iload_n E_X0_step (by rfl) dX0_step_4 ?_
  refine qc_iload_n E_X0_step (by rfl) dX0_step_5 ?_
  refine qc_iload_n E_X0_step (by rfl) dX0_step_6 ?_
  refine qc_iload E_X0_step (by rfl) dX0_step_7 ?_
  refine qc_iload E_X0_step (by rfl) dX0_step_9 ?_
  refine qc_iload E_X0_step (by rfl) dX0_step_11 ?_
  obtain ⟨⟨fz, hb⟩, c2, k1, rfl, h⟩ := h
  refine qc_callV (c := c2) (k := k1) (As := [.int a2, .int a3, .int a4, .int a5, .int a6, .int a7]) (rest := [.int 0, .ref a8]) hO E_X0_step rfl M_X1_step_2 rfl q1599 q1600 q1601 (ci := 0) rfl rfl hb rfl rfl (Nat.le_of_ble_eq_true rfl) dX0_step_13 (qc_S.mono ?_ (C_X1_step_2 (d := d) hO hP a1 a2 a3 a4 a5 a6 a7 hp k1 _ _ h))
  clear h
  clear hb
  rintro _ tz (hz | hz)
  · revert tz; rintro h4 ⟨r3, rfl, h⟩
    refine K1_i ?_
    refine qc_i2l E_X0_step dX0_step_16 ?_
    refine re_last E_X0_step dX0_step_17 h ?_
    clear h
    intro h9 h
    refine qc_goto E_X0_step 33 dX0_step_18 (by decide) ?_
    refine qc_iconst E_X0_step 0 (by decide) dX0_step_33 ?_
    exact qc_iret E_X0_step rfl dX0_step_34 (Or.inl (⟨_, rfl, h⟩))
  · revert tz; rintro h5 ⟨Ez, rfl, h⟩
    refine K1_x ?_
    rcases h with ⟨rfl, h⟩ | ⟨rfl, h⟩ | ⟨rfl, h⟩
    · refine qc_catch (own := RX0) rfl [⟨0, 18, 21, 13⟩] ⟨0, 18, 25, 15⟩ [⟨0, 18, 29, 17⟩] rfl (by intro z hz; have hz : z ∈ ([⟨0, 18, 21, 13⟩] : List ExceptionTableEntry) := hz; simp only [List.mem_cons, List.not_mem_nil, or_false] at hz; subst hz; exact Or.inr ⟨by decide, _, q405, hP.2.2.1 ("java/lang/IllegalArgumentException", "java/lang/IndexOutOfBoundsException") (by decide)⟩) (by decide) (by decide) q484 (hP.2.1 _ (qp_n q545 rfl)) ?_
      intro q6
      replace h := h q6
      refine qc_astore E_X0_step (by decide) dX0_step_25 ?_
      refine qc_iconst E_X0_step 2 (by decide) dX0_step_27 ?_
      exact qc_iret E_X0_step rfl dX0_step_28 (Or.inl (⟨_, rfl, h⟩))
    · refine qc_catch (own := RX0) rfl [] ⟨0, 18, 21, 13⟩ [⟨0, 18, 25, 15⟩, ⟨0, 18, 29, 17⟩] rfl (by intro z hz; cases hz) (by decide) (by decide) q405 (hP.2.1 _ (qp_n q499 rfl)) ?_
      intro q7
      replace h := h q7
      refine qc_astore E_X0_step (by decide) dX0_step_21 ?_
      refine qc_iconst E_X0_step 1 (by decide) dX0_step_23 ?_
      exact qc_iret E_X0_step rfl dX0_step_24 (Or.inl (⟨_, rfl, h⟩))
    · refine qc_catch (own := RX0) rfl [⟨0, 18, 21, 13⟩, ⟨0, 18, 25, 15⟩] ⟨0, 18, 29, 17⟩ [] rfl (by intro z hz; have hz : z ∈ ([⟨0, 18, 21, 13⟩, ⟨0, 18, 25, 15⟩] : List ExceptionTableEntry) := hz; simp only [List.mem_cons, List.not_mem_nil, or_false] at hz; rcases hz with rfl | rfl <;> first | exact Or.inr ⟨by decide, _, q405, hP.2.2.1 ("java/lang/IllegalStateException", "java/lang/IndexOutOfBoundsException") (by decide)⟩ | exact Or.inr ⟨by decide, _, q484, hP.2.2.1 ("java/lang/IllegalStateException", "java/lang/IllegalArgumentException") (by decide)⟩) (by decide) (by decide) q485 (hP.2.1 _ (qp_n q599 rfl)) ?_
      intro q8
      replace h := h q8
      refine qc_astore E_X0_step (by decide) dX0_step_29 ?_
      refine qc_iconst E_X0_step 3 (by decide) dX0_step_31 ?_
      exact qc_iret E_X0_step rfl dX0_step_32 (Or.inl (⟨_, rfl, h⟩))
def I_X0_run : qh_I := (yX0_run, cX0_run, 3, (Option.some Jvm.ClassFile.FieldType.int), [(0, 8, 11, 17)])
theorem E_X0_run : I_X0_run.2.1 = cX0_run := rfl
theorem M_X0_run : qh_M I_X0_run 2 := ⟨by decide, by decide, by decide +kernel, q84, q1605, by decide⟩
def T_X0_run (g : qh_G) (a1 : Nat) (a2 : Nat) (hp : qc_H) (c : Nat) (K : Int32 → qc_H → Prop) (KX : String → qc_H → Prop) : Prop := eC hp a1 0 (eK c (fun c2 k1 => T_X1_run g a1 hp k1 (fun r3 h4 => eLW g.2.2.2.1 h4 a2 0 (Int32.toInt64 r3) (fun h7 => K 0 h7)) (fun Ez h5 => (Ez = "java/lang/IllegalStateException" ∧ ∀ q6 : Nat, K 1 h5))))
set_option maxHeartbeats 8000000 in
theorem C_X0_run {g : qh_G} {x : qc_X} {d : Nat} {sd : String → Nat → Nat} (hO : qc_O g x) (hP : qc_P g qp_ts sd) (hX : qw_X g) (a1 : Nat) (a2 : Nat) (hp : qc_H) (c : Nat) (K : Int32 → qc_H → Prop) (KX : String → qc_H → Prop) (hz : T_X0_run g a1 a2 hp c K KX) : qc_S g x (d + 14) c I_X0_run [.ref a1, .ref a2] hp (oX (oI K) KX) := by
  refine qc_S.ofH (by decide) rfl (ls := [some (.ref a1), some (.ref a2), none]) rfl (Nat.le_of_ble_eq_true rfl) (ct_c rfl (ct_c rfl ct_n)) ?_
  unfold T_X0_run at hz
  have h := hz
  clear hz
  refine qc_aload_n E_X0_run (by rfl) dX0_run_0 ?_
  refine qc_iconst E_X0_run 0 (by decide) dX0_run_1 ?_
  refine qc_aload_n E_X0_run (by rfl) dX0_run_2 ?_
  obtain ⟨⟨fz, hb⟩, c2, k1, rfl, h⟩ := h
  refine qc_callV (c := c2) (k := k1) (As := []) (rest := [.int 0, .ref a2]) hO E_X0_run rfl M_X1_run rfl q1606 q1607 q1608 (ci := 0) rfl rfl hb rfl rfl (Nat.le_of_ble_eq_true rfl) dX0_run_3 (qc_S.mono ?_ (C_X1_run (d := d) hO hP a1 hp k1 _ _ h))
  clear h
  clear hb
  rintro _ tz (hz | hz)
  · revert tz; rintro h4 ⟨r3, rfl, h⟩
    refine K1_i ?_
    refine qc_i2l E_X0_run dX0_run_6 ?_
    refine re_last E_X0_run dX0_run_7 h ?_
    clear h
    intro h7 h
    refine qc_goto E_X0_run 14 dX0_run_8 (by decide) ?_
    refine qc_iconst E_X0_run 0 (by decide) dX0_run_14 ?_
    exact qc_iret E_X0_run rfl dX0_run_15 (Or.inl (⟨_, rfl, h⟩))
  · revert tz; rintro h5 ⟨Ez, rfl, h⟩
    refine K1_x ?_
    obtain ⟨rfl, h⟩ := h
    · refine qc_catch (own := RX0) rfl [] ⟨0, 8, 11, 17⟩ [] rfl (by intro z hz; cases hz) (by decide) (by decide) q485 (hP.2.1 _ (qp_n q599 rfl)) ?_
      intro q6
      replace h := h q6
      refine qc_astore_n E_X0_run (by decide) dX0_run_11 ?_
      refine qc_iconst E_X0_run 1 (by decide) dX0_run_12 ?_
      exact qc_iret E_X0_run rfl dX0_run_13 (Or.inl (⟨_, rfl, h⟩))
