/-! CORE 21 (printed by gen2.py): the component's methods as predicates over the heap of level 1, and their contracts -/
set_option maxRecDepth 100000
def qp_ts : List (String × Nat × String) := [("QueryHarbor", 93, "number"), ("QueryHarbor", 100, "unfit"), ("QueryHarbor", 109, "state"), ("QueryHarbor", 316, "deadline"), ("QueryHarbor", 332, "failed"), ("QueryHarbor", 339, "no answer")]
theorem thr_at {g : qh_G} {sd : String → Nat → Nat} (hP : qc_P g qp_ts sd) (ws : List Cond) (ps : List Nat) (hp : ws = ps.filterMap (fun i => lw_tbl[i]?)) (hg : ws.all (fun w => goodWord w || (w.onTables && qp_nw w)) = true) : ∀ w ∈ ws, w ∈ lw_all ∨ (w.onTables = true ∧ ∀ U, g.2.2.2.2 U → va_Nw w U) := by
  intro w hw
  have h1 := List.all_eq_true.mp hg w hw
  have h2 : w ∈ lw_tbl := by
    rw [hp] at hw
    obtain ⟨i, -, h⟩ := List.mem_filterMap.mp hw
    exact List.mem_of_getElem? h
  rw [Bool.or_eq_true] at h1
  rcases h1 with h1 | h1
  · exact Or.inl (lw_g h2 h1)
  · rw [Bool.and_eq_true] at h1
    exact Or.inr ⟨h1.1, hP.2.1 _ (qp_n h2 h1.2)⟩

theorem df_X1 : ∀ j, j < 16 → defaultValue (tyX1 j) = vp_V [.null, .null, .null, .null, .null, .null, .null, .null, .null, .null, .int 0, .int 0, .null, .int 0, .int 0, .int 0] j := by
  intro j hj
  have hj : j = 0 ∨ j = 1 ∨ j = 2 ∨ j = 3 ∨ j = 4 ∨ j = 5 ∨ j = 6 ∨ j = 7 ∨ j = 8 ∨ j = 9 ∨ j = 10 ∨ j = 11 ∨ j = 12 ∨ j = 13 ∨ j = 14 ∨ j = 15 := (by omega)
  rcases hj with rfl | rfl | rfl | rfl | rfl | rfl | rfl | rfl | rfl | rfl | rfl | rfl | rfl | rfl | rfl | rfl <;> rfl
theorem df_X2 : ∀ j, j < 10 → defaultValue (tyX2 j) = vp_V [.null, .int 0, .int 0, .int 0, .int 0, .int 0, .int 0, .int 0, .int 0, .int 0] j := by
  intro j hj
  have hj : j = 0 ∨ j = 1 ∨ j = 2 ∨ j = 3 ∨ j = 4 ∨ j = 5 ∨ j = 6 ∨ j = 7 ∨ j = 8 ∨ j = 9 := (by omega)
  rcases hj with rfl | rfl | rfl | rfl | rfl | rfl | rfl | rfl | rfl | rfl <;> rfl
theorem df_X6 : ∀ j, j < 7 → defaultValue (tyX6 j) = vp_V [.null, .null, .int 0, .int 0, .int 0, .int 0, .int 0] j := by
  intro j hj
  have hj : j = 0 ∨ j = 1 ∨ j = 2 ∨ j = 3 ∨ j = 4 ∨ j = 5 ∨ j = 6 := (by omega)
  rcases hj with rfl | rfl | rfl | rfl | rfl | rfl | rfl <;> rfl
theorem df_X7 : ∀ j, j < 6 → defaultValue (tyX7 j) = vp_V [.int 0, .null, .null, .null, .int 0, .int 0] j := by
  intro j hj
  have hj : j = 0 ∨ j = 1 ∨ j = 2 ∨ j = 3 ∨ j = 4 ∨ j = 5 := (by omega)
  rcases hj with rfl | rfl | rfl | rfl | rfl | rfl <;> rfl
theorem df_X9 : ∀ j, j < 2 → defaultValue (tyX9 j) = vp_V [.int 0, .null] j := by
  intro j hj
  have hj : j = 0 ∨ j = 1 := (by omega)
  rcases hj with rfl | rfl <;> rfl
theorem df_X10 : ∀ j, j < 3 → defaultValue (tyX10 j) = vp_V [.int 0, .int 0, .int 0] j := by
  intro j hj
  have hj : j = 0 ∨ j = 1 ∨ j = 2 := (by omega)
  rcases hj with rfl | rfl | rfl <;> rfl
theorem df_X11 : ∀ j, j < 4 → defaultValue (tyX11 j) = vp_V [.int 0, .int 0, .int 0, .int 0] j := by
  intro j hj
  have hj : j = 0 ∨ j = 1 ∨ j = 2 ∨ j = 3 := (by omega)
  rcases hj with rfl | rfl | rfl | rfl <;> rfl
theorem df_X12 : ∀ j, j < 4 → defaultValue (tyX12 j) = vp_V [.int 0, .int 0, .int 0, .int 0] j := by
  intro j hj
  have hj : j = 0 ∨ j = 1 ∨ j = 2 ∨ j = 3 := (by omega)
  rcases hj with rfl | rfl | rfl | rfl <;> rfl
theorem df_X13 : ∀ j, j < 2 → defaultValue (tyX13 j) = vp_V [.int 0, .int 0] j := by
  intro j hj
  have hj : j = 0 ∨ j = 1 := (by omega)
  rcases hj with rfl | rfl <;> rfl
theorem df_X14 : ∀ j, j < 11 → defaultValue (tyX14 j) = vp_V [.int 0, .null, .null, .null, .null, .int 0, .int 0, .int 0, .int 0, .int 0, .null] j := by
  intro j hj
  have hj : j = 0 ∨ j = 1 ∨ j = 2 ∨ j = 3 ∨ j = 4 ∨ j = 5 ∨ j = 6 ∨ j = 7 ∨ j = 8 ∨ j = 9 ∨ j = 10 := (by omega)
  rcases hj with rfl | rfl | rfl | rfl | rfl | rfl | rfl | rfl | rfl | rfl | rfl <;> rfl
theorem df_X17 : ∀ j, j < 5 → defaultValue (tyX17 j) = vp_V [.null, .null, .null, .int 0, .int 0] j := by
  intro j hj
  have hj : j = 0 ∨ j = 1 ∨ j = 2 ∨ j = 3 ∨ j = 4 := (by omega)
  rcases hj with rfl | rfl | rfl | rfl | rfl <;> rfl
theorem df_X18 : ∀ j, j < 4 → defaultValue (tyX18 j) = vp_V [.null, .null, .null, .null] j := by
  intro j hj
  have hj : j = 0 ∨ j = 1 ∨ j = 2 ∨ j = 3 := (by omega)
  rcases hj with rfl | rfl | rfl | rfl <;> rfl
def I_X1_losses : qh_I := (yX1_losses, cX1_losses, 1, (Option.some Jvm.ClassFile.FieldType.int), [])
theorem E_X1_losses : I_X1_losses.2.1 = cX1_losses := rfl
theorem M_X1_losses : qh_M I_X1_losses 0 := ⟨by decide, by decide, by decide +kernel, q85, q353, by decide⟩
def T_X1_losses (g : qh_G) (a0 : Nat) (hp : qc_H) (K : Int32 → Prop) : Prop := eI hp a0 0 13 (fun v1 => K v1)
set_option maxHeartbeats 8000000 in
theorem C_X1_losses {g : qh_G} {x : qc_X} {d : Nat} {sd : String → Nat → Nat} (hO : qc_O g x) (hP : qc_P g qp_ts sd) (a0 : Nat) (hp : qc_H) (K : Int32 → Prop) (hz : T_X1_losses g a0 hp K) : qc_S g x (d + 0) 0 I_X1_losses [.ref a0] hp (oI (fun v t => hp = t ∧ K v)) := by
  refine qc_S.of (by decide) rfl (ls := [some (.ref a0)]) rfl (Nat.le_of_ble_eq_true rfl) (ct_c rfl ct_n) ?_
  unfold T_X1_losses at hz
  have h := hz
  clear hz
  refine qc_aload_n E_X1_losses (by rfl) dX1_losses_0 ?_
  refine re_getI E_X1_losses rfl ck_X1 (by decide) 13 (by decide) q314 dX1_losses_1 h ?_
  clear h
  intro v1 h
  exact qc_iret E_X1_losses rfl dX1_losses_4 (⟨_, rfl, rfl, h⟩)
def I_X1_moment : qh_I := (yX1_moment, cX1_moment, 1, (Option.some Jvm.ClassFile.FieldType.int), [])
theorem E_X1_moment : I_X1_moment.2.1 = cX1_moment := rfl
theorem M_X1_moment : qh_M I_X1_moment 0 := ⟨by decide, by decide, by decide +kernel, q85, q357, by decide⟩
def T_X1_moment (g : qh_G) (a0 : Nat) (hp : qc_H) (K : Int32 → Prop) : Prop := eI hp a0 0 14 (fun v1 => K v1)
set_option maxHeartbeats 8000000 in
theorem C_X1_moment {g : qh_G} {x : qc_X} {d : Nat} {sd : String → Nat → Nat} (hO : qc_O g x) (hP : qc_P g qp_ts sd) (a0 : Nat) (hp : qc_H) (K : Int32 → Prop) (hz : T_X1_moment g a0 hp K) : qc_S g x (d + 0) 0 I_X1_moment [.ref a0] hp (oI (fun v t => hp = t ∧ K v)) := by
  refine qc_S.of (by decide) rfl (ls := [some (.ref a0)]) rfl (Nat.le_of_ble_eq_true rfl) (ct_c rfl ct_n) ?_
  unfold T_X1_moment at hz
  have h := hz
  clear hz
  refine qc_aload_n E_X1_moment (by rfl) dX1_moment_0 ?_
  refine re_getI E_X1_moment rfl ck_X1 (by decide) 14 (by decide) q315 dX1_moment_1 h ?_
  clear h
  intro v1 h
  exact qc_iret E_X1_moment rfl dX1_moment_4 (⟨_, rfl, rfl, h⟩)
def I_X1_now : qh_I := (yX1_now, cX1_now, 1, (Option.some Jvm.ClassFile.FieldType.int), [])
theorem E_X1_now : I_X1_now.2.1 = cX1_now := rfl
theorem M_X1_now : qh_M I_X1_now 0 := ⟨by decide, by decide, by decide +kernel, q85, q361, by decide⟩
def T_X1_now (g : qh_G) (a0 : Nat) (hp : qc_H) (K : Int32 → Prop) : Prop := eI hp a0 0 15 (fun v1 => K v1)
set_option maxHeartbeats 8000000 in
theorem C_X1_now {g : qh_G} {x : qc_X} {d : Nat} {sd : String → Nat → Nat} (hO : qc_O g x) (hP : qc_P g qp_ts sd) (a0 : Nat) (hp : qc_H) (K : Int32 → Prop) (hz : T_X1_now g a0 hp K) : qc_S g x (d + 0) 0 I_X1_now [.ref a0] hp (oI (fun v t => hp = t ∧ K v)) := by
  refine qc_S.of (by decide) rfl (ls := [some (.ref a0)]) rfl (Nat.le_of_ble_eq_true rfl) (ct_c rfl ct_n) ?_
  unfold T_X1_now at hz
  have h := hz
  clear hz
  refine qc_aload_n E_X1_now (by rfl) dX1_now_0 ?_
  refine re_getI E_X1_now rfl ck_X1 (by decide) 15 (by decide) q316 dX1_now_1 h ?_
  clear h
  intro v1 h
  exact qc_iret E_X1_now rfl dX1_now_4 (⟨_, rfl, rfl, h⟩)
def I_X1_clear : qh_I := (yX1_clear, cX1_clear, 2, (Option.some Jvm.ClassFile.FieldType.int), [])
theorem E_X1_clear : I_X1_clear.2.1 = cX1_clear := rfl
theorem M_X1_clear : qh_M I_X1_clear 0 := ⟨by decide, by decide, by decide +kernel, q85, q365, by decide⟩
def T_X1_clear (g : qh_G) (a0 : Nat) (hp : qc_H) (K : Int32 → qc_H → Prop) : Prop := eR hp a0 0 5 (fun v1 => eSz hp v1 (fun n2 => eR hp a0 0 5 (fun v3 => eCl hp v3 (fun h4 => eR h4 a0 0 6 (fun v5 => eCl h4 v5 (fun h6 => eR h6 a0 0 7 (fun v7 => eCl h6 v7 (fun h8 => eR h8 a0 0 8 (fun v9 => eCl h8 v9 (fun h10 => eP h10 a0 0 10 (.int 40) (fun h11 => eP h11 a0 0 11 (.int 0) (fun h12 => K n2 h12))))))))))))
set_option maxHeartbeats 8000000 in
theorem C_X1_clear {g : qh_G} {x : qc_X} {d : Nat} {sd : String → Nat → Nat} (hO : qc_O g x) (hP : qc_P g qp_ts sd) (a0 : Nat) (hp : qc_H) (K : Int32 → qc_H → Prop) (hz : T_X1_clear g a0 hp K) : qc_S g x (d + 6) 0 I_X1_clear [.ref a0] hp (oI K) := by
  refine qc_S.of (by decide) rfl (ls := [some (.ref a0), none]) rfl (Nat.le_of_ble_eq_true rfl) (ct_c rfl ct_n) ?_
  unfold T_X1_clear at hz
  have h := hz
  clear hz
  refine qc_aload_n E_X1_clear (by rfl) dX1_clear_0 ?_
  refine re_getR E_X1_clear rfl ck_X1 (by decide) 5 (by decide) q305 dX1_clear_1 h ?_
  clear h
  intro v1 h
  refine re_size (d := d) hO E_X1_clear rfl q366 (Nat.le_of_ble_eq_true rfl) dX1_clear_4 h ?_
  clear h
  intro n2 h
  refine qc_istore_n E_X1_clear (by decide) dX1_clear_7 ?_
  refine qc_aload_n E_X1_clear (by rfl) dX1_clear_8 ?_
  refine re_getR E_X1_clear rfl ck_X1 (by decide) 5 (by decide) q305 dX1_clear_9 h ?_
  clear h
  intro v3 h
  refine re_clear (d := d) hO E_X1_clear rfl q370 (Nat.le_of_ble_eq_true rfl) dX1_clear_12 h ?_
  clear h
  intro h4 h
  refine qc_aload_n E_X1_clear (by rfl) dX1_clear_15 ?_
  refine re_getR E_X1_clear rfl ck_X1 (by decide) 6 (by decide) q306 dX1_clear_16 h ?_
  clear h
  intro v5 h
  refine re_clear (d := d) hO E_X1_clear rfl q370 (Nat.le_of_ble_eq_true rfl) dX1_clear_19 h ?_
  clear h
  intro h6 h
  refine qc_aload_n E_X1_clear (by rfl) dX1_clear_22 ?_
  refine re_getR E_X1_clear rfl ck_X1 (by decide) 7 (by decide) q308 dX1_clear_23 h ?_
  clear h
  intro v7 h
  refine re_clear (d := d) hO E_X1_clear rfl q370 (Nat.le_of_ble_eq_true rfl) dX1_clear_26 h ?_
  clear h
  intro h8 h
  refine qc_aload_n E_X1_clear (by rfl) dX1_clear_29 ?_
  refine re_getR E_X1_clear rfl ck_X1 (by decide) 8 (by decide) q309 dX1_clear_30 h ?_
  clear h
  intro v9 h
  refine re_clear (d := d) hO E_X1_clear rfl q370 (Nat.le_of_ble_eq_true rfl) dX1_clear_33 h ?_
  clear h
  intro h10 h
  refine qc_aload_n E_X1_clear (by rfl) dX1_clear_36 ?_
  refine qc_bipush E_X1_clear 40 (by decide) dX1_clear_37 ?_
  refine re_put E_X1_clear rfl ck_X1 (by decide) 10 (by decide) q311 rfl rfl rfl dX1_clear_39 h ?_
  clear h
  intro h11 h
  refine qc_aload_n E_X1_clear (by rfl) dX1_clear_42 ?_
  refine qc_iconst E_X1_clear 0 (by decide) dX1_clear_43 ?_
  refine re_put E_X1_clear rfl ck_X1 (by decide) 11 (by decide) q312 rfl (qm_nb (Or.inl rfl)) (qm_fb (Or.inl rfl)) dX1_clear_44 h ?_
  clear h
  intro h12 h
  refine qc_iload_n E_X1_clear (by rfl) dX1_clear_47 ?_
  exact qc_iret E_X1_clear rfl dX1_clear_48 (⟨_, rfl, h⟩)
def I_X1_answers : qh_I := (yX1_answers, cX1_answers, 1, (Option.some Jvm.ClassFile.FieldType.int), [])
theorem E_X1_answers : I_X1_answers.2.1 = cX1_answers := rfl
theorem M_X1_answers : qh_M I_X1_answers 0 := ⟨by decide, by decide, by decide +kernel, q85, q377, by decide⟩
def T_X1_answers (g : qh_G) (a0 : Nat) (hp : qc_H) (K : Int32 → Prop) : Prop := eR hp a0 0 12 (fun v1 => eR hp v1 5 0 (fun v2 => eSz hp v2 (fun n3 => K n3)))
set_option maxHeartbeats 8000000 in
theorem C_X1_answers {g : qh_G} {x : qc_X} {d : Nat} {sd : String → Nat → Nat} (hO : qc_O g x) (hP : qc_P g qp_ts sd) (a0 : Nat) (hp : qc_H) (K : Int32 → Prop) (hz : T_X1_answers g a0 hp K) : qc_S g x (d + 6) 0 I_X1_answers [.ref a0] hp (oI (fun v t => hp = t ∧ K v)) := by
  refine qc_S.of (by decide) rfl (ls := [some (.ref a0)]) rfl (Nat.le_of_ble_eq_true rfl) (ct_c rfl ct_n) ?_
  unfold T_X1_answers at hz
  have h := hz
  clear hz
  refine qc_aload_n E_X1_answers (by rfl) dX1_answers_0 ?_
  refine re_getR E_X1_answers rfl ck_X1 (by decide) 12 (by decide) q313 dX1_answers_1 h ?_
  clear h
  intro v1 h
  refine re_getR E_X1_answers rfl ck_X6 (by decide) 0 (by decide) q240 dX1_answers_4 h ?_
  clear h
  intro v2 h
  refine re_size (d := d) hO E_X1_answers rfl q366 (Nat.le_of_ble_eq_true rfl) dX1_answers_7 h ?_
  clear h
  intro n3 h
  exact qc_iret E_X1_answers rfl dX1_answers_10 (⟨_, rfl, rfl, h⟩)
def I_X1_missing : qh_I := (yX1_missing, cX1_missing, 1, (Option.some Jvm.ClassFile.FieldType.int), [])
theorem E_X1_missing : I_X1_missing.2.1 = cX1_missing := rfl
theorem M_X1_missing : qh_M I_X1_missing 0 := ⟨by decide, by decide, by decide +kernel, q85, q381, by decide⟩
def T_X1_missing (g : qh_G) (a0 : Nat) (hp : qc_H) (K : Int32 → Prop) : Prop := eR hp a0 0 12 (fun v1 => eI hp v1 5 2 (fun v2 => K v2))
set_option maxHeartbeats 8000000 in
theorem C_X1_missing {g : qh_G} {x : qc_X} {d : Nat} {sd : String → Nat → Nat} (hO : qc_O g x) (hP : qc_P g qp_ts sd) (a0 : Nat) (hp : qc_H) (K : Int32 → Prop) (hz : T_X1_missing g a0 hp K) : qc_S g x (d + 0) 0 I_X1_missing [.ref a0] hp (oI (fun v t => hp = t ∧ K v)) := by
  refine qc_S.of (by decide) rfl (ls := [some (.ref a0)]) rfl (Nat.le_of_ble_eq_true rfl) (ct_c rfl ct_n) ?_
  unfold T_X1_missing at hz
  have h := hz
  clear hz
  refine qc_aload_n E_X1_missing (by rfl) dX1_missing_0 ?_
  refine re_getR E_X1_missing rfl ck_X1 (by decide) 12 (by decide) q313 dX1_missing_1 h ?_
  clear h
  intro v1 h
  refine re_getI E_X1_missing rfl ck_X6 (by decide) 2 (by decide) q243 dX1_missing_4 h ?_
  clear h
  intro v2 h
  exact qc_iret E_X1_missing rfl dX1_missing_7 (⟨_, rfl, rfl, h⟩)
def I_X1_claims : qh_I := (yX1_claims, cX1_claims, 1, (Option.some Jvm.ClassFile.FieldType.int), [])
theorem E_X1_claims : I_X1_claims.2.1 = cX1_claims := rfl
theorem M_X1_claims : qh_M I_X1_claims 0 := ⟨by decide, by decide, by decide +kernel, q85, q385, by decide⟩
def T_X1_claims (g : qh_G) (a0 : Nat) (hp : qc_H) (K : Int32 → Prop) : Prop := eR hp a0 0 12 (fun v1 => eI hp v1 5 3 (fun v2 => K v2))
set_option maxHeartbeats 8000000 in
theorem C_X1_claims {g : qh_G} {x : qc_X} {d : Nat} {sd : String → Nat → Nat} (hO : qc_O g x) (hP : qc_P g qp_ts sd) (a0 : Nat) (hp : qc_H) (K : Int32 → Prop) (hz : T_X1_claims g a0 hp K) : qc_S g x (d + 0) 0 I_X1_claims [.ref a0] hp (oI (fun v t => hp = t ∧ K v)) := by
  refine qc_S.of (by decide) rfl (ls := [some (.ref a0)]) rfl (Nat.le_of_ble_eq_true rfl) (ct_c rfl ct_n) ?_
  unfold T_X1_claims at hz
  have h := hz
  clear hz
  refine qc_aload_n E_X1_claims (by rfl) dX1_claims_0 ?_
  refine re_getR E_X1_claims rfl ck_X1 (by decide) 12 (by decide) q313 dX1_claims_1 h ?_
  clear h
  intro v1 h
  refine re_getI E_X1_claims rfl ck_X6 (by decide) 3 (by decide) q245 dX1_claims_4 h ?_
  clear h
  intro v2 h
  exact qc_iret E_X1_claims rfl dX1_claims_7 (⟨_, rfl, rfl, h⟩)
def I_X1_cost : qh_I := (yX1_cost, cX1_cost, 1, (Option.some Jvm.ClassFile.FieldType.int), [])
theorem E_X1_cost : I_X1_cost.2.1 = cX1_cost := rfl
theorem M_X1_cost : qh_M I_X1_cost 0 := ⟨by decide, by decide, by decide +kernel, q85, q389, by decide⟩
def T_X1_cost (g : qh_G) (a0 : Nat) (hp : qc_H) (K : Int32 → Prop) : Prop := eR hp a0 0 12 (fun v1 => eI hp v1 5 4 (fun v2 => K v2))
set_option maxHeartbeats 8000000 in
theorem C_X1_cost {g : qh_G} {x : qc_X} {d : Nat} {sd : String → Nat → Nat} (hO : qc_O g x) (hP : qc_P g qp_ts sd) (a0 : Nat) (hp : qc_H) (K : Int32 → Prop) (hz : T_X1_cost g a0 hp K) : qc_S g x (d + 0) 0 I_X1_cost [.ref a0] hp (oI (fun v t => hp = t ∧ K v)) := by
  refine qc_S.of (by decide) rfl (ls := [some (.ref a0)]) rfl (Nat.le_of_ble_eq_true rfl) (ct_c rfl ct_n) ?_
  unfold T_X1_cost at hz
  have h := hz
  clear hz
  refine qc_aload_n E_X1_cost (by rfl) dX1_cost_0 ?_
  refine re_getR E_X1_cost rfl ck_X1 (by decide) 12 (by decide) q313 dX1_cost_1 h ?_
  clear h
  intro v1 h
  refine re_getI E_X1_cost rfl ck_X6 (by decide) 4 (by decide) q246 dX1_cost_4 h ?_
  clear h
  intro v2 h
  exact qc_iret E_X1_cost rfl dX1_cost_7 (⟨_, rfl, rfl, h⟩)
def I_X1_attempts : qh_I := (yX1_attempts, cX1_attempts, 1, (Option.some Jvm.ClassFile.FieldType.int), [])
theorem E_X1_attempts : I_X1_attempts.2.1 = cX1_attempts := rfl
theorem M_X1_attempts : qh_M I_X1_attempts 0 := ⟨by decide, by decide, by decide +kernel, q85, q393, by decide⟩
def T_X1_attempts (g : qh_G) (a0 : Nat) (hp : qc_H) (K : Int32 → Prop) : Prop := eR hp a0 0 12 (fun v1 => eI hp v1 5 5 (fun v2 => K v2))
set_option maxHeartbeats 8000000 in
theorem C_X1_attempts {g : qh_G} {x : qc_X} {d : Nat} {sd : String → Nat → Nat} (hO : qc_O g x) (hP : qc_P g qp_ts sd) (a0 : Nat) (hp : qc_H) (K : Int32 → Prop) (hz : T_X1_attempts g a0 hp K) : qc_S g x (d + 0) 0 I_X1_attempts [.ref a0] hp (oI (fun v t => hp = t ∧ K v)) := by
  refine qc_S.of (by decide) rfl (ls := [some (.ref a0)]) rfl (Nat.le_of_ble_eq_true rfl) (ct_c rfl ct_n) ?_
  unfold T_X1_attempts at hz
  have h := hz
  clear hz
  refine qc_aload_n E_X1_attempts (by rfl) dX1_attempts_0 ?_
  refine re_getR E_X1_attempts rfl ck_X1 (by decide) 12 (by decide) q313 dX1_attempts_1 h ?_
  clear h
  intro v1 h
  refine re_getI E_X1_attempts rfl ck_X6 (by decide) 5 (by decide) q247 dX1_attempts_4 h ?_
  clear h
  intro v2 h
  exact qc_iret E_X1_attempts rfl dX1_attempts_7 (⟨_, rfl, rfl, h⟩)
def I_X1_shipped : qh_I := (yX1_shipped, cX1_shipped, 1, (Option.some Jvm.ClassFile.FieldType.int), [])
theorem E_X1_shipped : I_X1_shipped.2.1 = cX1_shipped := rfl
theorem M_X1_shipped : qh_M I_X1_shipped 0 := ⟨by decide, by decide, by decide +kernel, q85, q397, by decide⟩
def T_X1_shipped (g : qh_G) (a0 : Nat) (hp : qc_H) (K : Int32 → Prop) : Prop := eR hp a0 0 12 (fun v1 => eI hp v1 5 6 (fun v2 => K v2))
set_option maxHeartbeats 8000000 in
theorem C_X1_shipped {g : qh_G} {x : qc_X} {d : Nat} {sd : String → Nat → Nat} (hO : qc_O g x) (hP : qc_P g qp_ts sd) (a0 : Nat) (hp : qc_H) (K : Int32 → Prop) (hz : T_X1_shipped g a0 hp K) : qc_S g x (d + 0) 0 I_X1_shipped [.ref a0] hp (oI (fun v t => hp = t ∧ K v)) := by
  refine qc_S.of (by decide) rfl (ls := [some (.ref a0)]) rfl (Nat.le_of_ble_eq_true rfl) (ct_c rfl ct_n) ?_
  unfold T_X1_shipped at hz
  have h := hz
  clear hz
  refine qc_aload_n E_X1_shipped (by rfl) dX1_shipped_0 ?_
  refine re_getR E_X1_shipped rfl ck_X1 (by decide) 12 (by decide) q313 dX1_shipped_1 h ?_
  clear h
  intro v1 h
  refine re_getI E_X1_shipped rfl ck_X6 (by decide) 6 (by decide) q248 dX1_shipped_4 h ?_
  clear h
  intro v2 h
  exact qc_iret E_X1_shipped rfl dX1_shipped_7 (⟨_, rfl, rfl, h⟩)
def I_X1_entries : qh_I := (yX1_entries, cX1_entries, 1, (Option.some Jvm.ClassFile.FieldType.int), [])
theorem E_X1_entries : I_X1_entries.2.1 = cX1_entries := rfl
theorem M_X1_entries : qh_M I_X1_entries 0 := ⟨by decide, by decide, by decide +kernel, q85, q401, by decide⟩
def T_X1_entries (g : qh_G) (a0 : Nat) (hp : qc_H) (K : Int32 → Prop) : Prop := eR hp a0 0 4 (fun v1 => eSz hp v1 (fun n2 => K n2))
set_option maxHeartbeats 8000000 in
theorem C_X1_entries {g : qh_G} {x : qc_X} {d : Nat} {sd : String → Nat → Nat} (hO : qc_O g x) (hP : qc_P g qp_ts sd) (a0 : Nat) (hp : qc_H) (K : Int32 → Prop) (hz : T_X1_entries g a0 hp K) : qc_S g x (d + 6) 0 I_X1_entries [.ref a0] hp (oI (fun v t => hp = t ∧ K v)) := by
  refine qc_S.of (by decide) rfl (ls := [some (.ref a0)]) rfl (Nat.le_of_ble_eq_true rfl) (ct_c rfl ct_n) ?_
  unfold T_X1_entries at hz
  have h := hz
  clear hz
  refine qc_aload_n E_X1_entries (by rfl) dX1_entries_0 ?_
  refine re_getR E_X1_entries rfl ck_X1 (by decide) 4 (by decide) q303 dX1_entries_1 h ?_
  clear h
  intro v1 h
  refine re_size (d := d) hO E_X1_entries rfl q366 (Nat.le_of_ble_eq_true rfl) dX1_entries_4 h ?_
  clear h
  intro n2 h
  exact qc_iret E_X1_entries rfl dX1_entries_7 (⟨_, rfl, rfl, h⟩)
def I_X1_known : qh_I := (yX1_known, cX1_known, 2, (Option.some Jvm.ClassFile.FieldType.int), [])
theorem E_X1_known : I_X1_known.2.1 = cX1_known := rfl
theorem M_X1_known : qh_M I_X1_known 2 := ⟨by decide, by decide, by decide +kernel, q85, q496, by decide⟩
theorem thr_X1_known_9 {g : qh_G} {x : qc_X} {d c : Nat} {ls : List (Option Value)} {h : qc_H} {Q : qh_R → qc_H → Prop} {sd : String → Nat → Nat} (hO : qc_O g x) (hP : qc_P g qp_ts sd) (hq : Q (.inr "java/lang/IndexOutOfBoundsException") h) : qc_wp g x d (c + 7) I_X1_known 9 ls [] h Q := qc_wp.cost (Nat.le_succ (c + 6)) <| qc_throw (own := RX1) (cls := "java/lang/IndexOutOfBoundsException") (text := "number") (names := ["java/lang/RuntimeException", "java/lang/Exception"]) (sa := sd RX1 93) E_X1_known rfl hP.1 (by decide +kernel) (by decide +kernel) q497 q99 (hP.2.2.2.2.2 (RX1, 93, "number") (by decide)) (thr_at hP _ [96, 475, 427, 435, 438, 440, 476, 477, 133, 134, 421, 426, 436, 443, 469, 444, 470, 445, 471, 422, 424, 472, 419, 420, 442, 472, 410, 411, 412, 413, 463, 413, 414, 415, 416, 465, 416, 417, 418, 419, 467, 507, 498, 499, 500, 434, 501, 502, 503, 504, 441, 473, 505] (by decide +kernel) (by decide +kernel)) (by decide +kernel) hP.2.2.2.1 hP.2.2.2.2.1 dX1_known_9 dX1_known_12 dX1_known_13 dX1_known_15 dX1_known_18 (by decide) (Nat.le_of_ble_eq_true rfl) (Nat.le_of_ble_eq_true rfl) hq
def T_X1_known (g : qh_G) (a1 : Int32) (a2 : Int32) (hp : qc_H) (c : Nat) (K : Int32 → Prop) (KX : String → Prop) : Prop := (a1 < 0 → eTh c (KX "java/lang/IndexOutOfBoundsException")) ∧ (¬ a1 < 0 → (a1 < a2 → K a1) ∧ (¬ a1 < a2 → eTh c (KX "java/lang/IndexOutOfBoundsException")))
set_option maxHeartbeats 8000000 in
theorem C_X1_known {g : qh_G} {x : qc_X} {d : Nat} {sd : String → Nat → Nat} (hO : qc_O g x) (hP : qc_P g qp_ts sd) (a1 : Int32) (a2 : Int32) (hp : qc_H) (c : Nat) (K : Int32 → Prop) (KX : String → Prop) (hz : T_X1_known g a1 a2 hp c K KX) : qc_S g x (d + 0) c I_X1_known [.int a1, .int a2] hp (oX (oI (fun v t => hp = t ∧ K v)) (fun E t => hp = t ∧ KX E)) := by
  refine qc_S.of (by decide) rfl (ls := [some (.int a1), some (.int a2)]) rfl (Nat.le_of_ble_eq_true rfl) (ct_c rfl (ct_c rfl ct_n)) ?_
  unfold T_X1_known at hz
  have h := hz
  clear hz
  refine qc_iload_n E_X1_known (by rfl) dX1_known_0 ?_
  refine qc_if_lt E_X1_known 9 dX1_known_1 (by decide) (fun (c1 : a1 < 0) => ?_) (fun (c1 : ¬ a1 < 0) => ?_)
  · replace h := h.1 c1
    obtain ⟨cz, rfl, h⟩ := h
    exact thr_X1_known_9 hO hP (Or.inr ⟨_, rfl, rfl, h⟩)
  · replace h := h.2 c1
    refine qc_iload_n E_X1_known (by rfl) dX1_known_4 ?_
    refine qc_iload_n E_X1_known (by rfl) dX1_known_5 ?_
    refine qc_icmp_lt E_X1_known 19 dX1_known_6 (by decide) (fun (c2 : a1 < a2) => ?_) (fun (c2 : ¬ a1 < a2) => ?_)
    · replace h := h.1 c2
      refine qc_iload_n E_X1_known (by rfl) dX1_known_19 ?_
      exact qc_iret E_X1_known rfl dX1_known_20 (Or.inl (⟨_, rfl, rfl, h⟩))
    · replace h := h.2 c2
      obtain ⟨cz, rfl, h⟩ := h
      exact thr_X1_known_9 hO hP (Or.inr ⟨_, rfl, rfl, h⟩)
def I_X1_sourceAt : qh_I := (yX1_sourceAt, cX1_sourceAt, 2, (Option.some (Jvm.ClassFile.FieldType.object "QueryHarbor$Source")), [])
theorem E_X1_sourceAt : I_X1_sourceAt.2.1 = cX1_sourceAt := rfl
theorem M_X1_sourceAt : qh_M I_X1_sourceAt 1 := ⟨by decide, by decide, by decide +kernel, q85, q493, by decide⟩
def T_X1_sourceAt (g : qh_G) (a0 : Nat) (a1 : Int32) (hp : qc_H) (c : Nat) (K : Nat → Prop) (KX : String → Prop) : Prop := eR hp a0 0 1 (fun v1 => eK c (fun c3 k2 => T_X1_known g a1 6 hp k2 (fun r4 => eQ g.2.2.2.1 5 hp v1 r4 (fun v5 => K v5)) (fun Ez => KX Ez)))
set_option maxHeartbeats 8000000 in
theorem C_X1_sourceAt {g : qh_G} {x : qc_X} {d : Nat} {sd : String → Nat → Nat} (hO : qc_O g x) (hP : qc_P g qp_ts sd) (a0 : Nat) (a1 : Int32) (hp : qc_H) (c : Nat) (K : Nat → Prop) (KX : String → Prop) (hz : T_X1_sourceAt g a0 a1 hp c K KX) : qc_S g x (d + 1) c I_X1_sourceAt [.ref a0, .int a1] hp (oX (oR (fun v t => hp = t ∧ K v)) (fun E t => hp = t ∧ KX E)) := by
  refine qc_S.of (by decide) rfl (ls := [some (.ref a0), some (.int a1)]) rfl (Nat.le_of_ble_eq_true rfl) (ct_c rfl (ct_c rfl ct_n)) ?_
  unfold T_X1_sourceAt at hz
  have h := hz
  clear hz
  refine qc_aload_n E_X1_sourceAt (by rfl) dX1_sourceAt_0 ?_
  refine re_getR E_X1_sourceAt rfl ck_X1 (by decide) 1 (by decide) q300 dX1_sourceAt_1 h ?_
  clear h
  intro v1 h
  refine qc_iload_n E_X1_sourceAt (by rfl) dX1_sourceAt_4 ?_
  refine qc_bipush E_X1_sourceAt 6 (by decide) dX1_sourceAt_5 ?_
  obtain ⟨c3, k2, rfl, h⟩ := h
  refine qc_callS (c := c3) (k := k2) (As := [.int a1, .int 6]) (rest := [.ref v1]) E_X1_sourceAt rfl M_X1_known rfl q494 q495 rfl rfl (Nat.le_of_ble_eq_true rfl) dX1_sourceAt_7 (qc_S.mono ?_ (C_X1_known (d := d) hO hP a1 6 hp k2 _ _ h))
  clear h
  rintro _ tz (hz | hz)
  · obtain ⟨r4, rfl, rfl, h⟩ := hz
    refine K1_i ?_
    refine re_aald 5 (fun _ => rfl) E_X1_sourceAt dX1_sourceAt_10 h ?_
    clear h
    intro v5 h
    exact qc_aret E_X1_sourceAt rfl (Or.inl ⟨_, rfl⟩) (Or.inr ⟨_, rfl⟩) dX1_sourceAt_11 (Or.inl (⟨_, rfl, rfl, h⟩))
  · revert tz; rintro _ ⟨Ez, rfl, rfl, h⟩
    refine K1_x ?_
    exact qc_out (by decide) (Or.inr ⟨_, rfl, rfl, h⟩)
def I_X1_isNumber : qh_I := (yX1_isNumber, cX1_isNumber, 1, (Option.some Jvm.ClassFile.FieldType.boolean), [])
theorem E_X1_isNumber : I_X1_isNumber.2.1 = cX1_isNumber := rfl
theorem M_X1_isNumber : qh_M I_X1_isNumber 1 := ⟨by decide, by decide, by decide +kernel, q85, q528, by decide⟩
def T_X1_isNumber (g : qh_G) (a1 : Int32) (hp : qc_H) (K : Int32 → Prop) : Prop := (a1 < ((-999)) → K 0) ∧ (¬ a1 < ((-999)) → (999 < a1 → K 0) ∧ (¬ 999 < a1 → K 1))
set_option maxHeartbeats 8000000 in
theorem C_X1_isNumber {g : qh_G} {x : qc_X} {d : Nat} {sd : String → Nat → Nat} (hO : qc_O g x) (hP : qc_P g qp_ts sd) (a1 : Int32) (hp : qc_H) (K : Int32 → Prop) (hz : T_X1_isNumber g a1 hp K) : qc_S g x (d + 0) 0 I_X1_isNumber [.int a1] hp (oZ (fun v t => hp = t ∧ K v)) := by
  refine qc_S.of (by decide) rfl (ls := [some (.int a1)]) rfl (Nat.le_of_ble_eq_true rfl) (ct_c rfl ct_n) ?_
  unfold T_X1_isNumber at hz
  have h := hz
  clear hz
  refine qc_iload_n E_X1_isNumber (by rfl) dX1_isNumber_0 ?_
  refine qc_sipush E_X1_isNumber (-999) (by decide) dX1_isNumber_1 ?_
  refine qc_icmp_lt E_X1_isNumber 18 dX1_isNumber_4 (by decide) (fun (c1 : a1 < ((-999))) => ?_) (fun (c1 : ¬ a1 < ((-999))) => ?_)
  · replace h := h.1 c1
    refine qc_iconst E_X1_isNumber 0 (by decide) dX1_isNumber_18 ?_
    exact qc_zret E_X1_isNumber rfl (qm_nb (Or.inl rfl)) dX1_isNumber_19 (⟨_, rfl, (Or.inl rfl), rfl, h⟩)
  · replace h := h.2 c1
    refine qc_iload_n E_X1_isNumber (by rfl) dX1_isNumber_7 ?_
    refine qc_sipush E_X1_isNumber 999 (by decide) dX1_isNumber_8 ?_
    refine qc_icmp_gt E_X1_isNumber 18 dX1_isNumber_11 (by decide) (fun (c2 : 999 < a1) => ?_) (fun (c2 : ¬ 999 < a1) => ?_)
    · replace h := h.1 c2
      refine qc_iconst E_X1_isNumber 0 (by decide) dX1_isNumber_18 ?_
      exact qc_zret E_X1_isNumber rfl (qm_nb (Or.inl rfl)) dX1_isNumber_19 (⟨_, rfl, (Or.inl rfl), rfl, h⟩)
    · replace h := h.2 c2
      refine qc_iconst E_X1_isNumber 1 (by decide) dX1_isNumber_14 ?_
      refine qc_goto E_X1_isNumber 19 dX1_isNumber_15 (by decide) ?_
      exact qc_zret E_X1_isNumber rfl (qm_nb (Or.inr rfl)) dX1_isNumber_19 (⟨_, rfl, (Or.inr rfl), rfl, h⟩)
def I_X19_isFit : qh_I := (yX19_isFit, cX19_isFit, 3, (Option.some Jvm.ClassFile.FieldType.boolean), [])
theorem E_X19_isFit : I_X19_isFit.2.1 = cX19_isFit := rfl
theorem M_X19_isFit : qh_M I_X19_isFit 2 := ⟨by decide, by decide, by decide +kernel, q2332, q525, by decide⟩
def T_X19_isFit (g : qh_G) (a0 : Nat) (a1 : Int32) (a2 : Int32) (hp : qc_H) (K : Int32 → Prop) : Prop := T_X1_isNumber g a2 hp (fun r1 => (¬ r1 = 0 → K 1) ∧ (r1 = 0 → (¬ a2 = 5000 → K 0) ∧ (a2 = 5000 → K 1)))
set_option maxHeartbeats 8000000 in
theorem C_X19_isFit {g : qh_G} {x : qc_X} {d : Nat} {sd : String → Nat → Nat} (hO : qc_O g x) (hP : qc_P g qp_ts sd) (a0 : Nat) (a1 : Int32) (a2 : Int32) (hp : qc_H) (K : Int32 → Prop) (hz : T_X19_isFit g a0 a1 a2 hp K) : qc_S g x (d + 1) 0 I_X19_isFit [.ref a0, .int a1, .int a2] hp (oZ (fun v t => hp = t ∧ K v)) := by
  refine qc_S.of (by decide) rfl (ls := [some (.ref a0), some (.int a1), some (.int a2)]) rfl (Nat.le_of_ble_eq_true rfl) (ct_c rfl (ct_c rfl (ct_c rfl ct_n))) ?_
  unfold T_X19_isFit at hz
  have h := hz
  clear hz
  refine qc_iload_n E_X19_isFit (by rfl) dX19_isFit_0 ?_
  refine qc_callSN (c := 0) (k := 0) (As := [.int a2]) (rest := []) E_X19_isFit rfl M_X1_isNumber rfl (hO.2.1 _ (qj_N q526 rfl)) q527 rfl rfl (Nat.le_of_ble_eq_true rfl) dX19_isFit_1 (qc_S.mono ?_ (C_X1_isNumber (d := d) hO hP a2 hp _ h))
  clear h
  rintro _ _ ⟨r1, rfl, z2, rfl, h⟩
  refine K1_i ?_
  refine qc_if_ne E_X19_isFit 14 dX19_isFit_4 (by decide) (fun (c3 : ¬ r1 = 0) => ?_) (fun (c3 : r1 = 0) => ?_)
  · replace h := h.1 c3
    refine qc_iconst E_X19_isFit 1 (by decide) dX19_isFit_14 ?_
    refine qc_goto E_X19_isFit 19 dX19_isFit_15 (by decide) ?_
    exact qc_zret E_X19_isFit rfl (qm_nb (Or.inr rfl)) dX19_isFit_19 (⟨_, rfl, (Or.inr rfl), rfl, h⟩)
  · replace h := h.2 c3
    refine qc_iload_n E_X19_isFit (by rfl) dX19_isFit_7 ?_
    refine qc_sipush E_X19_isFit 5000 (by decide) dX19_isFit_8 ?_
    refine qc_icmp_ne E_X19_isFit 18 dX19_isFit_11 (by decide) (fun (c4 : ¬ a2 = 5000) => ?_) (fun (c4 : a2 = 5000) => ?_)
    · replace h := h.1 c4
      refine qc_iconst E_X19_isFit 0 (by decide) dX19_isFit_18 ?_
      exact qc_zret E_X19_isFit rfl (qm_nb (Or.inl rfl)) dX19_isFit_19 (⟨_, rfl, (Or.inl rfl), rfl, h⟩)
    · replace h := h.2 c4
      refine qc_iconst E_X19_isFit 1 (by decide) dX19_isFit_14 ?_
      refine qc_goto E_X19_isFit 19 dX19_isFit_15 (by decide) ?_
      exact qc_zret E_X19_isFit rfl (qm_nb (Or.inr rfl)) dX19_isFit_19 (⟨_, rfl, (Or.inr rfl), rfl, h⟩)
def I_X1_isKey : qh_I := (yX1_isKey, cX1_isKey, 1, (Option.some Jvm.ClassFile.FieldType.boolean), [])
theorem E_X1_isKey : I_X1_isKey.2.1 = cX1_isKey := rfl
theorem M_X1_isKey : qh_M I_X1_isKey 1 := ⟨by decide, by decide, by decide +kernel, q85, q522, by decide⟩
def T_X1_isKey (g : qh_G) (a1 : Int32) (hp : qc_H) (K : Int32 → Prop) : Prop := (a1 < 0 → K 0) ∧ (¬ a1 < 0 → (99 < a1 → K 0) ∧ (¬ 99 < a1 → K 1))
set_option maxHeartbeats 8000000 in
theorem C_X1_isKey {g : qh_G} {x : qc_X} {d : Nat} {sd : String → Nat → Nat} (hO : qc_O g x) (hP : qc_P g qp_ts sd) (a1 : Int32) (hp : qc_H) (K : Int32 → Prop) (hz : T_X1_isKey g a1 hp K) : qc_S g x (d + 0) 0 I_X1_isKey [.int a1] hp (oZ (fun v t => hp = t ∧ K v)) := by
  refine qc_S.of (by decide) rfl (ls := [some (.int a1)]) rfl (Nat.le_of_ble_eq_true rfl) (ct_c rfl ct_n) ?_
  unfold T_X1_isKey at hz
  have h := hz
  clear hz
  refine qc_iload_n E_X1_isKey (by rfl) dX1_isKey_0 ?_
  refine qc_if_lt E_X1_isKey 14 dX1_isKey_1 (by decide) (fun (c1 : a1 < 0) => ?_) (fun (c1 : ¬ a1 < 0) => ?_)
  · replace h := h.1 c1
    refine qc_iconst E_X1_isKey 0 (by decide) dX1_isKey_14 ?_
    exact qc_zret E_X1_isKey rfl (qm_nb (Or.inl rfl)) dX1_isKey_15 (⟨_, rfl, (Or.inl rfl), rfl, h⟩)
  · replace h := h.2 c1
    refine qc_iload_n E_X1_isKey (by rfl) dX1_isKey_4 ?_
    refine qc_bipush E_X1_isKey 99 (by decide) dX1_isKey_5 ?_
    refine qc_icmp_gt E_X1_isKey 14 dX1_isKey_7 (by decide) (fun (c2 : 99 < a1) => ?_) (fun (c2 : ¬ 99 < a1) => ?_)
    · replace h := h.1 c2
      refine qc_iconst E_X1_isKey 0 (by decide) dX1_isKey_14 ?_
      exact qc_zret E_X1_isKey rfl (qm_nb (Or.inl rfl)) dX1_isKey_15 (⟨_, rfl, (Or.inl rfl), rfl, h⟩)
    · replace h := h.2 c2
      refine qc_iconst E_X1_isKey 1 (by decide) dX1_isKey_10 ?_
      refine qc_goto E_X1_isKey 15 dX1_isKey_11 (by decide) ?_
      exact qc_zret E_X1_isKey rfl (qm_nb (Or.inr rfl)) dX1_isKey_15 (⟨_, rfl, (Or.inr rfl), rfl, h⟩)
def I_X4_isFit : qh_I := (yX4_isFit, cX4_isFit, 3, (Option.some Jvm.ClassFile.FieldType.boolean), [])
theorem E_X4_isFit : I_X4_isFit.2.1 = cX4_isFit := rfl
theorem M_X4_isFit : qh_M I_X4_isFit 2 := ⟨by decide, by decide, by decide +kernel, q88, q534, by decide⟩
def T_X4_isFit (g : qh_G) (a0 : Nat) (a1 : Int32) (a2 : Int32) (hp : qc_H) (K : Int32 → Prop) : Prop := (¬ a1 = 0 → (¬ a1 = 1 → (¬ a2 = 0 → K 0) ∧ (a2 = 0 → K 1)) ∧ (a1 = 1 → eC hp a0 3 (T_X19_isFit g a0 a1 a2 hp (fun r4 => K r4)))) ∧ (a1 = 0 → T_X1_isKey g a2 hp (fun r6 => K r6))
set_option maxHeartbeats 8000000 in
theorem C_X4_isFit {g : qh_G} {x : qc_X} {d : Nat} {sd : String → Nat → Nat} (hO : qc_O g x) (hP : qc_P g qp_ts sd) (a0 : Nat) (a1 : Int32) (a2 : Int32) (hp : qc_H) (K : Int32 → Prop) (hz : T_X4_isFit g a0 a1 a2 hp K) : qc_S g x (d + 2) 0 I_X4_isFit [.ref a0, .int a1, .int a2] hp (oZ (fun v t => hp = t ∧ K v)) := by
  refine qc_S.of (by decide) rfl (ls := [some (.ref a0), some (.int a1), some (.int a2)]) rfl (Nat.le_of_ble_eq_true rfl) (ct_c rfl (ct_c rfl (ct_c rfl ct_n))) ?_
  unfold T_X4_isFit at hz
  have h := hz
  clear hz
  refine qc_iload_n E_X4_isFit (by rfl) dX4_isFit_0 ?_
  refine qc_if_ne E_X4_isFit 11 dX4_isFit_1 (by decide) (fun (c1 : ¬ a1 = 0) => ?_) (fun (c1 : a1 = 0) => ?_)
  · replace h := h.1 c1
    refine qc_iload_n E_X4_isFit (by rfl) dX4_isFit_11 ?_
    refine qc_iconst E_X4_isFit 1 (by decide) dX4_isFit_12 ?_
    refine qc_icmp_ne E_X4_isFit 25 dX4_isFit_13 (by decide) (fun (c2 : ¬ a1 = 1) => ?_) (fun (c2 : a1 = 1) => ?_)
    · replace h := h.1 c2
      refine qc_iload_n E_X4_isFit (by rfl) dX4_isFit_25 ?_
      refine qc_if_ne E_X4_isFit 33 dX4_isFit_26 (by decide) (fun (c3 : ¬ a2 = 0) => ?_) (fun (c3 : a2 = 0) => ?_)
      · replace h := h.1 c3
        refine qc_iconst E_X4_isFit 0 (by decide) dX4_isFit_33 ?_
        exact qc_zret E_X4_isFit rfl (qm_nb (Or.inl rfl)) dX4_isFit_34 (⟨_, rfl, (Or.inl rfl), rfl, h⟩)
      · replace h := h.2 c3
        refine qc_iconst E_X4_isFit 1 (by decide) dX4_isFit_29 ?_
        refine qc_goto E_X4_isFit 34 dX4_isFit_30 (by decide) ?_
        exact qc_zret E_X4_isFit rfl (qm_nb (Or.inr rfl)) dX4_isFit_34 (⟨_, rfl, (Or.inr rfl), rfl, h⟩)
    · replace h := h.2 c2
      refine qc_aload_n E_X4_isFit (by rfl) dX4_isFit_16 ?_
      refine qc_iload_n E_X4_isFit (by rfl) dX4_isFit_17 ?_
      refine qc_iload_n E_X4_isFit (by rfl) dX4_isFit_18 ?_
      obtain ⟨⟨fz, hb⟩, h⟩ := h
      refine qc_callSF (c := 0) (k := 0) (As := [.int a1, .int a2]) (rest := []) hO E_X4_isFit rfl M_X19_isFit rfl (by decide) q536 q192 q524 (hP.2.1 _ (qp_n q512 rfl)) (ci := 3) rfl hb rfl rfl (Nat.le_of_ble_eq_true rfl) dX4_isFit_19 (qc_S.mono ?_ (C_X19_isFit (d := d) hO hP a0 a1 a2 hp _ h))
      clear h
      clear hb
      rintro _ _ ⟨r4, rfl, z5, rfl, h⟩
      refine K1_i ?_
      refine qc_goto E_X4_isFit 34 dX4_isFit_22 (by decide) ?_
      exact qc_zret E_X4_isFit rfl (qm_nb z5) dX4_isFit_34 (⟨_, rfl, z5, rfl, h⟩)
  · replace h := h.2 c1
    refine qc_iload_n E_X4_isFit (by rfl) dX4_isFit_4 ?_
    refine qc_callSN (c := 0) (k := 0) (As := [.int a2]) (rest := []) E_X4_isFit rfl M_X1_isKey rfl (hO.2.1 _ (qj_N q535 rfl)) q521 rfl rfl (Nat.le_of_ble_eq_true rfl) dX4_isFit_5 (qc_S.mono ?_ (C_X1_isKey (d := d + 1) hO hP a2 hp _ h))
    clear h
    rintro _ _ ⟨r6, rfl, z7, rfl, h⟩
    refine K1_i ?_
    refine qc_goto E_X4_isFit 34 dX4_isFit_8 (by decide) ?_
    exact qc_zret E_X4_isFit rfl (qm_nb z7) dX4_isFit_34 (⟨_, rfl, z7, rfl, h⟩)
def I_X5_isFit : qh_I := (yX5_isFit, cX5_isFit, 3, (Option.some Jvm.ClassFile.FieldType.boolean), [])
theorem E_X5_isFit : I_X5_isFit.2.1 = cX5_isFit := rfl
theorem M_X5_isFit : qh_M I_X5_isFit 2 := ⟨by decide, by decide, by decide +kernel, q89, q519, by decide⟩
def T_X5_isFit (g : qh_G) (a0 : Nat) (a1 : Int32) (a2 : Int32) (hp : qc_H) (K : Int32 → Prop) : Prop := (¬ a1 = 0 → (a2 = 5001 → K 1) ∧ (¬ a2 = 5001 → eC hp a0 4 (T_X19_isFit g a0 a1 a2 hp (fun r3 => (r3 = 0 → K 0) ∧ (¬ r3 = 0 → K 1))))) ∧ (a1 = 0 → T_X1_isKey g a2 hp (fun r6 => K r6))
set_option maxHeartbeats 8000000 in
theorem C_X5_isFit {g : qh_G} {x : qc_X} {d : Nat} {sd : String → Nat → Nat} (hO : qc_O g x) (hP : qc_P g qp_ts sd) (a0 : Nat) (a1 : Int32) (a2 : Int32) (hp : qc_H) (K : Int32 → Prop) (hz : T_X5_isFit g a0 a1 a2 hp K) : qc_S g x (d + 2) 0 I_X5_isFit [.ref a0, .int a1, .int a2] hp (oZ (fun v t => hp = t ∧ K v)) := by
  refine qc_S.of (by decide) rfl (ls := [some (.ref a0), some (.int a1), some (.int a2)]) rfl (Nat.le_of_ble_eq_true rfl) (ct_c rfl (ct_c rfl (ct_c rfl ct_n))) ?_
  unfold T_X5_isFit at hz
  have h := hz
  clear hz
  refine qc_iload_n E_X5_isFit (by rfl) dX5_isFit_0 ?_
  refine qc_if_ne E_X5_isFit 11 dX5_isFit_1 (by decide) (fun (c1 : ¬ a1 = 0) => ?_) (fun (c1 : a1 = 0) => ?_)
  · replace h := h.1 c1
    refine qc_iload_n E_X5_isFit (by rfl) dX5_isFit_11 ?_
    refine qc_sipush E_X5_isFit 5001 (by decide) dX5_isFit_12 ?_
    refine qc_icmp_eq E_X5_isFit 27 dX5_isFit_15 (by decide) (fun (c2 : a2 = 5001) => ?_) (fun (c2 : ¬ a2 = 5001) => ?_)
    · replace h := h.1 c2
      refine qc_iconst E_X5_isFit 1 (by decide) dX5_isFit_27 ?_
      refine qc_goto E_X5_isFit 32 dX5_isFit_28 (by decide) ?_
      exact qc_zret E_X5_isFit rfl (qm_nb (Or.inr rfl)) dX5_isFit_32 (⟨_, rfl, (Or.inr rfl), rfl, h⟩)
    · replace h := h.2 c2
      refine qc_aload_n E_X5_isFit (by rfl) dX5_isFit_18 ?_
      refine qc_iload_n E_X5_isFit (by rfl) dX5_isFit_19 ?_
      refine qc_iload_n E_X5_isFit (by rfl) dX5_isFit_20 ?_
      obtain ⟨⟨fz, hb⟩, h⟩ := h
      refine qc_callSF (c := 0) (k := 0) (As := [.int a1, .int a2]) (rest := []) hO E_X5_isFit rfl M_X19_isFit rfl (by decide) q523 q199 q524 (hP.2.1 _ (qp_n q512 rfl)) (ci := 4) rfl hb rfl rfl (Nat.le_of_ble_eq_true rfl) dX5_isFit_21 (qc_S.mono ?_ (C_X19_isFit (d := d) hO hP a0 a1 a2 hp _ h))
      clear h
      clear hb
      rintro _ _ ⟨r3, rfl, z4, rfl, h⟩
      refine K1_i ?_
      refine qc_if_eq E_X5_isFit 31 dX5_isFit_24 (by decide) (fun (c5 : r3 = 0) => ?_) (fun (c5 : ¬ r3 = 0) => ?_)
      · replace h := h.1 c5
        refine qc_iconst E_X5_isFit 0 (by decide) dX5_isFit_31 ?_
        exact qc_zret E_X5_isFit rfl (qm_nb (Or.inl rfl)) dX5_isFit_32 (⟨_, rfl, (Or.inl rfl), rfl, h⟩)
      · replace h := h.2 c5
        refine qc_iconst E_X5_isFit 1 (by decide) dX5_isFit_27 ?_
        refine qc_goto E_X5_isFit 32 dX5_isFit_28 (by decide) ?_
        exact qc_zret E_X5_isFit rfl (qm_nb (Or.inr rfl)) dX5_isFit_32 (⟨_, rfl, (Or.inr rfl), rfl, h⟩)
  · replace h := h.2 c1
    refine qc_iload_n E_X5_isFit (by rfl) dX5_isFit_4 ?_
    refine qc_callSN (c := 0) (k := 0) (As := [.int a2]) (rest := []) E_X5_isFit rfl M_X1_isKey rfl (hO.2.1 _ (qj_N q520 rfl)) q521 rfl rfl (Nat.le_of_ble_eq_true rfl) dX5_isFit_5 (qc_S.mono ?_ (C_X1_isKey (d := d + 1) hO hP a2 hp _ h))
    clear h
    rintro _ _ ⟨r6, rfl, z7, rfl, h⟩
    refine K1_i ?_
    refine qc_goto E_X5_isFit 32 dX5_isFit_8 (by decide) ?_
    exact qc_zret E_X5_isFit rfl (qm_nb z7) dX5_isFit_32 (⟨_, rfl, z7, rfl, h⟩)
def U_isFit (g : qh_G) (h : qc_H) (b : Nat) (a1 : Int32) (a2 : Int32) (K : Int32 → Prop) : Prop := eC h b 2 (T_X19_isFit g b a1 a2 h K) ∨ eC h b 3 (T_X4_isFit g b a1 a2 h K) ∨ eC h b 4 (T_X5_isFit g b a1 a2 h K)
theorem V_isFit {g : qh_G} {x : qc_X} {d c : Nat} {sd : String → Nat → Nat} {I : qh_I} {cc : ByteArray} {pc : Nat} {ls : List (Option Value)} {rest : List Value} {h : qc_H} {Q : qh_R → qc_H → Prop} {own : String} {index count b : Nat} {a1 : Int32} {a2 : Int32} {K : Int32 → Prop} (hO : qc_O g x) (hP : qc_P g qp_ts sd) (e : I.2.1 = cc) (ho : I.1.cls = own) (q1 : Cond.methodLink own index (⟨"QueryHarbor$Store", "isFit", "(II)Z"⟩ : MethodName) ∈ lw_all) (_ : True = True) (hw : (rest.map fun v => v.category).sum ≤ 8) (hd : decode cc pc = .ok (.invokeinterface index count, 5)) (hh : U_isFit g h b a1 a2 K) (kk : ∀ v, (v = 0 ∨ v = 1) → K v → qc_wp g x (d + 3) c I (pc + 5) ls (.int v :: rest) h Q) : qc_wp g x (d + 3) c I pc ls (.int a2 :: .int a1 :: .ref b :: rest) h Q := by
  rcases hh with ⟨⟨fz, hb⟩, h⟩ | ⟨⟨fz, hb⟩, h⟩ | ⟨⟨fz, hb⟩, h⟩
  · refine qc_callFD (c := c) (k := 0) (As := [.int a1, .int a2]) (rest := rest) hO e ho M_X19_isFit rfl ⟨by decide, by decide, by decide +kernel⟩ q1 q524 (qp_D hP (by decide) q513 q512 q539 q537) (ci := 2) rfl hb rfl rfl hw hd (qc_S.mono ?_ (C_X19_isFit (d := d + 1) hO hP b a1 a2 _ _ h))
    clear h
    rintro _ _ ⟨v, rfl, z, rfl, h⟩
    exact kk v z h
  · refine qc_callF (c := c) (k := 0) (As := [.int a1, .int a2]) (rest := rest) hO e ho M_X4_isFit rfl ⟨by decide, by decide, by decide +kernel⟩ q1 q530 q532 (qp_F hP q513 q512 q533 q531 q529) (ci := 3) rfl hb rfl rfl hw hd (qc_S.mono ?_ (C_X4_isFit (d := d) hO hP b a1 a2 _ _ h))
    clear h
    rintro _ _ ⟨v, rfl, z, rfl, h⟩
    exact kk v z h
  · refine qc_callF (c := c) (k := 0) (As := [.int a1, .int a2]) (rest := rest) hO e ho M_X5_isFit rfl ⟨by decide, by decide, by decide +kernel⟩ q1 q515 q517 (qp_F hP q513 q512 q518 q516 q514) (ci := 4) rfl hb rfl rfl hw hd (qc_S.mono ?_ (C_X5_isFit (d := d) hO hP b a1 a2 _ _ h))
    clear h
    rintro _ _ ⟨v, rfl, z, rfl, h⟩
    exact kk v z h
def I_X1_fit : qh_I := (yX1_fit, cX1_fit, 1, (Option.none : Option Jvm.ClassFile.FieldType), [])
theorem E_X1_fit : I_X1_fit.2.1 = cX1_fit := rfl
theorem M_X1_fit : qh_M I_X1_fit 1 := ⟨by decide, by decide, by decide +kernel, q85, q542, by decide⟩
theorem thr_X1_fit_4 {g : qh_G} {x : qc_X} {d c : Nat} {ls : List (Option Value)} {h : qc_H} {Q : qh_R → qc_H → Prop} {sd : String → Nat → Nat} (hO : qc_O g x) (hP : qc_P g qp_ts sd) (hq : Q (.inr "java/lang/IllegalArgumentException") h) : qc_wp g x d (c + 7) I_X1_fit 4 ls [] h Q := qc_wp.cost (Nat.le_succ (c + 6)) <| qc_throw (own := RX1) (cls := "java/lang/IllegalArgumentException") (text := "unfit") (names := ["java/lang/RuntimeException", "java/lang/Exception"]) (sa := sd RX1 100) E_X1_fit rfl hP.1 (by decide +kernel) (by decide +kernel) q543 q102 (hP.2.2.2.2.2 (RX1, 100, "unfit") (by decide)) (thr_at hP _ [96, 475, 427, 435, 438, 440, 476, 477, 133, 134, 421, 426, 436, 443, 469, 444, 470, 445, 471, 422, 424, 472, 419, 420, 442, 472, 554, 555, 556, 413, 463, 413, 414, 415, 416, 465, 416, 417, 418, 419, 467, 553, 544, 545, 546, 432, 547, 548, 549, 550, 441, 473, 551] (by decide +kernel) (by decide +kernel)) (by decide +kernel) hP.2.2.2.1 hP.2.2.2.2.1 dX1_fit_4 dX1_fit_7 dX1_fit_8 dX1_fit_10 dX1_fit_13 (by decide) (Nat.le_of_ble_eq_true rfl) (Nat.le_of_ble_eq_true rfl) hq
def T_X1_fit (g : qh_G) (a1 : Int32) (hp : qc_H) (c : Nat) (K : Prop) (KX : String → Prop) : Prop := (¬ a1 = 0 → K) ∧ (a1 = 0 → eTh c (KX "java/lang/IllegalArgumentException"))
set_option maxHeartbeats 8000000 in
theorem C_X1_fit {g : qh_G} {x : qc_X} {d : Nat} {sd : String → Nat → Nat} (hO : qc_O g x) (hP : qc_P g qp_ts sd) (a1 : Int32) (hp : qc_H) (c : Nat) (K : Prop) (KX : String → Prop) (hz : T_X1_fit g a1 hp c K KX) : qc_S g x (d + 0) c I_X1_fit [.int a1] hp (oX (oV (fun t => hp = t ∧ K)) (fun E t => hp = t ∧ KX E)) := by
  refine qc_S.of (by decide) rfl (ls := [some (.int a1)]) rfl (Nat.le_of_ble_eq_true rfl) (ct_c rfl ct_n) ?_
  unfold T_X1_fit at hz
  have h := hz
  clear hz
  refine qc_iload_n E_X1_fit (by rfl) dX1_fit_0 ?_
  refine qc_if_ne E_X1_fit 14 dX1_fit_1 (by decide) (fun (c1 : ¬ a1 = 0) => ?_) (fun (c1 : a1 = 0) => ?_)
  · replace h := h.1 c1
    exact qc_vret E_X1_fit rfl dX1_fit_14 (Or.inl (⟨rfl, rfl, h⟩))
  · replace h := h.2 c1
    obtain ⟨cz, rfl, h⟩ := h
    exact thr_X1_fit_4 hO hP (Or.inr ⟨_, rfl, rfl, h⟩)
def I_X3_hasKey : qh_I := (yX3_hasKey, cX3_hasKey, 1, (Option.some Jvm.ClassFile.FieldType.boolean), [])
theorem E_X3_hasKey : I_X3_hasKey.2.1 = cX3_hasKey := rfl
theorem M_X3_hasKey : qh_M I_X3_hasKey 0 := ⟨by decide, by decide, by decide +kernel, q87, q573, by decide⟩
def T_X3_hasKey (g : qh_G) (a0 : Nat) (hp : qc_H) (K : Int32 → Prop) : Prop := K 0
set_option maxHeartbeats 8000000 in
theorem C_X3_hasKey {g : qh_G} {x : qc_X} {d : Nat} {sd : String → Nat → Nat} (hO : qc_O g x) (hP : qc_P g qp_ts sd) (a0 : Nat) (hp : qc_H) (K : Int32 → Prop) (hz : T_X3_hasKey g a0 hp K) : qc_S g x (d + 0) 0 I_X3_hasKey [.ref a0] hp (oZ (fun v t => hp = t ∧ K v)) := by
  refine qc_S.of (by decide) rfl (ls := [some (.ref a0)]) rfl (Nat.le_of_ble_eq_true rfl) (ct_c rfl ct_n) ?_
  unfold T_X3_hasKey at hz
  have h := hz
  clear hz
  refine qc_iconst E_X3_hasKey 0 (by decide) dX3_hasKey_0 ?_
  exact qc_zret E_X3_hasKey rfl (qm_nb (Or.inl rfl)) dX3_hasKey_1 (⟨_, rfl, (Or.inl rfl), rfl, h⟩)
def I_X19_hasKey : qh_I := (yX19_hasKey, cX19_hasKey, 1, (Option.some Jvm.ClassFile.FieldType.boolean), [])
theorem E_X19_hasKey : I_X19_hasKey.2.1 = cX19_hasKey := rfl
theorem M_X19_hasKey : qh_M I_X19_hasKey 0 := ⟨by decide, by decide, by decide +kernel, q2332, q567, by decide⟩
def T_X19_hasKey (g : qh_G) (a0 : Nat) (hp : qc_H) (K : Int32 → Prop) : Prop := K 1
set_option maxHeartbeats 8000000 in
theorem C_X19_hasKey {g : qh_G} {x : qc_X} {d : Nat} {sd : String → Nat → Nat} (hO : qc_O g x) (hP : qc_P g qp_ts sd) (a0 : Nat) (hp : qc_H) (K : Int32 → Prop) (hz : T_X19_hasKey g a0 hp K) : qc_S g x (d + 0) 0 I_X19_hasKey [.ref a0] hp (oZ (fun v t => hp = t ∧ K v)) := by
  refine qc_S.of (by decide) rfl (ls := [some (.ref a0)]) rfl (Nat.le_of_ble_eq_true rfl) (ct_c rfl ct_n) ?_
  unfold T_X19_hasKey at hz
  have h := hz
  clear hz
  refine qc_iconst E_X19_hasKey 1 (by decide) dX19_hasKey_0 ?_
  exact qc_zret E_X19_hasKey rfl (qm_nb (Or.inr rfl)) dX19_hasKey_1 (⟨_, rfl, (Or.inr rfl), rfl, h⟩)
def U_hasKey (g : qh_G) (h : qc_H) (b : Nat) (K : Int32 → Prop) : Prop := eC h b 2 (T_X3_hasKey g b h K) ∨ eC h b 3 (T_X19_hasKey g b h K) ∨ eC h b 4 (T_X19_hasKey g b h K)
theorem V_hasKey {g : qh_G} {x : qc_X} {d c : Nat} {sd : String → Nat → Nat} {I : qh_I} {cc : ByteArray} {pc : Nat} {ls : List (Option Value)} {rest : List Value} {h : qc_H} {Q : qh_R → qc_H → Prop} {own : String} {index count b : Nat} {K : Int32 → Prop} (hO : qc_O g x) (hP : qc_P g qp_ts sd) (e : I.2.1 = cc) (ho : I.1.cls = own) (q1 : Cond.methodLink own index (⟨"QueryHarbor$Store", "hasKey", "()Z"⟩ : MethodName) ∈ lw_all) (_ : True = True) (hw : (rest.map fun v => v.category).sum ≤ 8) (hd : decode cc pc = .ok (.invokeinterface index count, 5)) (hh : U_hasKey g h b K) (kk : ∀ v, (v = 0 ∨ v = 1) → K v → qc_wp g x (d + 1) c I (pc + 5) ls (.int v :: rest) h Q) : qc_wp g x (d + 1) c I pc ls (.ref b :: rest) h Q := by
  rcases hh with ⟨⟨fz, hb⟩, h⟩ | ⟨⟨fz, hb⟩, h⟩ | ⟨⟨fz, hb⟩, h⟩
  · refine qc_callF (c := c) (k := 0) (As := []) (rest := rest) hO e ho M_X3_hasKey rfl ⟨by decide, by decide, by decide +kernel⟩ q1 q569 q571 (qp_F hP q563 q562 q572 q570 q537) (ci := 2) rfl hb rfl rfl hw hd (qc_S.mono ?_ (C_X3_hasKey (d := d) hO hP b _ _ h))
    clear h
    rintro _ _ ⟨v, rfl, z, rfl, h⟩
    exact kk v z h
  · refine qc_callFD (c := c) (k := 0) (As := []) (rest := rest) hO e ho M_X19_hasKey rfl ⟨by decide, by decide, by decide +kernel⟩ q1 q565 (qp_D hP (by decide) q563 q562 q566 q529) (ci := 3) rfl hb rfl rfl hw hd (qc_S.mono ?_ (C_X19_hasKey (d := d) hO hP b _ _ h))
    clear h
    rintro _ _ ⟨v, rfl, z, rfl, h⟩
    exact kk v z h
  · refine qc_callFD (c := c) (k := 0) (As := []) (rest := rest) hO e ho M_X19_hasKey rfl ⟨by decide, by decide, by decide +kernel⟩ q1 q565 (qp_D hP (by decide) q563 q562 q566 q514) (ci := 4) rfl hb rfl rfl hw hd (qc_S.mono ?_ (C_X19_hasKey (d := d) hO hP b _ _ h))
    clear h
    rintro _ _ ⟨v, rfl, z, rfl, h⟩
    exact kk v z h
def I_X7_placeOf : qh_I := (yX7_placeOf, cX7_placeOf, 3, (Option.some Jvm.ClassFile.FieldType.int), [])
theorem E_X7_placeOf : I_X7_placeOf.2.1 = cX7_placeOf := rfl
theorem M_X7_placeOf : qh_M I_X7_placeOf 1 := ⟨by decide, by decide, by decide +kernel, q94, q577, by decide⟩
def T_X7_placeOf (g : qh_G) (a0 : Nat) (a1 : Int32) (hp : qc_H) (K : Int32 → Prop) : Prop := ∀ X1 : Int32 → Prop, (∀ (x2 : Int32), (eR hp a0 6 2 (fun v3 => eSz hp v3 (fun n4 => (n4 ≤ x2 → K ((-1))) ∧ (¬ n4 ≤ x2 → eR hp a0 6 2 (fun v6 => eGt hp v6 x2 (fun p7 => eC hp p7 8 (eI hp p7 8 0 (fun v8 => (¬ v8 = a1 → X1 (x2 + 1)) ∧ (v8 = a1 → K x2))))))))) → X1 x2) → X1 0
set_option maxHeartbeats 8000000 in
theorem C_X7_placeOf {g : qh_G} {x : qc_X} {d : Nat} {sd : String → Nat → Nat} (hO : qc_O g x) (hP : qc_P g qp_ts sd) (a0 : Nat) (a1 : Int32) (hp : qc_H) (K : Int32 → Prop) (hz : T_X7_placeOf g a0 a1 hp K) : qc_S g x (d + 6) 0 I_X7_placeOf [.ref a0, .int a1] hp (oI (fun v t => hp = t ∧ K v)) := by
  refine qc_S.of (by decide) rfl (ls := [some (.ref a0), some (.int a1), none]) rfl (Nat.le_of_ble_eq_true rfl) (ct_c rfl (ct_c rfl ct_n)) ?_
  unfold T_X7_placeOf at hz
  have h := hz
  clear hz
  refine qc_iconst E_X7_placeOf 0 (by decide) dX7_placeOf_0 ?_
  refine qc_istore_n E_X7_placeOf (by decide) dX7_placeOf_1 ?_
  refine h (fun (x2 : Int32) => qc_wp g x (d + 6) 0 I_X7_placeOf 2 [some (.ref a0), some (.int a1), some (.int x2)] [] hp (oI (fun v t => hp = t ∧ K v))) ?_
  clear h
  intro x2 h
  refine qc_iload_n E_X7_placeOf (by rfl) dX7_placeOf_2 ?_
  refine qc_aload_n E_X7_placeOf (by rfl) dX7_placeOf_3 ?_
  refine re_getR E_X7_placeOf rfl ck_X7 (by decide) 2 (by decide) q276 dX7_placeOf_4 h ?_
  clear h
  intro v3 h
  refine re_size (d := d) hO E_X7_placeOf rfl q578 (Nat.le_of_ble_eq_true rfl) dX7_placeOf_7 h ?_
  clear h
  intro n4 h
  refine qc_icmp_ge E_X7_placeOf 39 dX7_placeOf_10 (by decide) (fun (c5 : n4 ≤ x2) => ?_) (fun (c5 : ¬ n4 ≤ x2) => ?_)
  · replace h := h.1 c5
    refine qc_iconst E_X7_placeOf (-1) (by decide) dX7_placeOf_39 ?_
    exact qc_iret E_X7_placeOf rfl dX7_placeOf_40 (⟨_, rfl, rfl, h⟩)
  · replace h := h.2 c5
    refine qc_aload_n E_X7_placeOf (by rfl) dX7_placeOf_13 ?_
    refine re_getR E_X7_placeOf rfl ck_X7 (by decide) 2 (by decide) q276 dX7_placeOf_14 h ?_
    clear h
    intro v6 h
    refine qc_iload_n E_X7_placeOf (by rfl) dX7_placeOf_17 ?_
    refine re_get (d := d) hO E_X7_placeOf rfl q579 (Nat.le_of_ble_eq_true rfl) dX7_placeOf_18 h ?_
    clear h
    intro p7 h
    refine re_castS (ci := 8) hO E_X7_placeOf rfl rfl q593 dX7_placeOf_21 h ?_
    clear h
    intro h
    refine re_getI E_X7_placeOf rfl ck_X9 (by decide) 0 (by decide) q641 dX7_placeOf_24 h ?_
    clear h
    intro v8 h
    refine qc_iload_n E_X7_placeOf (by rfl) dX7_placeOf_27 ?_
    refine qc_icmp_ne E_X7_placeOf 33 dX7_placeOf_28 (by decide) (fun (c9 : ¬ v8 = a1) => ?_) (fun (c9 : v8 = a1) => ?_)
    · replace h := h.1 c9
      refine qc_iinc E_X7_placeOf 1 rfl (by decide) (by decide) dX7_placeOf_33 ?_
      refine qc_goto E_X7_placeOf 2 dX7_placeOf_36 (by decide) ?_
      exact h
    · replace h := h.2 c9
      refine qc_iload_n E_X7_placeOf (by rfl) dX7_placeOf_31 ?_
      exact qc_iret E_X7_placeOf rfl dX7_placeOf_32 (⟨_, rfl, rfl, h⟩)
def I_X1_allowed : qh_I := (yX1_allowed, cX1_allowed, 1, (Option.none : Option Jvm.ClassFile.FieldType), [])
theorem E_X1_allowed : I_X1_allowed.2.1 = cX1_allowed := rfl
theorem M_X1_allowed : qh_M I_X1_allowed 1 := ⟨by decide, by decide, by decide +kernel, q85, q596, by decide⟩
theorem thr_X1_allowed_4 {g : qh_G} {x : qc_X} {d c : Nat} {ls : List (Option Value)} {h : qc_H} {Q : qh_R → qc_H → Prop} {sd : String → Nat → Nat} (hO : qc_O g x) (hP : qc_P g qp_ts sd) (hq : Q (.inr "java/lang/IllegalStateException") h) : qc_wp g x d (c + 7) I_X1_allowed 4 ls [] h Q := qc_wp.cost (Nat.le_succ (c + 6)) <| qc_throw (own := RX1) (cls := "java/lang/IllegalStateException") (text := "state") (names := ["java/lang/RuntimeException", "java/lang/Exception"]) (sa := sd RX1 109) E_X1_allowed rfl hP.1 (by decide +kernel) (by decide +kernel) q597 q105 (hP.2.2.2.2.2 (RX1, 109, "state") (by decide)) (thr_at hP _ [96, 475, 427, 435, 438, 440, 476, 477, 133, 134, 421, 426, 436, 443, 469, 444, 470, 445, 471, 422, 424, 472, 419, 420, 442, 472, 608, 609, 610, 413, 463, 413, 414, 415, 416, 465, 416, 417, 418, 419, 467, 607, 598, 599, 600, 433, 601, 602, 603, 604, 441, 473, 605] (by decide +kernel) (by decide +kernel)) (by decide +kernel) hP.2.2.2.1 hP.2.2.2.2.1 dX1_allowed_4 dX1_allowed_7 dX1_allowed_8 dX1_allowed_10 dX1_allowed_13 (by decide) (Nat.le_of_ble_eq_true rfl) (Nat.le_of_ble_eq_true rfl) hq
def T_X1_allowed (g : qh_G) (a1 : Int32) (hp : qc_H) (c : Nat) (K : Prop) (KX : String → Prop) : Prop := (¬ a1 = 0 → K) ∧ (a1 = 0 → eTh c (KX "java/lang/IllegalStateException"))
set_option maxHeartbeats 8000000 in
theorem C_X1_allowed {g : qh_G} {x : qc_X} {d : Nat} {sd : String → Nat → Nat} (hO : qc_O g x) (hP : qc_P g qp_ts sd) (a1 : Int32) (hp : qc_H) (c : Nat) (K : Prop) (KX : String → Prop) (hz : T_X1_allowed g a1 hp c K KX) : qc_S g x (d + 0) c I_X1_allowed [.int a1] hp (oX (oV (fun t => hp = t ∧ K)) (fun E t => hp = t ∧ KX E)) := by
  refine qc_S.of (by decide) rfl (ls := [some (.int a1)]) rfl (Nat.le_of_ble_eq_true rfl) (ct_c rfl ct_n) ?_
  unfold T_X1_allowed at hz
  have h := hz
  clear hz
  refine qc_iload_n E_X1_allowed (by rfl) dX1_allowed_0 ?_
  refine qc_if_ne E_X1_allowed 14 dX1_allowed_1 (by decide) (fun (c1 : ¬ a1 = 0) => ?_) (fun (c1 : a1 = 0) => ?_)
  · replace h := h.1 c1
    exact qc_vret E_X1_allowed rfl dX1_allowed_14 (Or.inl (⟨rfl, rfl, h⟩))
  · replace h := h.2 c1
    obtain ⟨cz, rfl, h⟩ := h
    exact thr_X1_allowed_4 hO hP (Or.inr ⟨_, rfl, rfl, h⟩)
def I_X19_kept : qh_I := (yX19_kept, cX19_kept, 3, (Option.some Jvm.ClassFile.FieldType.int), [])
theorem E_X19_kept : I_X19_kept.2.1 = cX19_kept := rfl
theorem M_X19_kept : qh_M I_X19_kept 2 := ⟨by decide, by decide, by decide +kernel, q2332, q620, by decide⟩
def T_X19_kept (g : qh_G) (a0 : Nat) (a1 : Int32) (a2 : Int32) (hp : qc_H) (K : Int32 → Prop) : Prop := K a2
set_option maxHeartbeats 8000000 in
theorem C_X19_kept {g : qh_G} {x : qc_X} {d : Nat} {sd : String → Nat → Nat} (hO : qc_O g x) (hP : qc_P g qp_ts sd) (a0 : Nat) (a1 : Int32) (a2 : Int32) (hp : qc_H) (K : Int32 → Prop) (hz : T_X19_kept g a0 a1 a2 hp K) : qc_S g x (d + 0) 0 I_X19_kept [.ref a0, .int a1, .int a2] hp (oI (fun v t => hp = t ∧ K v)) := by
  refine qc_S.of (by decide) rfl (ls := [some (.ref a0), some (.int a1), some (.int a2)]) rfl (Nat.le_of_ble_eq_true rfl) (ct_c rfl (ct_c rfl (ct_c rfl ct_n))) ?_
  unfold T_X19_kept at hz
  have h := hz
  clear hz
  refine qc_iload_n E_X19_kept (by rfl) dX19_kept_0 ?_
  exact qc_iret E_X19_kept rfl dX19_kept_1 (⟨_, rfl, rfl, h⟩)
def I_X4_kept : qh_I := (yX4_kept, cX4_kept, 3, (Option.some Jvm.ClassFile.FieldType.int), [])
theorem E_X4_kept : I_X4_kept.2.1 = cX4_kept := rfl
theorem M_X4_kept : qh_M I_X4_kept 2 := ⟨by decide, by decide, by decide +kernel, q88, q625, by decide⟩
def T_X4_kept (g : qh_G) (a0 : Nat) (a1 : Int32) (a2 : Int32) (hp : qc_H) (K : Int32 → Prop) : Prop := (a1 = 0 → K a2) ∧ (¬ a1 = 0 → (¬ a2 = 5000 → ∀ u3 : Int32, u3 = (if a2 < 99 then a2 else 99) → ∀ u4 : Int32, u4 = (if 0 < u3 then u3 else 0) → K u4) ∧ (a2 = 5000 → K a2))
set_option maxHeartbeats 8000000 in
theorem C_X4_kept {g : qh_G} {x : qc_X} {d : Nat} {sd : String → Nat → Nat} (hO : qc_O g x) (hP : qc_P g qp_ts sd) (a0 : Nat) (a1 : Int32) (a2 : Int32) (hp : qc_H) (K : Int32 → Prop) (hz : T_X4_kept g a0 a1 a2 hp K) : qc_S g x (d + 0) 0 I_X4_kept [.ref a0, .int a1, .int a2] hp (oI (fun v t => hp = t ∧ K v)) := by
  refine qc_S.of (by decide) rfl (ls := [some (.ref a0), some (.int a1), some (.int a2)]) rfl (Nat.le_of_ble_eq_true rfl) (ct_c rfl (ct_c rfl (ct_c rfl ct_n))) ?_
  unfold T_X4_kept at hz
  have h := hz
  clear hz
  refine qc_iload_n E_X4_kept (by rfl) dX4_kept_0 ?_
  refine qc_if_eq E_X4_kept 11 dX4_kept_1 (by decide) (fun (c1 : a1 = 0) => ?_) (fun (c1 : ¬ a1 = 0) => ?_)
  · replace h := h.1 c1
    refine qc_iload_n E_X4_kept (by rfl) dX4_kept_11 ?_
    refine qc_goto E_X4_kept 25 dX4_kept_12 (by decide) ?_
    exact qc_iret E_X4_kept rfl dX4_kept_25 (⟨_, rfl, rfl, h⟩)
  · replace h := h.2 c1
    refine qc_iload_n E_X4_kept (by rfl) dX4_kept_4 ?_
    refine qc_sipush E_X4_kept 5000 (by decide) dX4_kept_5 ?_
    refine qc_icmp_ne E_X4_kept 15 dX4_kept_8 (by decide) (fun (c2 : ¬ a2 = 5000) => ?_) (fun (c2 : a2 = 5000) => ?_)
    · replace h := h.1 c2
      refine qc_iconst E_X4_kept 0 (by decide) dX4_kept_15 ?_
      refine qc_bipush E_X4_kept 99 (by decide) dX4_kept_16 ?_
      refine qc_iload_n E_X4_kept (by rfl) dX4_kept_18 ?_
      refine qc_mmin E_X4_kept rfl q626 q627 q106 q628 (Nat.le_of_ble_eq_true rfl) dX4_kept_19 ?_
      obtain ⟨u3, eu3⟩ : ∃ z : Int32, z = (if a2 < 99 then a2 else 99) := ⟨_, rfl⟩
      replace h := h u3 eu3
      rw [← eu3]
      refine qc_mmax E_X4_kept rfl q629 q630 q106 q631 (Nat.le_of_ble_eq_true rfl) dX4_kept_22 ?_
      obtain ⟨u4, eu4⟩ : ∃ z : Int32, z = (if 0 < u3 then u3 else 0) := ⟨_, rfl⟩
      replace h := h u4 eu4
      rw [← eu4]
      exact qc_iret E_X4_kept rfl dX4_kept_25 (⟨_, rfl, rfl, h⟩)
    · replace h := h.2 c2
      refine qc_iload_n E_X4_kept (by rfl) dX4_kept_11 ?_
      refine qc_goto E_X4_kept 25 dX4_kept_12 (by decide) ?_
      exact qc_iret E_X4_kept rfl dX4_kept_25 (⟨_, rfl, rfl, h⟩)
def U_kept (g : qh_G) (h : qc_H) (b : Nat) (a1 : Int32) (a2 : Int32) (K : Int32 → Prop) : Prop := eC h b 2 (T_X19_kept g b a1 a2 h K) ∨ eC h b 3 (T_X4_kept g b a1 a2 h K) ∨ eC h b 4 (T_X19_kept g b a1 a2 h K)
theorem V_kept {g : qh_G} {x : qc_X} {d c : Nat} {sd : String → Nat → Nat} {I : qh_I} {cc : ByteArray} {pc : Nat} {ls : List (Option Value)} {rest : List Value} {h : qc_H} {Q : qh_R → qc_H → Prop} {own : String} {index count b : Nat} {a1 : Int32} {a2 : Int32} {K : Int32 → Prop} (hO : qc_O g x) (hP : qc_P g qp_ts sd) (e : I.2.1 = cc) (ho : I.1.cls = own) (q1 : Cond.methodLink own index (⟨"QueryHarbor$Store", "kept", "(II)I"⟩ : MethodName) ∈ lw_all) (_ : True = True) (hw : (rest.map fun v => v.category).sum ≤ 8) (hd : decode cc pc = .ok (.invokeinterface index count, 5)) (hh : U_kept g h b a1 a2 K) (kk : ∀ v, K v → qc_wp g x (d + 1) c I (pc + 5) ls (.int v :: rest) h Q) : qc_wp g x (d + 1) c I pc ls (.int a2 :: .int a1 :: .ref b :: rest) h Q := by
  rcases hh with ⟨⟨fz, hb⟩, h⟩ | ⟨⟨fz, hb⟩, h⟩ | ⟨⟨fz, hb⟩, h⟩
  · refine qc_callFD (c := c) (k := 0) (As := [.int a1, .int a2]) (rest := rest) hO e ho M_X19_kept rfl ⟨by decide, by decide, by decide +kernel⟩ q1 q618 (qp_D hP (by decide) q616 q615 q619 q537) (ci := 2) rfl hb rfl rfl hw hd (qc_S.mono ?_ (C_X19_kept (d := d) hO hP b a1 a2 _ _ h))
    clear h
    rintro _ _ ⟨v, rfl, rfl, h⟩
    exact kk v h
  · refine qc_callF (c := c) (k := 0) (As := [.int a1, .int a2]) (rest := rest) hO e ho M_X4_kept rfl ⟨by decide, by decide, by decide +kernel⟩ q1 q621 q623 (qp_F hP q616 q615 q624 q622 q529) (ci := 3) rfl hb rfl rfl hw hd (qc_S.mono ?_ (C_X4_kept (d := d) hO hP b a1 a2 _ _ h))
    clear h
    rintro _ _ ⟨v, rfl, rfl, h⟩
    exact kk v h
  · refine qc_callFD (c := c) (k := 0) (As := [.int a1, .int a2]) (rest := rest) hO e ho M_X19_kept rfl ⟨by decide, by decide, by decide +kernel⟩ q1 q618 (qp_D hP (by decide) q616 q615 q619 q514) (ci := 4) rfl hb rfl rfl hw hd (qc_S.mono ?_ (C_X19_kept (d := d) hO hP b a1 a2 _ _ h))
    clear h
    rintro _ _ ⟨v, rfl, rfl, h⟩
    exact kk v h
def I_X9_init : qh_I := (yX9_init, cX9_init, 3, (Option.none : Option Jvm.ClassFile.FieldType), [])
theorem E_X9_init : I_X9_init.2.1 = cX9_init := rfl
theorem M_X9_init : qh_M I_X9_init 2 := ⟨by decide, by decide, by decide +kernel, q107, q637, by decide⟩
def T_X9_init (g : qh_G) (a0 : Nat) (a1 : Int32) (a2 : Nat) (hp : qc_H) (K : qc_H → Prop) : Prop := eP hp a0 8 0 (.int a1) (fun h1 => eP h1 a0 8 1 (.ref a2) (fun h2 => K h2))
set_option maxHeartbeats 8000000 in
theorem C_X9_init {g : qh_G} {x : qc_X} {d : Nat} {sd : String → Nat → Nat} (hO : qc_O g x) (hP : qc_P g qp_ts sd) (a0 : Nat) (a1 : Int32) (a2 : Nat) (hp : qc_H) (K : qc_H → Prop) (hz : T_X9_init g a0 a1 a2 hp K) : qc_S g x (d + 0) 0 I_X9_init [.ref a0, .int a1, .ref a2] hp (oV K) := by
  refine qc_S.of (by decide) rfl (ls := [some (.ref a0), some (.int a1), some (.ref a2)]) rfl (Nat.le_of_ble_eq_true rfl) (ct_c rfl (ct_c rfl (ct_c rfl ct_n))) ?_
  unfold T_X9_init at hz
  have h := hz
  clear hz
  refine qc_aload_n E_X9_init (by rfl) dX9_init_0 ?_
  refine qc_objInit E_X9_init rfl q638 q133 q134 dX9_init_1 (Nat.le_of_ble_eq_true rfl) ?_
  refine qc_aload_n E_X9_init (by rfl) dX9_init_4 ?_
  refine qc_iload_n E_X9_init (by rfl) dX9_init_5 ?_
  refine re_putF E_X9_init rfl rfl ck_X9 (by decide) 0 (by decide) q639 rfl rfl rfl rfl dX9_init_6 h ?_
  clear h
  intro h1 h
  refine qc_aload_n E_X9_init (by rfl) dX9_init_9 ?_
  refine qc_aload_n E_X9_init (by rfl) dX9_init_10 ?_
  refine re_putF E_X9_init rfl rfl ck_X9 (by decide) 1 (by decide) q643 rfl rfl rfl rfl dX9_init_11 h ?_
  clear h
  intro h2 h
  exact qc_vret E_X9_init rfl dX9_init_14 (⟨rfl, h⟩)
def I_X7_lay : qh_I := (yX7_lay, cX7_lay, 3, (Option.none : Option Jvm.ClassFile.FieldType), [])
theorem E_X7_lay : I_X7_lay.2.1 = cX7_lay := rfl
theorem M_X7_lay : qh_M I_X7_lay 1 := ⟨by decide, by decide, by decide +kernel, q94, q655, by decide⟩
def T_X7_lay (g : qh_G) (a0 : Nat) (a1 : Nat) (hp : qc_H) (c : Nat) (K : qc_H → Prop) : Prop := ∀ X1 : Int32 → Prop, (∀ (x2 : Int32), (eR hp a0 6 2 (fun v3 => eSz hp v3 (fun n4 => ∀ J11 : Prop, ((eR hp a0 6 2 (fun v12 => eAI g hp v12 x2 a1 c (fun h13 c14 => K h13))) → J11) → (n4 ≤ x2 → J11) ∧ (¬ n4 ≤ x2 → eR hp a0 6 2 (fun v6 => eGt hp v6 x2 (fun p7 => eC hp p7 8 (eI hp p7 8 0 (fun v8 => eI hp a1 8 0 (fun v9 => (v9 ≤ v8 → J11) ∧ (¬ v9 ≤ v8 → X1 (x2 + 1))))))))))) → X1 x2) → X1 0
set_option maxHeartbeats 8000000 in
theorem C_X7_lay {g : qh_G} {x : qc_X} {d : Nat} {sd : String → Nat → Nat} (hO : qc_O g x) (hP : qc_P g qp_ts sd) (a0 : Nat) (a1 : Nat) (hp : qc_H) (c : Nat) (K : qc_H → Prop) (hz : T_X7_lay g a0 a1 hp c K) : qc_S g x (d + 6) c I_X7_lay [.ref a0, .ref a1] hp (oV K) := by
  refine qc_S.of (by decide) rfl (ls := [some (.ref a0), some (.ref a1), none]) rfl (Nat.le_of_ble_eq_true rfl) (ct_c rfl (ct_c rfl ct_n)) ?_
  unfold T_X7_lay at hz
  have h := hz
  clear hz
  refine qc_iconst E_X7_lay 0 (by decide) dX7_lay_0 ?_
  refine qc_istore_n E_X7_lay (by decide) dX7_lay_1 ?_
  refine h (fun (x2 : Int32) => qc_wp g x (d + 6) c I_X7_lay 2 [some (.ref a0), some (.ref a1), some (.int x2)] [] hp (oV K)) ?_
  clear h
  intro x2 h
  refine qc_iload_n E_X7_lay (by rfl) dX7_lay_2 ?_
  refine qc_aload_n E_X7_lay (by rfl) dX7_lay_3 ?_
  refine re_getR E_X7_lay rfl ck_X7 (by decide) 2 (by decide) q276 dX7_lay_4 h ?_
  clear h
  intro v3 h
  refine re_size (d := d) hO E_X7_lay rfl q578 (Nat.le_of_ble_eq_true rfl) dX7_lay_7 h ?_
  clear h
  intro n4 h
  have jz := h (qc_wp g x (d + 6) c I_X7_lay 40 [some (.ref a0), some (.ref a1), some (.int x2)] [] hp (oV K))
  clear h
  have h := jz (by
    intro h
    refine qc_aload_n E_X7_lay (by rfl) dX7_lay_40 ?_
    refine re_getR E_X7_lay rfl ck_X7 (by decide) 2 (by decide) q276 dX7_lay_41 h ?_
    clear h
    intro v12 h
    refine qc_iload_n E_X7_lay (by rfl) dX7_lay_44 ?_
    refine qc_aload_n E_X7_lay (by rfl) dX7_lay_45 ?_
    refine re_addI (d := d) hO E_X7_lay rfl q656 (Nat.le_of_ble_eq_true rfl) dX7_lay_46 h ?_
    clear h
    intro h13 c14 h
    exact qc_vret E_X7_lay rfl dX7_lay_49 (⟨rfl, h⟩))
  clear jz
  refine qc_icmp_ge E_X7_lay 40 dX7_lay_10 (by decide) (fun (c5 : n4 ≤ x2) => ?_) (fun (c5 : ¬ n4 ≤ x2) => ?_)
  · replace h := h.1 c5
    exact h
  · replace h := h.2 c5
    refine qc_aload_n E_X7_lay (by rfl) dX7_lay_13 ?_
    refine re_getR E_X7_lay rfl ck_X7 (by decide) 2 (by decide) q276 dX7_lay_14 h ?_
    clear h
    intro v6 h
    refine qc_iload_n E_X7_lay (by rfl) dX7_lay_17 ?_
    refine re_get (d := d) hO E_X7_lay rfl q579 (Nat.le_of_ble_eq_true rfl) dX7_lay_18 h ?_
    clear h
    intro p7 h
    refine re_castS (ci := 8) hO E_X7_lay rfl rfl q593 dX7_lay_21 h ?_
    clear h
    intro h
    refine re_getI E_X7_lay rfl ck_X9 (by decide) 0 (by decide) q641 dX7_lay_24 h ?_
    clear h
    intro v8 h
    refine qc_aload_n E_X7_lay (by rfl) dX7_lay_27 ?_
    refine re_getI E_X7_lay rfl ck_X9 (by decide) 0 (by decide) q641 dX7_lay_28 h ?_
    clear h
    intro v9 h
    refine qc_icmp_ge E_X7_lay 40 dX7_lay_31 (by decide) (fun (c10 : v9 ≤ v8) => ?_) (fun (c10 : ¬ v9 ≤ v8) => ?_)
    · replace h := h.1 c10
      exact h
    · replace h := h.2 c10
      refine qc_iinc E_X7_lay 1 rfl (by decide) (by decide) dX7_lay_34 ?_
      refine qc_goto E_X7_lay 2 dX7_lay_37 (by decide) ?_
      exact h
def I_X10_init : qh_I := (yX10_init, cX10_init, 4, (Option.none : Option Jvm.ClassFile.FieldType), [])
theorem E_X10_init : I_X10_init.2.1 = cX10_init := rfl
theorem M_X10_init : qh_M I_X10_init 3 := ⟨by decide, by decide, by decide +kernel, q118, q994, by decide⟩
def T_X10_init (g : qh_G) (a0 : Nat) (a1 : Int32) (a2 : Int32) (a3 : Int32) (hp : qc_H) (K : qc_H → Prop) : Prop := eP hp a0 9 0 (.int a1) (fun h1 => eP h1 a0 9 1 (.int a2) (fun h2 => eP h2 a0 9 2 (.int a3) (fun h3 => K h3)))
set_option maxHeartbeats 8000000 in
theorem C_X10_init {g : qh_G} {x : qc_X} {d : Nat} {sd : String → Nat → Nat} (hO : qc_O g x) (hP : qc_P g qp_ts sd) (a0 : Nat) (a1 : Int32) (a2 : Int32) (a3 : Int32) (hp : qc_H) (K : qc_H → Prop) (hz : T_X10_init g a0 a1 a2 a3 hp K) : qc_S g x (d + 0) 0 I_X10_init [.ref a0, .int a1, .int a2, .int a3] hp (oV K) := by
  refine qc_S.of (by decide) rfl (ls := [some (.ref a0), some (.int a1), some (.int a2), some (.int a3)]) rfl (Nat.le_of_ble_eq_true rfl) (ct_c rfl (ct_c rfl (ct_c rfl (ct_c rfl ct_n)))) ?_
  unfold T_X10_init at hz
  have h := hz
  clear hz
  refine qc_aload_n E_X10_init (by rfl) dX10_init_0 ?_
  refine qc_objInit E_X10_init rfl q995 q133 q134 dX10_init_1 (Nat.le_of_ble_eq_true rfl) ?_
  refine qc_aload_n E_X10_init (by rfl) dX10_init_4 ?_
  refine qc_iload_n E_X10_init (by rfl) dX10_init_5 ?_
  refine re_putF E_X10_init rfl rfl ck_X10 (by decide) 0 (by decide) q996 rfl rfl rfl rfl dX10_init_6 h ?_
  clear h
  intro h1 h
  refine qc_aload_n E_X10_init (by rfl) dX10_init_9 ?_
  refine qc_iload_n E_X10_init (by rfl) dX10_init_10 ?_
  refine re_putF E_X10_init rfl rfl ck_X10 (by decide) 1 (by decide) q998 rfl rfl rfl rfl dX10_init_11 h ?_
  clear h
  intro h2 h
  refine qc_aload_n E_X10_init (by rfl) dX10_init_14 ?_
  refine qc_iload_n E_X10_init (by rfl) dX10_init_15 ?_
  refine re_putF E_X10_init rfl rfl ck_X10 (by decide) 2 (by decide) q1000 rfl rfl rfl rfl dX10_init_16 h ?_
  clear h
  intro h3 h
  exact qc_vret E_X10_init rfl dX10_init_19 (⟨rfl, h⟩)
def I_X1_drop : qh_I := (yX1_drop, cX1_drop, 4, (Option.none : Option Jvm.ClassFile.FieldType), [])
theorem E_X1_drop : I_X1_drop.2.1 = cX1_drop := rfl
theorem M_X1_drop : qh_M I_X1_drop 1 := ⟨by decide, by decide, by decide +kernel, q85, q1025, by decide⟩
def T_X1_drop (g : qh_G) (a0 : Nat) (a1 : Nat) (hp : qc_H) (K : qc_H → Prop) : Prop := eR hp a0 0 4 (fun v1 => eSz hp v1 (fun n2 => ∀ X3 : Int32 → qc_H → Prop, (∀ (x4 : Int32) (h5 : qc_H), ((x4 < 0 → K h5) ∧ (¬ x4 < 0 → eR h5 a0 0 4 (fun v7 => eGt h5 v7 x4 (fun p8 => eC h5 p8 14 (eR h5 p8 14 0 (fun v9 => eI h5 v9 6 0 (fun v10 => eI h5 a1 9 0 (fun v11 => (¬ v10 = v11 → X3 (x4 + (-1)) h5) ∧ (v10 = v11 → eI h5 p8 14 4 (fun v13 => eI h5 a1 9 2 (fun v14 => (v14 ≤ v13 → X3 (x4 + (-1)) h5) ∧ (¬ v14 ≤ v13 → eR h5 a0 0 4 (fun v16 => eRm h5 v16 x4 (fun p18 h17 => X3 (x4 + (-1)) h17)))))))))))))) → X3 x4 h5) → X3 (n2 - 1) hp))
set_option maxHeartbeats 8000000 in
theorem C_X1_drop {g : qh_G} {x : qc_X} {d : Nat} {sd : String → Nat → Nat} (hO : qc_O g x) (hP : qc_P g qp_ts sd) (a0 : Nat) (a1 : Nat) (hp : qc_H) (K : qc_H → Prop) (hz : T_X1_drop g a0 a1 hp K) : qc_S g x (d + 6) 0 I_X1_drop [.ref a0, .ref a1] hp (oV K) := by
  refine qc_S.of (by decide) rfl (ls := [some (.ref a0), some (.ref a1), none, none]) rfl (Nat.le_of_ble_eq_true rfl) (ct_c rfl (ct_c rfl ct_n)) ?_
  unfold T_X1_drop at hz
  have h := hz
  clear hz
  refine qc_aload_n E_X1_drop (by rfl) dX1_drop_0 ?_
  refine re_getR E_X1_drop rfl ck_X1 (by decide) 4 (by decide) q303 dX1_drop_1 h ?_
  clear h
  intro v1 h
  refine re_size (d := d) hO E_X1_drop rfl q366 (Nat.le_of_ble_eq_true rfl) dX1_drop_4 h ?_
  clear h
  intro n2 h
  refine qc_iconst E_X1_drop 1 (by decide) dX1_drop_7 ?_
  refine qc_isub E_X1_drop dX1_drop_8 ?_
  refine qc_istore_n E_X1_drop (by decide) dX1_drop_9 ?_
  refine h (fun (x4 : Int32) (h5 : qc_H) => qc_wp g x (d + 6) 0 I_X1_drop 10 [some (.ref a0), some (.ref a1), some (.int x4), none] [] h5 (oV K)) ?_
  clear h
  intro x4 h5 h
  refine qc_iload_n E_X1_drop (by rfl) dX1_drop_10 ?_
  refine qc_if_lt E_X1_drop 66 dX1_drop_11 (by decide) (fun (c6 : x4 < 0) => ?_) (fun (c6 : ¬ x4 < 0) => ?_)
  · replace h := h.1 c6
    exact qc_vret E_X1_drop rfl dX1_drop_66 (⟨rfl, h⟩)
  · replace h := h.2 c6
    refine qc_aload_n E_X1_drop (by rfl) dX1_drop_14 ?_
    refine re_getR E_X1_drop rfl ck_X1 (by decide) 4 (by decide) q303 dX1_drop_15 h ?_
    clear h
    intro v7 h
    refine qc_iload_n E_X1_drop (by rfl) dX1_drop_18 ?_
    refine re_get (d := d) hO E_X1_drop rfl q1013 (Nat.le_of_ble_eq_true rfl) dX1_drop_19 h ?_
    clear h
    intro p8 h
    refine re_castS (ci := 14) hO E_X1_drop rfl rfl q1026 dX1_drop_22 h ?_
    clear h
    intro h
    refine qc_astore_n E_X1_drop (by decide) dX1_drop_25 ?_
    refine qc_aload_n E_X1_drop (by rfl) dX1_drop_26 ?_
    refine re_getR E_X1_drop rfl ck_X17 (by decide) 0 (by decide) q1486 dX1_drop_27 h ?_
    clear h
    intro v9 h
    refine re_getI E_X1_drop rfl ck_X7 (by decide) 0 (by decide) q272 dX1_drop_30 h ?_
    clear h
    intro v10 h
    refine qc_aload_n E_X1_drop (by rfl) dX1_drop_33 ?_
    refine re_getI E_X1_drop rfl ck_X10 (by decide) 0 (by decide) q997 dX1_drop_34 h ?_
    clear h
    intro v11 h
    refine qc_icmp_ne E_X1_drop 60 dX1_drop_37 (by decide) (fun (c12 : ¬ v10 = v11) => ?_) (fun (c12 : v10 = v11) => ?_)
    · replace h := h.1 c12
      refine qc_iinc E_X1_drop (-1) rfl (by decide) (by decide) dX1_drop_60 ?_
      refine qc_goto E_X1_drop 10 dX1_drop_63 (by decide) ?_
      refine qc_drop 3 ?_
      exact h
    · replace h := h.2 c12
      refine qc_aload_n E_X1_drop (by rfl) dX1_drop_40 ?_
      refine re_getI E_X1_drop rfl ck_X17 (by decide) 4 (by decide) q1494 dX1_drop_41 h ?_
      clear h
      intro v13 h
      refine qc_aload_n E_X1_drop (by rfl) dX1_drop_44 ?_
      refine re_getI E_X1_drop rfl ck_X10 (by decide) 2 (by decide) q1001 dX1_drop_45 h ?_
      clear h
      intro v14 h
      refine qc_icmp_ge E_X1_drop 60 dX1_drop_48 (by decide) (fun (c15 : v14 ≤ v13) => ?_) (fun (c15 : ¬ v14 ≤ v13) => ?_)
      · replace h := h.1 c15
        refine qc_iinc E_X1_drop (-1) rfl (by decide) (by decide) dX1_drop_60 ?_
        refine qc_goto E_X1_drop 10 dX1_drop_63 (by decide) ?_
        refine qc_drop 3 ?_
        exact h
      · replace h := h.2 c15
        refine qc_aload_n E_X1_drop (by rfl) dX1_drop_51 ?_
        refine re_getR E_X1_drop rfl ck_X1 (by decide) 4 (by decide) q303 dX1_drop_52 h ?_
        clear h
        intro v16 h
        refine qc_iload_n E_X1_drop (by rfl) dX1_drop_55 ?_
        refine re_remove (d := d) hO E_X1_drop rfl q1014 (Nat.le_of_ble_eq_true rfl) dX1_drop_56 h ?_
        clear h
        intro p18 h17 h
        refine qc_pop E_X1_drop rfl dX1_drop_59 ?_
        refine qc_iinc E_X1_drop (-1) rfl (by decide) (by decide) dX1_drop_60 ?_
        refine qc_goto E_X1_drop 10 dX1_drop_63 (by decide) ?_
        refine qc_drop 3 ?_
        exact h
def I_X1_goTo : qh_I := (yX1_goTo, cX1_goTo, 4, (Option.none : Option Jvm.ClassFile.FieldType), [])
theorem E_X1_goTo : I_X1_goTo.2.1 = cX1_goTo := rfl
theorem M_X1_goTo : qh_M I_X1_goTo 1 := ⟨by decide, by decide, by decide +kernel, q85, q1012, by decide⟩
def T_X1_goTo (g : qh_G) (a0 : Nat) (a1 : Int32) (hp : qc_H) (K : qc_H → Prop) : Prop := eP hp a0 0 15 (.int a1) (fun h1 => eR h1 a0 0 3 (fun v2 => eSz h1 v2 (fun n3 => ∀ X4 : Int32 → qc_H → Prop, (∀ (x5 : Int32) (h6 : qc_H), ((x5 < 0 → eR h6 a0 0 4 (fun v8 => eSz h6 v8 (fun n9 => ∀ X10 : Int32 → qc_H → Prop, (∀ (x11 : Int32) (h12 : qc_H), ((x11 < 0 → K h12) ∧ (¬ x11 < 0 → eR h12 a0 0 4 (fun v14 => eGt h12 v14 x11 (fun p15 => eC h12 p15 14 (eI h12 a0 0 15 (fun v16 => eI h12 p15 14 3 (fun v17 => eR h12 p15 14 0 (fun v18 => eR h12 v18 6 1 (fun v19 => eI h12 v19 1 5 (fun v20 => ((v16 - v17) ≤ v20 → X10 (x11 + (-1)) h12) ∧ (¬ (v16 - v17) ≤ v20 → eR h12 a0 0 4 (fun v22 => eRm h12 v22 x11 (fun p24 h23 => X10 (x11 + (-1)) h23))))))))))))) → X10 x11 h12) → X10 (n9 - 1) h6))) ∧ (¬ x5 < 0 → eR h6 a0 0 3 (fun v25 => eGt h6 v25 x5 (fun p26 => eC h6 p26 9 (eI h6 p26 9 1 (fun v27 => eI h6 a0 0 15 (fun v28 => (v28 < v27 → X4 (x5 + (-1)) h6) ∧ (¬ v28 < v27 → eR h6 a0 0 3 (fun v30 => eRm h6 v30 x5 (fun p32 h31 => eC h31 a0 0 (T_X1_drop g a0 p26 h31 (fun h33 => X4 (x5 + (-1)) h33)))))))))))) → X4 x5 h6) → X4 (n3 - 1) h1)))
set_option maxHeartbeats 8000000 in
theorem C_X1_goTo {g : qh_G} {x : qc_X} {d : Nat} {sd : String → Nat → Nat} (hO : qc_O g x) (hP : qc_P g qp_ts sd) (a0 : Nat) (a1 : Int32) (hp : qc_H) (K : qc_H → Prop) (hz : T_X1_goTo g a0 a1 hp K) : qc_S g x (d + 7) 0 I_X1_goTo [.ref a0, .int a1] hp (oV K) := by
  refine qc_S.of (by decide) rfl (ls := [some (.ref a0), some (.int a1), none, none]) rfl (Nat.le_of_ble_eq_true rfl) (ct_c rfl (ct_c rfl ct_n)) ?_
  unfold T_X1_goTo at hz
  have h := hz
  clear hz
  refine qc_aload_n E_X1_goTo (by rfl) dX1_goTo_0 ?_
  refine qc_iload_n E_X1_goTo (by rfl) dX1_goTo_1 ?_
  refine re_put E_X1_goTo rfl ck_X1 (by decide) 15 (by decide) q316 rfl rfl rfl dX1_goTo_2 h ?_
  clear h
  intro h1 h
  refine qc_aload_n E_X1_goTo (by rfl) dX1_goTo_5 ?_
  refine re_getR E_X1_goTo rfl ck_X1 (by decide) 3 (by decide) q302 dX1_goTo_6 h ?_
  clear h
  intro v2 h
  refine re_size (d := d + 1) hO E_X1_goTo rfl q366 (Nat.le_of_ble_eq_true rfl) dX1_goTo_9 h ?_
  clear h
  intro n3 h
  refine qc_iconst E_X1_goTo 1 (by decide) dX1_goTo_12 ?_
  refine qc_isub E_X1_goTo dX1_goTo_13 ?_
  refine qc_istore_n E_X1_goTo (by decide) dX1_goTo_14 ?_
  refine qc_drop 1 ?_
  refine h (fun (x5 : Int32) (h6 : qc_H) => qc_wp g x (d + 7) 0 I_X1_goTo 15 [some (.ref a0), none, some (.int x5), none] [] h6 (oV K)) ?_
  clear h
  intro x5 h6 h
  refine qc_iload_n E_X1_goTo (by rfl) dX1_goTo_15 ?_
  refine qc_if_lt E_X1_goTo 62 dX1_goTo_16 (by decide) (fun (c7 : x5 < 0) => ?_) (fun (c7 : ¬ x5 < 0) => ?_)
  · replace h := h.1 c7
    refine qc_aload_n E_X1_goTo (by rfl) dX1_goTo_62 ?_
    refine re_getR E_X1_goTo rfl ck_X1 (by decide) 4 (by decide) q303 dX1_goTo_63 h ?_
    clear h
    intro v8 h
    refine re_size (d := d + 1) hO E_X1_goTo rfl q366 (Nat.le_of_ble_eq_true rfl) dX1_goTo_66 h ?_
    clear h
    intro n9 h
    refine qc_iconst E_X1_goTo 1 (by decide) dX1_goTo_69 ?_
    refine qc_isub E_X1_goTo dX1_goTo_70 ?_
    refine qc_istore_n E_X1_goTo (by decide) dX1_goTo_71 ?_
    refine h (fun (x11 : Int32) (h12 : qc_H) => qc_wp g x (d + 7) 0 I_X1_goTo 72 [some (.ref a0), none, some (.int x11), none] [] h12 (oV K)) ?_
    clear h
    intro x11 h12 h
    refine qc_iload_n E_X1_goTo (by rfl) dX1_goTo_72 ?_
    refine qc_if_lt E_X1_goTo 125 dX1_goTo_73 (by decide) (fun (c13 : x11 < 0) => ?_) (fun (c13 : ¬ x11 < 0) => ?_)
    · replace h := h.1 c13
      exact qc_vret E_X1_goTo rfl dX1_goTo_125 (⟨rfl, h⟩)
    · replace h := h.2 c13
      refine qc_aload_n E_X1_goTo (by rfl) dX1_goTo_76 ?_
      refine re_getR E_X1_goTo rfl ck_X1 (by decide) 4 (by decide) q303 dX1_goTo_77 h ?_
      clear h
      intro v14 h
      refine qc_iload_n E_X1_goTo (by rfl) dX1_goTo_80 ?_
      refine re_get (d := d + 1) hO E_X1_goTo rfl q1013 (Nat.le_of_ble_eq_true rfl) dX1_goTo_81 h ?_
      clear h
      intro p15 h
      refine re_castS (ci := 14) hO E_X1_goTo rfl rfl q1026 dX1_goTo_84 h ?_
      clear h
      intro h
      refine qc_astore_n E_X1_goTo (by decide) dX1_goTo_87 ?_
      refine qc_aload_n E_X1_goTo (by rfl) dX1_goTo_88 ?_
      refine re_getI E_X1_goTo rfl ck_X1 (by decide) 15 (by decide) q316 dX1_goTo_89 h ?_
      clear h
      intro v16 h
      refine qc_aload_n E_X1_goTo (by rfl) dX1_goTo_92 ?_
      refine re_getI E_X1_goTo rfl ck_X17 (by decide) 3 (by decide) q1492 dX1_goTo_93 h ?_
      clear h
      intro v17 h
      refine qc_isub E_X1_goTo dX1_goTo_96 ?_
      refine qc_aload_n E_X1_goTo (by rfl) dX1_goTo_97 ?_
      refine re_getR E_X1_goTo rfl ck_X17 (by decide) 0 (by decide) q1486 dX1_goTo_98 h ?_
      clear h
      intro v18 h
      refine re_getR E_X1_goTo rfl ck_X7 (by decide) 1 (by decide) q275 dX1_goTo_101 h ?_
      clear h
      intro v19 h
      refine re_getI E_X1_goTo rfl ck_X2 (by decide) 5 (by decide) q160 dX1_goTo_104 h ?_
      clear h
      intro v20 h
      refine qc_icmp_le E_X1_goTo 119 dX1_goTo_107 (by decide) (fun (c21 : (v16 - v17) ≤ v20) => ?_) (fun (c21 : ¬ (v16 - v17) ≤ v20) => ?_)
      · replace h := h.1 c21
        refine qc_iinc E_X1_goTo (-1) rfl (by decide) (by decide) dX1_goTo_119 ?_
        refine qc_goto E_X1_goTo 72 dX1_goTo_122 (by decide) ?_
        refine qc_drop 3 ?_
        exact h
      · replace h := h.2 c21
        refine qc_aload_n E_X1_goTo (by rfl) dX1_goTo_110 ?_
        refine re_getR E_X1_goTo rfl ck_X1 (by decide) 4 (by decide) q303 dX1_goTo_111 h ?_
        clear h
        intro v22 h
        refine qc_iload_n E_X1_goTo (by rfl) dX1_goTo_114 ?_
        refine re_remove (d := d + 1) hO E_X1_goTo rfl q1014 (Nat.le_of_ble_eq_true rfl) dX1_goTo_115 h ?_
        clear h
        intro p24 h23 h
        refine qc_pop E_X1_goTo rfl dX1_goTo_118 ?_
        refine qc_iinc E_X1_goTo (-1) rfl (by decide) (by decide) dX1_goTo_119 ?_
        refine qc_goto E_X1_goTo 72 dX1_goTo_122 (by decide) ?_
        refine qc_drop 3 ?_
        exact h
  · replace h := h.2 c7
    refine qc_aload_n E_X1_goTo (by rfl) dX1_goTo_19 ?_
    refine re_getR E_X1_goTo rfl ck_X1 (by decide) 3 (by decide) q302 dX1_goTo_20 h ?_
    clear h
    intro v25 h
    refine qc_iload_n E_X1_goTo (by rfl) dX1_goTo_23 ?_
    refine re_get (d := d + 1) hO E_X1_goTo rfl q1013 (Nat.le_of_ble_eq_true rfl) dX1_goTo_24 h ?_
    clear h
    intro p26 h
    refine re_castS (ci := 9) hO E_X1_goTo rfl rfl q990 dX1_goTo_27 h ?_
    clear h
    intro h
    refine qc_astore_n E_X1_goTo (by decide) dX1_goTo_30 ?_
    refine qc_aload_n E_X1_goTo (by rfl) dX1_goTo_31 ?_
    refine re_getI E_X1_goTo rfl ck_X10 (by decide) 1 (by decide) q999 dX1_goTo_32 h ?_
    clear h
    intro v27 h
    refine qc_aload_n E_X1_goTo (by rfl) dX1_goTo_35 ?_
    refine re_getI E_X1_goTo rfl ck_X1 (by decide) 15 (by decide) q316 dX1_goTo_36 h ?_
    clear h
    intro v28 h
    refine qc_icmp_gt E_X1_goTo 56 dX1_goTo_39 (by decide) (fun (c29 : v28 < v27) => ?_) (fun (c29 : ¬ v28 < v27) => ?_)
    · replace h := h.1 c29
      refine qc_iinc E_X1_goTo (-1) rfl (by decide) (by decide) dX1_goTo_56 ?_
      refine qc_goto E_X1_goTo 15 dX1_goTo_59 (by decide) ?_
      refine qc_drop 3 ?_
      exact h
    · replace h := h.2 c29
      refine qc_aload_n E_X1_goTo (by rfl) dX1_goTo_42 ?_
      refine re_getR E_X1_goTo rfl ck_X1 (by decide) 3 (by decide) q302 dX1_goTo_43 h ?_
      clear h
      intro v30 h
      refine qc_iload_n E_X1_goTo (by rfl) dX1_goTo_46 ?_
      refine re_remove (d := d + 1) hO E_X1_goTo rfl q1014 (Nat.le_of_ble_eq_true rfl) dX1_goTo_47 h ?_
      clear h
      intro p32 h31 h
      refine qc_pop E_X1_goTo rfl dX1_goTo_50 ?_
      refine qc_aload_n E_X1_goTo (by rfl) dX1_goTo_51 ?_
      refine qc_aload_n E_X1_goTo (by rfl) dX1_goTo_52 ?_
      obtain ⟨⟨fz, hb⟩, h⟩ := h
      refine qc_callV (c := 0) (k := 0) (As := [.ref p26]) (rest := []) hO E_X1_goTo rfl M_X1_drop rfl q1022 q1024 qs10 (ci := 0) rfl rfl hb rfl rfl (Nat.le_of_ble_eq_true rfl) dX1_goTo_53 (qc_S.mono ?_ (C_X1_drop (d := d) hO hP a0 p26 h31 _ h))
      clear h
      clear hb
      rintro _ h33 ⟨rfl, h⟩
      refine K1_v ?_
      refine qc_iinc E_X1_goTo (-1) rfl (by decide) (by decide) dX1_goTo_56 ?_
      refine qc_goto E_X1_goTo 15 dX1_goTo_59 (by decide) ?_
      refine qc_drop 3 ?_
      exact h
def I_X1_written : qh_I := (yX1_written, cX1_written, 2, (Option.none : Option Jvm.ClassFile.FieldType), [])
theorem E_X1_written : I_X1_written.2.1 = cX1_written := rfl
theorem M_X1_written : qh_M I_X1_written 1 := ⟨by decide, by decide, by decide +kernel, q85, q961, by decide⟩
def T_X1_written (g : qh_G) (a0 : Nat) (a1 : Nat) (hp : qc_H) (c : Nat) (K : qc_H → Prop) : Prop := eI hp a0 0 14 (fun v1 => eP hp a0 0 14 (.int (v1 + 1)) (fun h2 => eR h2 a1 6 3 (fun v3 => eI h2 a0 0 14 (fun v4 => eBx h2 v4 c (fun w7 h5 c6 => eAd g h5 v3 w7 c6 (fun h8 c9 => eR h8 a0 0 3 (fun v10 => eN h8 c9 9 3 [.int 0, .int 0, .int 0] (fun w11 h12 c13 => eI h12 a1 6 0 (fun v14 => eI h12 a0 0 15 (fun v15 => eR h12 a1 6 1 (fun v16 => eI h12 v16 1 2 (fun v17 => eI h12 a0 0 14 (fun v18 => T_X10_init g w11 v14 (v15 + v17) v18 h12 (fun h19 => eAd g h19 v10 w11 c13 (fun h20 c21 => eI h20 a0 0 15 (fun v22 => eC h20 a0 0 (T_X1_goTo g a0 v22 h20 (fun h23 => K h23))))))))))))))))))
set_option maxHeartbeats 8000000 in
theorem C_X1_written {g : qh_G} {x : qc_X} {d : Nat} {sd : String → Nat → Nat} (hO : qc_O g x) (hP : qc_P g qp_ts sd) (a0 : Nat) (a1 : Nat) (hp : qc_H) (c : Nat) (K : qc_H → Prop) (hz : T_X1_written g a0 a1 hp c K) : qc_S g x (d + 8) c I_X1_written [.ref a0, .ref a1] hp (oV K) := by
  refine qc_S.of (by decide) rfl (ls := [some (.ref a0), some (.ref a1)]) rfl (Nat.le_of_ble_eq_true rfl) (ct_c rfl (ct_c rfl ct_n)) ?_
  unfold T_X1_written at hz
  have h := hz
  clear hz
  refine qc_aload_n E_X1_written (by rfl) dX1_written_0 ?_
  refine qc_dup E_X1_written rfl dX1_written_1 ?_
  refine re_getI E_X1_written rfl ck_X1 (by decide) 14 (by decide) q315 dX1_written_2 h ?_
  clear h
  intro v1 h
  refine qc_iconst E_X1_written 1 (by decide) dX1_written_5 ?_
  refine qc_iadd E_X1_written dX1_written_6 ?_
  refine re_put E_X1_written rfl ck_X1 (by decide) 14 (by decide) q315 rfl rfl rfl dX1_written_7 h ?_
  clear h
  intro h2 h
  refine qc_aload_n E_X1_written (by rfl) dX1_written_10 ?_
  refine re_getR E_X1_written rfl ck_X7 (by decide) 3 (by decide) q280 dX1_written_11 h ?_
  clear h
  intro v3 h
  refine qc_aload_n E_X1_written (by rfl) dX1_written_14 ?_
  refine re_getI E_X1_written rfl ck_X1 (by decide) 14 (by decide) q315 dX1_written_15 h ?_
  clear h
  intro v4 h
  refine re_box (d := d + 2) hO E_X1_written rfl q962 (Nat.le_of_ble_eq_true rfl) dX1_written_18 h ?_
  clear h
  intro w7 h5 c6 h
  refine re_add (d := d + 2) hO E_X1_written rfl q982 (Nat.le_of_ble_eq_true rfl) dX1_written_21 h ?_
  clear h
  intro h8 c9 h
  refine qc_pop E_X1_written rfl dX1_written_24 ?_
  refine qc_aload_n E_X1_written (by rfl) dX1_written_25 ?_
  refine re_getR E_X1_written rfl ck_X1 (by decide) 3 (by decide) q302 dX1_written_26 h ?_
  clear h
  intro v10 h
  refine re_new hO E_X1_written rfl ck_X10 q990 q991 q118 df_X10 dX1_written_29 h ?_
  clear h
  intro w11 h12 c13 h
  refine qc_dup E_X1_written rfl dX1_written_32 ?_
  refine qc_aload_n E_X1_written (by rfl) dX1_written_33 ?_
  refine re_getI E_X1_written rfl ck_X7 (by decide) 0 (by decide) q272 dX1_written_34 h ?_
  clear h
  intro v14 h
  refine qc_aload_n E_X1_written (by rfl) dX1_written_37 ?_
  refine re_getI E_X1_written rfl ck_X1 (by decide) 15 (by decide) q316 dX1_written_38 h ?_
  clear h
  intro v15 h
  refine qc_aload_n E_X1_written (by rfl) dX1_written_41 ?_
  refine re_getR E_X1_written rfl ck_X7 (by decide) 1 (by decide) q275 dX1_written_42 h ?_
  clear h
  intro v16 h
  refine re_getI E_X1_written rfl ck_X2 (by decide) 2 (by decide) q154 dX1_written_45 h ?_
  clear h
  intro v17 h
  refine qc_iadd E_X1_written dX1_written_48 ?_
  refine qc_aload_n E_X1_written (by rfl) dX1_written_49 ?_
  refine re_getI E_X1_written rfl ck_X1 (by decide) 14 (by decide) q315 dX1_written_50 h ?_
  clear h
  intro v18 h
  refine qc_callI (c := c13) (k := 0) (As := [.int v14, .int (v15 + v17), .int v18]) (rest := [.ref w11, .ref v10]) E_X1_written rfl M_X10_init rfl rfl rfl q992 q993 rfl rfl (Nat.le_of_ble_eq_true rfl) dX1_written_53 (qc_S.mono ?_ (C_X10_init (d := d + 7) hO hP w11 v14 (v15 + v17) v18 h12 _ h))
  clear h
  rintro _ h19 ⟨rfl, h⟩
  refine K1_v ?_
  refine re_add (d := d + 2) hO E_X1_written rfl q982 (Nat.le_of_ble_eq_true rfl) dX1_written_56 h ?_
  clear h
  intro h20 c21 h
  refine qc_pop E_X1_written rfl dX1_written_59 ?_
  refine qc_aload_n E_X1_written (by rfl) dX1_written_60 ?_
  refine qc_aload_n E_X1_written (by rfl) dX1_written_61 ?_
  refine re_getI E_X1_written rfl ck_X1 (by decide) 15 (by decide) q316 dX1_written_62 h ?_
  clear h
  intro v22 h
  obtain ⟨⟨fz, hb⟩, h⟩ := h
  refine qc_callV (c := c21) (k := 0) (As := [.int v22]) (rest := []) hO E_X1_written rfl M_X1_goTo rfl q1009 q1011 qs8 (ci := 0) rfl rfl hb rfl rfl (Nat.le_of_ble_eq_true rfl) dX1_written_65 (qc_S.mono ?_ (C_X1_goTo (d := d) hO hP a0 v22 h20 _ h))
  clear h
  clear hb
  rintro _ h23 ⟨rfl, h⟩
  refine K1_v ?_
  exact qc_vret E_X1_written rfl dX1_written_68 (⟨rfl, h⟩)
def I_X1_add : qh_I := (yX1_add, cX1_add, 11, (Option.some Jvm.ClassFile.FieldType.int), [])
theorem E_X1_add : I_X1_add.2.1 = cX1_add := rfl
theorem M_X1_add : qh_M I_X1_add 5 := ⟨by decide, by decide, by decide +kernel, q85, q489, by decide⟩
def T_X1_add (g : qh_G) (a0 : Nat) (a1 : Int32) (a2 : Int32) (a3 : Int32) (a4 : Int32) (a5 : Int32) (hp : qc_H) (c : Nat) (K : Int32 → qc_H → Prop) (KX : String → qc_H → Prop) : Prop := eC hp a0 0 (eK c (fun c2 k1 => T_X1_sourceAt g a0 a1 hp k1 (fun r3 => eNI g.2.2.2.1 hp 4 c2 (fun w4 h5 c6 => eW g.2.2.2.1 h5 w4 0 a2 (fun h7 => eW g.2.2.2.1 h7 w4 1 a3 (fun h8 => eW g.2.2.2.1 h8 w4 2 a4 (fun h9 => eW g.2.2.2.1 h9 w4 3 a5 (fun h10 => eR h10 r3 6 1 (fun v11 => eR h10 v11 1 0 (fun v12 => ∀ X13 : Int32 → Nat → Prop, (∀ (x14 : Int32) (c15 : Nat), ((4 ≤ x14 → eR h10 r3 6 2 (fun v17 => eSz h10 v17 (fun n18 => ∀ J27 : Int32 → Prop, (∀ (x28 : Int32), (eK c15 (fun c30 k29 => T_X1_allowed g x28 h10 k29 (∀ X31 : Int32 → qc_H → Prop, (∀ (x32 : Int32) (h33 : qc_H), ((4 ≤ x32 → U_hasKey g h33 v12 (fun r35 => ∀ J39 : Int32 → Prop, (∀ (x40 : Int32), (eI h33 r3 6 4 (fun v41 => eP h33 r3 6 4 (.int (v41 + 1)) (fun h42 => eN h42 c30 8 2 [.int 0, .null] (fun w43 h44 c45 => T_X9_init g w43 x40 w4 h44 (fun h46 => eC h46 r3 6 (eK c45 (fun c48 k47 => T_X7_lay g r3 w43 h46 k47 (fun h49 => eC h49 a0 0 (eK c48 (fun c51 k50 => T_X1_written g a0 r3 h49 k50 (fun h52 => K x40 h52))))))))))) → J39 x40) → (r35 = 0 → eI h33 r3 6 4 (fun v38 => J39 v38)) ∧ (¬ r35 = 0 → J39 a2))) ∧ (¬ 4 ≤ x32 → eA g.2.2.2.1 h33 w4 x32 (fun v53 => U_kept g h33 v12 x32 v53 (fun r54 => eI h33 a0 0 13 (fun v55 => eA g.2.2.2.1 h33 w4 x32 (fun v56 => ∀ J58 : Int32 → Prop, (∀ (x59 : Int32), (eP h33 a0 0 13 (.int (v55 + x59)) (fun h60 => eW g.2.2.2.1 h60 w4 x32 r54 (fun h61 => X31 (x32 + 1) h61))) → J58 x59) → (r54 = v56 → J58 0) ∧ (¬ r54 = v56 → J58 1))))))) → X31 x32 h33) → X31 0 h10) (fun Ez => KX Ez h10))) → J27 x28) → (12 ≤ n18 → J27 0) ∧ (¬ 12 ≤ n18 → U_hasKey g h10 v12 (fun r20 => (r20 = 0 → eI h10 r3 6 4 (fun v23 => (60 ≤ v23 → J27 0) ∧ (¬ 60 ≤ v23 → J27 1))) ∧ (¬ r20 = 0 → eC h10 r3 6 (T_X7_placeOf g r3 a2 h10 (fun r25 => (¬ r25 = ((-1)) → J27 0) ∧ (r25 = ((-1)) → J27 1))))))))) ∧ (¬ 4 ≤ x14 → eA g.2.2.2.1 h10 w4 x14 (fun v62 => U_isFit g h10 v12 x14 v62 (fun r63 => eK c15 (fun c66 k65 => T_X1_fit g r63 h10 k65 (X13 (x14 + 1) c66) (fun Ez => KX Ez h10)))))) → X13 x14 c15) → X13 0 c6)))))))) (fun Ez => KX Ez hp)))
set_option maxHeartbeats 8000000 in
theorem C_X1_add {g : qh_G} {x : qc_X} {d : Nat} {sd : String → Nat → Nat} (hO : qc_O g x) (hP : qc_P g qp_ts sd) (a0 : Nat) (a1 : Int32) (a2 : Int32) (a3 : Int32) (a4 : Int32) (a5 : Int32) (hp : qc_H) (c : Nat) (K : Int32 → qc_H → Prop) (KX : String → qc_H → Prop) (hz : T_X1_add g a0 a1 a2 a3 a4 a5 hp c K KX) : qc_S g x (d + 9) c I_X1_add [.ref a0, .int a1, .int a2, .int a3, .int a4, .int a5] hp (oX (oI K) KX) := by
  refine qc_S.of (by decide) rfl (ls := [some (.ref a0), some (.int a1), some (.int a2), some (.int a3), some (.int a4), some (.int a5), none, none, none, none, none]) rfl (Nat.le_of_ble_eq_true rfl) (ct_c rfl (ct_c rfl (ct_c rfl (ct_c rfl (ct_c rfl (ct_c rfl ct_n)))))) ?_
  unfold T_X1_add at hz
  have h := hz
  clear hz
  refine qc_aload_n E_X1_add (by rfl) dX1_add_0 ?_
  refine qc_iload_n E_X1_add (by rfl) dX1_add_1 ?_
  obtain ⟨⟨fz, hb⟩, c2, k1, rfl, h⟩ := h
  refine qc_callV (c := c2) (k := k1) (As := [.int a1]) (rest := []) hO E_X1_add rfl M_X1_sourceAt rfl q490 q492 qs1 (ci := 0) rfl rfl hb rfl rfl (Nat.le_of_ble_eq_true rfl) dX1_add_2 (qc_S.mono ?_ (C_X1_sourceAt (d := d + 7) hO hP a0 a1 hp k1 _ _ h))
  clear h
  clear hb
  rintro _ tz (hz | hz)
  · obtain ⟨r3, rfl, rfl, h⟩ := hz
    refine K1_r ?_
    refine qc_astore E_X1_add (by decide) dX1_add_5 ?_
    refine qc_iconst E_X1_add 4 (by decide) dX1_add_7 ?_
    refine re_newI hO E_X1_add q559 dX1_add_8 h ?_
    clear h
    intro w4 h5 c6 h
    refine qc_dup E_X1_add rfl dX1_add_10 ?_
    refine qc_iconst E_X1_add 0 (by decide) dX1_add_11 ?_
    refine qc_iload_n E_X1_add (by rfl) dX1_add_12 ?_
    refine re_iast E_X1_add dX1_add_13 h ?_
    clear h
    intro h7 h
    refine qc_dup E_X1_add rfl dX1_add_14 ?_
    refine qc_iconst E_X1_add 1 (by decide) dX1_add_15 ?_
    refine qc_iload_n E_X1_add (by rfl) dX1_add_16 ?_
    refine re_iast E_X1_add dX1_add_17 h ?_
    clear h
    intro h8 h
    refine qc_dup E_X1_add rfl dX1_add_18 ?_
    refine qc_iconst E_X1_add 2 (by decide) dX1_add_19 ?_
    refine qc_iload E_X1_add (by rfl) dX1_add_20 ?_
    refine re_iast E_X1_add dX1_add_22 h ?_
    clear h
    intro h9 h
    refine qc_dup E_X1_add rfl dX1_add_23 ?_
    refine qc_iconst E_X1_add 3 (by decide) dX1_add_24 ?_
    refine qc_iload E_X1_add (by rfl) dX1_add_25 ?_
    refine re_iast E_X1_add dX1_add_27 h ?_
    clear h
    intro h10 h
    refine qc_astore E_X1_add (by decide) dX1_add_28 ?_
    refine qc_aload E_X1_add (by rfl) dX1_add_30 ?_
    refine re_getR E_X1_add rfl ck_X7 (by decide) 1 (by decide) q275 dX1_add_32 h ?_
    clear h
    intro v11 h
    refine re_getR E_X1_add rfl ck_X2 (by decide) 0 (by decide) q151 dX1_add_35 h ?_
    clear h
    intro v12 h
    refine qc_astore E_X1_add (by decide) dX1_add_38 ?_
    refine qc_iconst E_X1_add 0 (by decide) dX1_add_40 ?_
    refine qc_istore E_X1_add (by decide) dX1_add_41 ?_
    refine qc_drop 1 ?_
    refine qc_drop 3 ?_
    refine qc_drop 4 ?_
    refine qc_drop 5 ?_
    refine h (fun (x14 : Int32) (c15 : Nat) => qc_wp g x (d + 9) c15 I_X1_add 43 [some (.ref a0), none, some (.int a2), none, none, none, some (.ref r3), some (.ref w4), some (.ref v12), some (.int x14), none] [] h10 (oX (oI K) KX)) ?_
    clear h
    intro x14 c15 h
    refine qc_iload E_X1_add (by rfl) dX1_add_43 ?_
    refine qc_iconst E_X1_add 4 (by decide) dX1_add_45 ?_
    refine qc_icmp_ge E_X1_add 72 dX1_add_46 (by decide) (fun (c16 : 4 ≤ x14) => ?_) (fun (c16 : ¬ 4 ≤ x14) => ?_)
    · replace h := h.1 c16
      refine qc_aload E_X1_add (by rfl) dX1_add_72 ?_
      refine re_getR E_X1_add rfl ck_X7 (by decide) 2 (by decide) q278 dX1_add_74 h ?_
      clear h
      intro v17 h
      refine re_size (d := d + 3) hO E_X1_add rfl q366 (Nat.le_of_ble_eq_true rfl) dX1_add_77 h ?_
      clear h
      intro n18 h
      refine qc_bipush E_X1_add 12 (by decide) dX1_add_80 ?_
      have jz := h (fun (x28 : Int32) => qc_wp g x (d + 9) c15 I_X1_add 123 [some (.ref a0), none, some (.int a2), none, none, none, some (.ref r3), some (.ref w4), some (.ref v12), none, none] [.int x28] h10 (oX (oI K) KX))
      clear h
      have h := jz (by
        intro x28 h
        obtain ⟨c30, k29, rfl, h⟩ := h
        refine qc_callS (c := c30) (k := k29) (As := [.int x28]) (rest := []) E_X1_add rfl M_X1_allowed rfl q594 q595 rfl rfl (Nat.le_of_ble_eq_true rfl) dX1_add_123 (qc_S.mono ?_ (C_X1_allowed (d := d + 8) hO hP x28 h10 k29 _ _ h))
        clear h
        rintro _ tz (hz | hz)
        · obtain ⟨rfl, rfl, h⟩ := hz
          refine K1_v ?_
          refine qc_iconst E_X1_add 0 (by decide) dX1_add_126 ?_
          refine qc_istore E_X1_add (by decide) dX1_add_127 ?_
          refine h (fun (x32 : Int32) (h33 : qc_H) => qc_wp g x (d + 9) c30 I_X1_add 129 [some (.ref a0), none, some (.int a2), none, none, none, some (.ref r3), some (.ref w4), some (.ref v12), some (.int x32), none] [] h33 (oX (oI K) KX)) ?_
          clear h
          intro x32 h33 h
          refine qc_iload E_X1_add (by rfl) dX1_add_129 ?_
          refine qc_iconst E_X1_add 4 (by decide) dX1_add_131 ?_
          refine qc_icmp_ge E_X1_add 188 dX1_add_132 (by decide) (fun (c34 : 4 ≤ x32) => ?_) (fun (c34 : ¬ 4 ≤ x32) => ?_)
          · replace h := h.1 c34
            refine qc_aload E_X1_add (by rfl) dX1_add_188 ?_
            refine V_hasKey (d := d + 8) (rest := []) hO hP E_X1_add rfl q561 rfl (Nat.le_of_ble_eq_true rfl) dX1_add_190 h ?_
            clear h
            intro r35 z36 h
            have jz := h (fun (x40 : Int32) => qc_wp g x (d + 9) c30 I_X1_add 207 [some (.ref a0), none, none, none, none, none, some (.ref r3), some (.ref w4), none, none, none] [.int x40] h33 (oX (oI K) KX))
            clear h
            have h := jz (by
              intro x40 h
              refine qc_istore E_X1_add (by decide) dX1_add_207 ?_
              refine qc_aload E_X1_add (by rfl) dX1_add_209 ?_
              refine qc_dup E_X1_add rfl dX1_add_211 ?_
              refine re_getI E_X1_add rfl ck_X7 (by decide) 4 (by decide) q281 dX1_add_212 h ?_
              clear h
              intro v41 h
              refine qc_iconst E_X1_add 1 (by decide) dX1_add_215 ?_
              refine qc_iadd E_X1_add dX1_add_216 ?_
              refine re_put E_X1_add rfl ck_X7 (by decide) 4 (by decide) q281 rfl rfl rfl dX1_add_217 h ?_
              clear h
              intro h42 h
              refine qc_aload E_X1_add (by rfl) dX1_add_220 ?_
              refine re_new hO E_X1_add rfl ck_X9 q633 q634 q107 df_X9 dX1_add_222 h ?_
              clear h
              intro w43 h44 c45 h
              refine qc_dup E_X1_add rfl dX1_add_225 ?_
              refine qc_iload E_X1_add (by rfl) dX1_add_226 ?_
              refine qc_aload E_X1_add (by rfl) dX1_add_228 ?_
              refine qc_callI (c := c45) (k := 0) (As := [.int x40, .ref w4]) (rest := [.ref w43, .ref r3]) E_X1_add rfl M_X9_init rfl rfl rfl q635 q636 rfl rfl (Nat.le_of_ble_eq_true rfl) dX1_add_230 (qc_S.mono ?_ (C_X9_init (d := d + 8) hO hP w43 x40 w4 h44 _ h))
              clear h
              rintro _ h46 ⟨rfl, h⟩
              refine K1_v ?_
              obtain ⟨⟨fz, hb⟩, c48, k47, rfl, h⟩ := h
              refine qc_callV (c := c48) (k := k47) (As := [.ref w43]) (rest := []) hO E_X1_add rfl M_X7_lay rfl q652 q653 q654 (ci := 6) rfl rfl hb rfl rfl (Nat.le_of_ble_eq_true rfl) dX1_add_233 (qc_S.mono ?_ (C_X7_lay (d := d + 2) hO hP r3 w43 h46 k47 _ h))
              clear h
              clear hb
              rintro _ h49 ⟨rfl, h⟩
              refine K1_v ?_
              refine qc_aload_n E_X1_add (by rfl) dX1_add_236 ?_
              refine qc_aload E_X1_add (by rfl) dX1_add_237 ?_
              obtain ⟨⟨fz, hb⟩, c51, k50, rfl, h⟩ := h
              refine qc_callV (c := c51) (k := k50) (As := [.ref r3]) (rest := []) hO E_X1_add rfl M_X1_written rfl q958 q960 qs6 (ci := 0) rfl rfl hb rfl rfl (Nat.le_of_ble_eq_true rfl) dX1_add_239 (qc_S.mono ?_ (C_X1_written (d := d) hO hP a0 r3 h49 k50 _ h))
              clear h
              clear hb
              rintro _ h52 ⟨rfl, h⟩
              refine K1_v ?_
              refine qc_iload E_X1_add (by rfl) dX1_add_242 ?_
              exact qc_iret E_X1_add rfl dX1_add_244 (Or.inl (⟨_, rfl, h⟩)))
            clear jz
            refine qc_if_eq E_X1_add 202 dX1_add_195 (by decide) (fun (c37 : r35 = 0) => ?_) (fun (c37 : ¬ r35 = 0) => ?_)
            · replace h := h.1 c37
              refine qc_aload E_X1_add (by rfl) dX1_add_202 ?_
              refine re_getI E_X1_add rfl ck_X7 (by decide) 4 (by decide) q281 dX1_add_204 h ?_
              clear h
              intro v38 h
              refine qc_drop 2 ?_
              refine qc_drop 8 ?_
              refine qc_drop 9 ?_
              exact h
            · replace h := h.2 c37
              refine qc_iload_n E_X1_add (by rfl) dX1_add_198 ?_
              refine qc_goto E_X1_add 207 dX1_add_199 (by decide) ?_
              refine qc_drop 2 ?_
              refine qc_drop 8 ?_
              refine qc_drop 9 ?_
              exact h
          · replace h := h.2 c34
            refine qc_aload E_X1_add (by rfl) dX1_add_135 ?_
            refine qc_iload E_X1_add (by rfl) dX1_add_137 ?_
            refine qc_aload E_X1_add (by rfl) dX1_add_139 ?_
            refine qc_iload E_X1_add (by rfl) dX1_add_141 ?_
            refine re_iald E_X1_add dX1_add_143 h ?_
            clear h
            intro v53 h
            refine V_kept (d := d + 8) (rest := []) hO hP E_X1_add rfl q614 rfl (Nat.le_of_ble_eq_true rfl) dX1_add_144 h ?_
            clear h
            intro r54 h
            refine qc_istore E_X1_add (by decide) dX1_add_149 ?_
            refine qc_aload_n E_X1_add (by rfl) dX1_add_151 ?_
            refine qc_dup E_X1_add rfl dX1_add_152 ?_
            refine re_getI E_X1_add rfl ck_X1 (by decide) 13 (by decide) q314 dX1_add_153 h ?_
            clear h
            intro v55 h
            refine qc_iload E_X1_add (by rfl) dX1_add_156 ?_
            refine qc_aload E_X1_add (by rfl) dX1_add_158 ?_
            refine qc_iload E_X1_add (by rfl) dX1_add_160 ?_
            refine re_iald E_X1_add dX1_add_162 h ?_
            clear h
            intro v56 h
            have jz := h (fun (x59 : Int32) => qc_wp g x (d + 9) c30 I_X1_add 171 [some (.ref a0), none, some (.int a2), none, none, none, some (.ref r3), some (.ref w4), some (.ref v12), some (.int x32), some (.int r54)] [.int x59, .int v55, .ref a0] h33 (oX (oI K) KX))
            clear h
            have h := jz (by
              intro x59 h
              refine qc_iadd E_X1_add dX1_add_171 ?_
              refine re_put E_X1_add rfl ck_X1 (by decide) 13 (by decide) q314 rfl rfl rfl dX1_add_172 h ?_
              clear h
              intro h60 h
              refine qc_aload E_X1_add (by rfl) dX1_add_175 ?_
              refine qc_iload E_X1_add (by rfl) dX1_add_177 ?_
              refine qc_iload E_X1_add (by rfl) dX1_add_179 ?_
              refine re_iast E_X1_add dX1_add_181 h ?_
              clear h
              intro h61 h
              refine qc_iinc E_X1_add 1 rfl (by decide) (by decide) dX1_add_182 ?_
              refine qc_goto E_X1_add 129 dX1_add_185 (by decide) ?_
              refine qc_drop 10 ?_
              exact h)
            clear jz
            refine qc_icmp_eq E_X1_add 170 dX1_add_163 (by decide) (fun (c57 : r54 = v56) => ?_) (fun (c57 : ¬ r54 = v56) => ?_)
            · replace h := h.1 c57
              refine qc_iconst E_X1_add 0 (by decide) dX1_add_170 ?_
              exact h
            · replace h := h.2 c57
              refine qc_iconst E_X1_add 1 (by decide) dX1_add_166 ?_
              refine qc_goto E_X1_add 171 dX1_add_167 (by decide) ?_
              exact h
        · revert tz; rintro _ ⟨Ez, rfl, rfl, h⟩
          refine K1_x ?_
          exact qc_out (by decide) (Or.inr ⟨_, rfl, h⟩))
      clear jz
      refine qc_icmp_ge E_X1_add 122 dX1_add_82 (by decide) (fun (c19 : 12 ≤ n18) => ?_) (fun (c19 : ¬ 12 ≤ n18) => ?_)
      · replace h := h.1 c19
        refine qc_iconst E_X1_add 0 (by decide) dX1_add_122 ?_
        refine qc_drop 9 ?_
        exact h
      · replace h := h.2 c19
        refine qc_aload E_X1_add (by rfl) dX1_add_85 ?_
        refine V_hasKey (d := d + 8) (rest := []) hO hP E_X1_add rfl q561 rfl (Nat.le_of_ble_eq_true rfl) dX1_add_87 h ?_
        clear h
        intro r20 z21 h
        refine qc_if_eq E_X1_add 108 dX1_add_92 (by decide) (fun (c22 : r20 = 0) => ?_) (fun (c22 : ¬ r20 = 0) => ?_)
        · replace h := h.1 c22
          refine qc_aload E_X1_add (by rfl) dX1_add_108 ?_
          refine re_getI E_X1_add rfl ck_X7 (by decide) 4 (by decide) q281 dX1_add_110 h ?_
          clear h
          intro v23 h
          refine qc_bipush E_X1_add 60 (by decide) dX1_add_113 ?_
          refine qc_icmp_ge E_X1_add 122 dX1_add_115 (by decide) (fun (c24 : 60 ≤ v23) => ?_) (fun (c24 : ¬ 60 ≤ v23) => ?_)
          · replace h := h.1 c24
            refine qc_iconst E_X1_add 0 (by decide) dX1_add_122 ?_
            refine qc_drop 9 ?_
            exact h
          · replace h := h.2 c24
            refine qc_iconst E_X1_add 1 (by decide) dX1_add_118 ?_
            refine qc_goto E_X1_add 123 dX1_add_119 (by decide) ?_
            refine qc_drop 9 ?_
            exact h
        · replace h := h.2 c22
          refine qc_aload E_X1_add (by rfl) dX1_add_95 ?_
          refine qc_iload_n E_X1_add (by rfl) dX1_add_97 ?_
          obtain ⟨⟨fz, hb⟩, h⟩ := h
          refine qc_callV (c := c15) (k := 0) (As := [.int a2]) (rest := []) hO E_X1_add rfl M_X7_placeOf rfl q574 q575 q576 (ci := 6) rfl rfl hb rfl rfl (Nat.le_of_ble_eq_true rfl) dX1_add_98 (qc_S.mono ?_ (C_X7_placeOf (d := d + 2) hO hP r3 a2 h10 _ h))
          clear h
          clear hb
          rintro _ _ ⟨r25, rfl, rfl, h⟩
          refine K1_i ?_
          refine qc_iconst E_X1_add (-1) (by decide) dX1_add_101 ?_
          refine qc_icmp_ne E_X1_add 122 dX1_add_102 (by decide) (fun (c26 : ¬ r25 = ((-1))) => ?_) (fun (c26 : r25 = ((-1))) => ?_)
          · replace h := h.1 c26
            refine qc_iconst E_X1_add 0 (by decide) dX1_add_122 ?_
            refine qc_drop 9 ?_
            exact h
          · replace h := h.2 c26
            refine qc_goto E_X1_add 118 dX1_add_105 (by decide) ?_
            refine qc_iconst E_X1_add 1 (by decide) dX1_add_118 ?_
            refine qc_goto E_X1_add 123 dX1_add_119 (by decide) ?_
            refine qc_drop 9 ?_
            exact h
    · replace h := h.2 c16
      refine qc_aload E_X1_add (by rfl) dX1_add_49 ?_
      refine qc_iload E_X1_add (by rfl) dX1_add_51 ?_
      refine qc_aload E_X1_add (by rfl) dX1_add_53 ?_
      refine qc_iload E_X1_add (by rfl) dX1_add_55 ?_
      refine re_iald E_X1_add dX1_add_57 h ?_
      clear h
      intro v62 h
      refine V_isFit (d := d + 6) (rest := []) hO hP E_X1_add rfl q511 rfl (Nat.le_of_ble_eq_true rfl) dX1_add_58 h ?_
      clear h
      intro r63 z64 h
      obtain ⟨c66, k65, rfl, h⟩ := h
      refine qc_callS (c := c66) (k := k65) (As := [.int r63]) (rest := []) E_X1_add rfl M_X1_fit rfl q540 q541 rfl rfl (Nat.le_of_ble_eq_true rfl) dX1_add_63 (qc_S.mono ?_ (C_X1_fit (d := d + 8) hO hP r63 h10 k65 _ _ h))
      clear h
      rintro _ tz (hz | hz)
      · obtain ⟨rfl, rfl, h⟩ := hz
        refine K1_v ?_
        refine qc_iinc E_X1_add 1 rfl (by decide) (by decide) dX1_add_66 ?_
        refine qc_goto E_X1_add 43 dX1_add_69 (by decide) ?_
        exact h
      · revert tz; rintro _ ⟨Ez, rfl, rfl, h⟩
        refine K1_x ?_
        exact qc_out (by decide) (Or.inr ⟨_, rfl, h⟩)
  · revert tz; rintro _ ⟨Ez, rfl, rfl, h⟩
    refine K1_x ?_
    exact qc_out (by decide) (Or.inr ⟨_, rfl, h⟩)
def I_X1_rowOf : qh_I := (yX1_rowOf, cX1_rowOf, 3, (Option.some (Jvm.ClassFile.FieldType.object "QueryHarbor$Row")), [])
theorem E_X1_rowOf : I_X1_rowOf.2.1 = cX1_rowOf := rfl
theorem M_X1_rowOf : qh_M I_X1_rowOf 2 := ⟨by decide, by decide, by decide +kernel, q85, q1036, by decide⟩
def T_X1_rowOf (g : qh_G) (a1 : Nat) (a2 : Int32) (hp : qc_H) (c : Nat) (K : Nat → Prop) (KX : String → Prop) : Prop := eC hp a1 6 (T_X7_placeOf g a1 a2 hp (fun r1 => eR hp a1 6 2 (fun v2 => eSz hp v2 (fun n3 => eK c (fun c5 k4 => T_X1_known g r1 n3 hp k4 (fun r6 => eR hp a1 6 2 (fun v7 => eGt hp v7 r1 (fun p8 => eC hp p8 8 (K p8)))) (fun Ez => KX Ez))))))
set_option maxHeartbeats 8000000 in
theorem C_X1_rowOf {g : qh_G} {x : qc_X} {d : Nat} {sd : String → Nat → Nat} (hO : qc_O g x) (hP : qc_P g qp_ts sd) (a1 : Nat) (a2 : Int32) (hp : qc_H) (c : Nat) (K : Nat → Prop) (KX : String → Prop) (hz : T_X1_rowOf g a1 a2 hp c K KX) : qc_S g x (d + 7) c I_X1_rowOf [.ref a1, .int a2] hp (oX (oR (fun v t => hp = t ∧ K v)) (fun E t => hp = t ∧ KX E)) := by
  refine qc_S.of (by decide) rfl (ls := [some (.ref a1), some (.int a2), none]) rfl (Nat.le_of_ble_eq_true rfl) (ct_c rfl (ct_c rfl ct_n)) ?_
  unfold T_X1_rowOf at hz
  have h := hz
  clear hz
  refine qc_aload_n E_X1_rowOf (by rfl) dX1_rowOf_0 ?_
  refine qc_iload_n E_X1_rowOf (by rfl) dX1_rowOf_1 ?_
  obtain ⟨⟨fz, hb⟩, h⟩ := h
  refine qc_callV (c := c) (k := 0) (As := [.int a2]) (rest := []) hO E_X1_rowOf rfl M_X7_placeOf rfl q574 q575 q576 (ci := 6) rfl rfl hb rfl rfl (Nat.le_of_ble_eq_true rfl) dX1_rowOf_2 (qc_S.mono ?_ (C_X7_placeOf (d := d) hO hP a1 a2 hp _ h))
  clear h
  clear hb
  rintro _ _ ⟨r1, rfl, rfl, h⟩
  refine K1_i ?_
  refine qc_istore_n E_X1_rowOf (by decide) dX1_rowOf_5 ?_
  refine qc_iload_n E_X1_rowOf (by rfl) dX1_rowOf_6 ?_
  refine qc_aload_n E_X1_rowOf (by rfl) dX1_rowOf_7 ?_
  refine re_getR E_X1_rowOf rfl ck_X7 (by decide) 2 (by decide) q278 dX1_rowOf_8 h ?_
  clear h
  intro v2 h
  refine re_size (d := d + 1) hO E_X1_rowOf rfl q366 (Nat.le_of_ble_eq_true rfl) dX1_rowOf_11 h ?_
  clear h
  intro n3 h
  obtain ⟨c5, k4, rfl, h⟩ := h
  refine qc_callS (c := c5) (k := k4) (As := [.int r1, .int n3]) (rest := []) E_X1_rowOf rfl M_X1_known rfl q494 q495 rfl rfl (Nat.le_of_ble_eq_true rfl) dX1_rowOf_14 (qc_S.mono ?_ (C_X1_known (d := d + 6) hO hP r1 n3 hp k4 _ _ h))
  clear h
  rintro _ tz (hz | hz)
  · obtain ⟨r6, rfl, rfl, h⟩ := hz
    refine K1_i ?_
    refine qc_pop E_X1_rowOf rfl dX1_rowOf_17 ?_
    refine qc_aload_n E_X1_rowOf (by rfl) dX1_rowOf_18 ?_
    refine re_getR E_X1_rowOf rfl ck_X7 (by decide) 2 (by decide) q278 dX1_rowOf_19 h ?_
    clear h
    intro v7 h
    refine qc_iload_n E_X1_rowOf (by rfl) dX1_rowOf_22 ?_
    refine re_get (d := d + 1) hO E_X1_rowOf rfl q1013 (Nat.le_of_ble_eq_true rfl) dX1_rowOf_23 h ?_
    clear h
    intro p8 h
    refine re_castS (ci := 8) hO E_X1_rowOf rfl rfl q633 dX1_rowOf_26 h ?_
    clear h
    intro h
    exact qc_aret E_X1_rowOf rfl (Or.inl ⟨_, rfl⟩) (Or.inr ⟨_, rfl⟩) dX1_rowOf_29 (Or.inl (⟨_, rfl, rfl, h⟩))
  · revert tz; rintro _ ⟨Ez, rfl, rfl, h⟩
    refine K1_x ?_
    exact qc_out (by decide) (Or.inr ⟨_, rfl, rfl, h⟩)
def I_X19_columns : qh_I := (yX19_columns, cX19_columns, 1, (Option.some Jvm.ClassFile.FieldType.int), [])
theorem E_X19_columns : I_X19_columns.2.1 = cX19_columns := rfl
theorem M_X19_columns : qh_M I_X19_columns 0 := ⟨by decide, by decide, by decide +kernel, q2332, q1044, by decide⟩
def T_X19_columns (g : qh_G) (a0 : Nat) (hp : qc_H) (K : Int32 → Prop) : Prop := K 4
set_option maxHeartbeats 8000000 in
theorem C_X19_columns {g : qh_G} {x : qc_X} {d : Nat} {sd : String → Nat → Nat} (hO : qc_O g x) (hP : qc_P g qp_ts sd) (a0 : Nat) (hp : qc_H) (K : Int32 → Prop) (hz : T_X19_columns g a0 hp K) : qc_S g x (d + 0) 0 I_X19_columns [.ref a0] hp (oI (fun v t => hp = t ∧ K v)) := by
  refine qc_S.of (by decide) rfl (ls := [some (.ref a0)]) rfl (Nat.le_of_ble_eq_true rfl) (ct_c rfl ct_n) ?_
  unfold T_X19_columns at hz
  have h := hz
  clear hz
  refine qc_iconst E_X19_columns 4 (by decide) dX19_columns_0 ?_
  exact qc_iret E_X19_columns rfl dX19_columns_1 (⟨_, rfl, rfl, h⟩)
def I_X4_columns : qh_I := (yX4_columns, cX4_columns, 1, (Option.some Jvm.ClassFile.FieldType.int), [])
theorem E_X4_columns : I_X4_columns.2.1 = cX4_columns := rfl
theorem M_X4_columns : qh_M I_X4_columns 0 := ⟨by decide, by decide, by decide +kernel, q88, q1049, by decide⟩
def T_X4_columns (g : qh_G) (a0 : Nat) (hp : qc_H) (K : Int32 → Prop) : Prop := K 2
set_option maxHeartbeats 8000000 in
theorem C_X4_columns {g : qh_G} {x : qc_X} {d : Nat} {sd : String → Nat → Nat} (hO : qc_O g x) (hP : qc_P g qp_ts sd) (a0 : Nat) (hp : qc_H) (K : Int32 → Prop) (hz : T_X4_columns g a0 hp K) : qc_S g x (d + 0) 0 I_X4_columns [.ref a0] hp (oI (fun v t => hp = t ∧ K v)) := by
  refine qc_S.of (by decide) rfl (ls := [some (.ref a0)]) rfl (Nat.le_of_ble_eq_true rfl) (ct_c rfl ct_n) ?_
  unfold T_X4_columns at hz
  have h := hz
  clear hz
  refine qc_iconst E_X4_columns 2 (by decide) dX4_columns_0 ?_
  exact qc_iret E_X4_columns rfl dX4_columns_1 (⟨_, rfl, rfl, h⟩)
def U_columns (g : qh_G) (h : qc_H) (b : Nat) (K : Int32 → Prop) : Prop := eC h b 2 (T_X19_columns g b h K) ∨ eC h b 3 (T_X4_columns g b h K) ∨ eC h b 4 (T_X19_columns g b h K)
theorem V_columns {g : qh_G} {x : qc_X} {d c : Nat} {sd : String → Nat → Nat} {I : qh_I} {cc : ByteArray} {pc : Nat} {ls : List (Option Value)} {rest : List Value} {h : qc_H} {Q : qh_R → qc_H → Prop} {own : String} {index count b : Nat} {K : Int32 → Prop} (hO : qc_O g x) (hP : qc_P g qp_ts sd) (e : I.2.1 = cc) (ho : I.1.cls = own) (q1 : Cond.methodLink own index (⟨"QueryHarbor$Store", "columns", "()I"⟩ : MethodName) ∈ lw_all) (_ : True = True) (hw : (rest.map fun v => v.category).sum ≤ 8) (hd : decode cc pc = .ok (.invokeinterface index count, 5)) (hh : U_columns g h b K) (kk : ∀ v, K v → qc_wp g x (d + 1) c I (pc + 5) ls (.int v :: rest) h Q) : qc_wp g x (d + 1) c I pc ls (.ref b :: rest) h Q := by
  rcases hh with ⟨⟨fz, hb⟩, h⟩ | ⟨⟨fz, hb⟩, h⟩ | ⟨⟨fz, hb⟩, h⟩
  · refine qc_callFD (c := c) (k := 0) (As := []) (rest := rest) hO e ho M_X19_columns rfl ⟨by decide, by decide, by decide +kernel⟩ q1 q1042 (qp_D hP (by decide) q1040 q1039 q1043 q537) (ci := 2) rfl hb rfl rfl hw hd (qc_S.mono ?_ (C_X19_columns (d := d) hO hP b _ _ h))
    clear h
    rintro _ _ ⟨v, rfl, rfl, h⟩
    exact kk v h
  · refine qc_callF (c := c) (k := 0) (As := []) (rest := rest) hO e ho M_X4_columns rfl ⟨by decide, by decide, by decide +kernel⟩ q1 q1045 q1047 (qp_F hP q1040 q1039 q1048 q1046 q529) (ci := 3) rfl hb rfl rfl hw hd (qc_S.mono ?_ (C_X4_columns (d := d) hO hP b _ _ h))
    clear h
    rintro _ _ ⟨v, rfl, rfl, h⟩
    exact kk v h
  · refine qc_callFD (c := c) (k := 0) (As := []) (rest := rest) hO e ho M_X19_columns rfl ⟨by decide, by decide, by decide +kernel⟩ q1 q1042 (qp_D hP (by decide) q1040 q1039 q1043 q514) (ci := 4) rfl hb rfl rfl hw hd (qc_S.mono ?_ (C_X19_columns (d := d) hO hP b _ _ h))
    clear h
    rintro _ _ ⟨v, rfl, rfl, h⟩
    exact kk v h
def I_X9_with : qh_I := (yX9_with, cX9_with, 4, (Option.some (Jvm.ClassFile.FieldType.object "QueryHarbor$Row")), [])
theorem E_X9_with : I_X9_with.2.1 = cX9_with := rfl
theorem M_X9_with : qh_M I_X9_with 2 := ⟨by decide, by decide, by decide +kernel, q107, q1054, by decide⟩
def T_X9_with (g : qh_G) (a0 : Nat) (a1 : Int32) (a2 : Int32) (hp : qc_H) (c : Nat) (K : Nat → qc_H → Prop) : Prop := eNI g.2.2.2.1 hp 4 c (fun w1 h2 c3 => eR h2 a0 8 1 (fun v4 => eCp g.2.2.2.1 h2 v4 w1 0 0 4 (fun h5 => eW g.2.2.2.1 h5 w1 a1 a2 (fun h6 => eN h6 c3 8 2 [.int 0, .null] (fun w7 h8 c9 => eI h8 a0 8 0 (fun v10 => T_X9_init g w7 v10 w1 h8 (fun h11 => K w7 h11)))))))
set_option maxHeartbeats 8000000 in
theorem C_X9_with {g : qh_G} {x : qc_X} {d : Nat} {sd : String → Nat → Nat} (hO : qc_O g x) (hP : qc_P g qp_ts sd) (a0 : Nat) (a1 : Int32) (a2 : Int32) (hp : qc_H) (c : Nat) (K : Nat → qc_H → Prop) (hz : T_X9_with g a0 a1 a2 hp c K) : qc_S g x (d + 1) c I_X9_with [.ref a0, .int a1, .int a2] hp (oR K) := by
  refine qc_S.of (by decide) rfl (ls := [some (.ref a0), some (.int a1), some (.int a2), none]) rfl (Nat.le_of_ble_eq_true rfl) (ct_c rfl (ct_c rfl (ct_c rfl ct_n))) ?_
  unfold T_X9_with at hz
  have h := hz
  clear hz
  refine qc_iconst E_X9_with 4 (by decide) dX9_with_0 ?_
  refine re_newI hO E_X9_with q559 dX9_with_1 h ?_
  clear h
  intro w1 h2 c3 h
  refine qc_astore_n E_X9_with (by decide) dX9_with_3 ?_
  refine qc_aload_n E_X9_with (by rfl) dX9_with_4 ?_
  refine re_getR E_X9_with rfl ck_X9 (by decide) 1 (by decide) q643 dX9_with_5 h ?_
  clear h
  intro v4 h
  refine qc_iconst E_X9_with 0 (by decide) dX9_with_8 ?_
  refine qc_aload_n E_X9_with (by rfl) dX9_with_9 ?_
  refine qc_iconst E_X9_with 0 (by decide) dX9_with_10 ?_
  refine qc_iconst E_X9_with 4 (by decide) dX9_with_11 ?_
  refine re_copy E_X9_with rfl q1055 q742 q741 q113 (Nat.le_of_ble_eq_true rfl) dX9_with_12 h ?_
  clear h
  intro h5 h
  refine qc_aload_n E_X9_with (by rfl) dX9_with_15 ?_
  refine qc_iload_n E_X9_with (by rfl) dX9_with_16 ?_
  refine qc_iload_n E_X9_with (by rfl) dX9_with_17 ?_
  refine re_iast E_X9_with dX9_with_18 h ?_
  clear h
  intro h6 h
  refine re_new hO E_X9_with rfl ck_X9 q1056 q634 q107 df_X9 dX9_with_19 h ?_
  clear h
  intro w7 h8 c9 h
  refine qc_dup E_X9_with rfl dX9_with_22 ?_
  refine qc_aload_n E_X9_with (by rfl) dX9_with_23 ?_
  refine re_getI E_X9_with rfl ck_X9 (by decide) 0 (by decide) q639 dX9_with_24 h ?_
  clear h
  intro v10 h
  refine qc_aload_n E_X9_with (by rfl) dX9_with_27 ?_
  refine qc_callI (c := c9) (k := 0) (As := [.int v10, .ref w1]) (rest := [.ref w7]) E_X9_with rfl M_X9_init rfl rfl rfl q1057 q636 rfl rfl (Nat.le_of_ble_eq_true rfl) dX9_with_28 (qc_S.mono ?_ (C_X9_init (d := d) hO hP w7 v10 w1 h8 _ h))
  clear h
  rintro _ h11 ⟨rfl, h⟩
  refine K1_v ?_
  exact qc_aret E_X9_with rfl (Or.inl ⟨_, rfl⟩) (Or.inr ⟨_, rfl⟩) dX9_with_31 (⟨_, rfl, h⟩)
