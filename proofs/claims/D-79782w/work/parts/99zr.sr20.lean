/-! SR 20 (printed by gen4.py): the law, to its loop -/
set_option maxRecDepth 100000
def T_L_st (g : qh_G) (hp : qc_H) (c : Nat) (K : Nat → Nat → Nat → qc_H → Nat → Prop) : Prop := eN hp c 0 16 [.null, .null, .null, .null, .null, .null, .null, .null, .null, .null, .int 0, .int 0, .null, .int 0, .int 0, .int 0] (fun w1 h2 c3 => eK c3 (fun c5 k4 => T_X1_init g w1 h2 k4 (fun h6 => eN h6 c5 7 94 [.int 0, .null, .null, .null, .null, .null, .int 0, .int 0, .int 0, .null, .null, .null, .null, .null, .null, .null, .null, .null, .null, .null, .null, .null, .int 0, .null, .int 0, .null, .null, .null, .null, .int 0, .null, .null, .null, .null, .int 0, .null, .null, .int 0, .int 0, .int 0, .null, .null, .null, .null, .null, .null, .null, .null, .null, .null, .null, .null, .int 0, .int 0, .int 0, .int 0, .null, .null, .null, .null, .null, .null, .int 0, .int 0, .null, .null, .null, .null, .int 0, .int 0, .null, .int 0, .null, .null, .null, .int 0, .int 0, .null, .int 0, .int 0, .int 0, .int 0, .int 0, .int 0, .null, .int 0, .null, .null, .null, .null, .null, .null, .null, .null] (fun w7 h8 c9 => eK c9 (fun c11 k10 => T_X8_init g w7 h8 k10 (fun h12 => eNJ g.2.2.2.1 h12 1 c11 (fun w13 h14 c15 => K w1 w7 w13 h14 c15)))))))
set_option maxHeartbeats 8000000 in
theorem C_L_st {g : qh_G} {x9 : qc_X} {d : Nat} {sd : String → Nat → Nat} (hO : qc_O g x9) (hP : qc_P g qp_ts sd) {a0 : Nat} {Q : qh_R → qc_H → Prop} (hp : qc_H) (c : Nat) (K : Nat → Nat → Nat → qc_H → Nat → Prop) (hz : T_L_st g hp c K) (kk : ∀ a1 a2 a3 h c, K a1 a2 a3 h c → qc_wp g x9 (d + 8) c I_L_law 20 [some (.ref a0), some (.ref a1), some (.ref a2), some (.ref a3), none, none, none] [] h Q) : qc_wp g x9 (d + 8) c I_L_law 0 [some (.ref a0), none, none, none, none, none, none] [] hp Q := by
  unfold T_L_st at hz
  have h := hz
  clear hz
  refine re_new hO E_L_law rfl ck_X1 q127 q128 q85 df_X1 dL_law_0 h ?_
  clear h
  intro w1 h2 c3 h
  refine qc_dup E_L_law rfl dL_law_3 ?_
  obtain ⟨c5, k4, rfl, h⟩ := h
  refine qc_callI (c := c5) (k := k4) (As := []) (rest := [.ref w1]) E_L_law rfl M_X1_init rfl rfl rfl q129 q130 rfl rfl (Nat.le_of_ble_eq_true rfl) dL_law_4 (qc_S.mono ?_ (C_X1_init (d := d) hO hP w1 h2 k4 _ h))
  clear h
  rintro _ h6 ⟨rfl, h⟩
  refine K1_v ?_
  refine qc_astore_n E_L_law (by decide) dL_law_7 ?_
  refine re_new hO E_L_law rfl ck_X8 q1651 q1652 q95 df_X8 dL_law_8 h ?_
  clear h
  intro w7 h8 c9 h
  refine qc_dup E_L_law rfl dL_law_11 ?_
  obtain ⟨c11, k10, rfl, h⟩ := h
  refine qc_callI (c := c11) (k := k10) (As := []) (rest := [.ref w7]) E_L_law rfl M_X8_init rfl rfl rfl q1653 q1654 rfl rfl (Nat.le_of_ble_eq_true rfl) dL_law_12 (qc_S.mono ?_ (C_X8_init (d := d + 7) hO hP w7 h8 k10 _ h))
  clear h
  rintro _ h12 ⟨rfl, h⟩
  refine K1_v ?_
  refine qc_astore_n E_L_law (by decide) dL_law_15 ?_
  refine qc_iconst E_L_law 1 (by decide) dL_law_16 ?_
  refine re_newJ hO E_L_law q2321 dL_law_17 h ?_
  clear h
  intro w13 h14 c15 h
  refine qc_astore_n E_L_law (by decide) dL_law_19 ?_
  exact kk _ _ _ _ _ h
