/-! SR 11 (printed by mk_cs.py): the law's cases behind a wrapper -/
set_option maxRecDepth 100000
theorem qkI.sd {T M : Nat} {A : qkA} (h : qkI T M A) : ∀ (n : Nat) (v : Int32), (aSeat A)[n]? = some v → ∃ s, s < 6 ∧ v = nI s := h.2.2.2.1.1.2
section
variable {A : qkA} {k : Nat}
theorem wb_setPace {a1 a2 a3 : Int32} (h : qkWb k A) : qkWb k ((kf_setPace A a1 a2 a3).2.2) := by
  unfold kf_setPace
  repeat' split
  all_goals exact h
theorem wb_setBounds {a1 a2 a3 : Int32} (h : qkWb k A) : qkWb k ((kf_setBounds A a1 a2 a3).2.2) := by
  unfold kf_setBounds
  repeat' split
  all_goals exact h
theorem wb_fail {a1 a2 a3 : Int32} (h : qkWb k A) : qkWb k ((kf_fail A a1 a2 a3).2.2) := by
  unfold kf_fail
  repeat' split
  all_goals exact h
theorem wb_seat {a1 : Int32} (h : qkWb k A) : qkWb k ((kf_seat A a1).2.2) := by
  unfold kf_seat
  repeat' split
  all_goals exact h
theorem wb_link {a1 a2 a3 a4 : Int32} (h : qkWb k A) : qkWb k ((kf_link A a1 a2 a3 a4).2.2) := by
  unfold kf_link
  repeat' split
  all_goals exact h
theorem wb_where {a1 a2 a3 a4 : Int32} (h : qkWb k A) : qkWb k ((kf_where A a1 a2 a3 a4).2.2) := by
  unfold kf_where
  repeat' split
  all_goals exact h
theorem wb_outp {a1 a2 : Int32} (h : qkWb k A) : qkWb k ((kf_outp A a1 a2).2.2) := by
  unfold kf_outp
  repeat' split
  all_goals exact h
theorem wb_step2 {a1 a2 a3 a4 a5 a6 : Int32} (h : qkWb k A) : qkWb k ((kf_step2 A a1 a2 a3 a4 a5 a6).2.2) := by
  unfold kf_step2
  repeat' split
  all_goals exact h
theorem wb_pass {a1 : Int32} (h : qkWb k A) : qkWb k ((kf_pass A a1).2.2) := by
  unfold kf_pass
  repeat' split
  all_goals first | exact h | exact wb_tm h qkTm.goTo
theorem wb_setLease {a1 a2 : Int32} (h : qkWb k A) : qkWb k ((kf_setLease A a1 a2).2.2) := by
  unfold kf_setLease
  repeat' split
  all_goals first | exact h | exact wb_tm (A := kf_ln A a1.toNatClampNeg 4 a2) h qkTm.goTo | exact wb_tm (A := kf_ln A a1.toNatClampNeg 5 a2) h qkTm.goTo
end
section
variable {g : qh_G} {L : Nat → Nat} {m o : Nat} {fa : Nat → Nat} {h : qc_H} {n k : Nat} {K : Int32 → qc_H → Prop} {KX : String → qc_H → Prop}
theorem cs_change {a1 a2 a3 a4 : Int32} (G : lG L m o fa) (hZ : lZ g L m o fa n h) (hn : n < 64) (hk : 2000 ≤ k) (hK : ∀ r15 h16, tC g L m o fa n (T8_change g m a1 a2 a3 a4) r15 h16 → K r15 h16) : T_X0_change g (L 0) a1 a2 a3 a4 o h k K KX := by
  obtain ⟨A, v, S, ⟨J, f, R, V, t, ho, _⟩, hC, hI, hW⟩ := hZ
  refine w_change G R V t ho (wb_le hW (by omega)) hk fun h1 c1 => hK _ _ fun XX K0 hX => ?_
  have c2 := c1
  obtain ⟨J1, f1, R1, V1, t1, ho1, hx1⟩ := c2
  exact ⟨⟨_, t1.1⟩, fa, S, t1, km_change hC hI (by omega) (cl_M G c1 ((ki_change hI (by omega)).le (by omega) (by omega)) (wb_le (wb_change hW) (by omega)) hX)⟩
theorem cs_remove {a1 a2 : Int32} (G : lG L m o fa) (hZ : lZ g L m o fa n h) (hn : n < 64) (hk : 2000 ≤ k) (hK : ∀ r15 h16, tC g L m o fa n (T8_remove g m a1 a2) r15 h16 → K r15 h16) : T_X0_remove g (L 0) a1 a2 o h k K KX := by
  obtain ⟨A, v, S, ⟨J, f, R, V, t, ho, _⟩, hC, hI, hW⟩ := hZ
  refine w_remove G R V t ho (wb_le hW (by omega)) hk fun h1 c1 => hK _ _ fun XX K0 hX => ?_
  have c2 := c1
  obtain ⟨J1, f1, R1, V1, t1, ho1, hx1⟩ := c2
  exact ⟨⟨_, t1.1⟩, fa, S, t1, km_remove hC hI (by omega) (cl_M G c1 ((ki_remove hI (by omega)).le (by omega) (by omega)) (wb_le (wb_remove hW) (by omega)) hX)⟩
theorem cs_setPace {a1 a2 a3 : Int32} (G : lG L m o fa) (hZ : lZ g L m o fa n h) (hn : n < 64) (hk : 2000 ≤ k) (hK : ∀ r15 h16, tC g L m o fa n (T8_setPace g m a1 a2 a3) r15 h16 → K r15 h16) : T_X0_setPace g (L 0) a1 a2 a3 o h k K KX := by
  obtain ⟨A, v, S, ⟨J, f, R, V, t, ho, _⟩, hC, hI, hW⟩ := hZ
  refine w_setPace G R V t ho hk fun h1 c1 => hK _ _ fun XX K0 hX => ?_
  have c2 := c1
  obtain ⟨J1, f1, R1, V1, t1, ho1, hx1⟩ := c2
  exact ⟨⟨_, t1.1⟩, fa, S, t1, km_setPace hC (cl_M G c1 ((ki_setPace hI).le (by omega) (by omega)) (wb_le (wb_setPace hW) (by omega)) hX)⟩
theorem cs_setBounds {a1 a2 a3 : Int32} (G : lG L m o fa) (hZ : lZ g L m o fa n h) (hn : n < 64) (hk : 2000 ≤ k) (hK : ∀ r15 h16, tC g L m o fa n (T8_setBounds g m a1 a2 a3) r15 h16 → K r15 h16) : T_X0_setBounds g (L 0) a1 a2 a3 o h k K KX := by
  obtain ⟨A, v, S, ⟨J, f, R, V, t, ho, _⟩, hC, hI, hW⟩ := hZ
  refine w_setBounds G R V t ho hk fun h1 c1 => hK _ _ fun XX K0 hX => ?_
  have c2 := c1
  obtain ⟨J1, f1, R1, V1, t1, ho1, hx1⟩ := c2
  exact ⟨⟨_, t1.1⟩, fa, S, t1, km_setBounds hC (cl_M G c1 ((ki_setBounds hI).le (by omega) (by omega)) (wb_le (wb_setBounds hW) (by omega)) hX)⟩
theorem cs_setLease {a1 a2 : Int32} (G : lG L m o fa) (hZ : lZ g L m o fa n h) (hn : n < 64) (hk : 2000 ≤ k) (hK : ∀ r15 h16, tC g L m o fa n (T8_setLease g m a1 a2) r15 h16 → K r15 h16) : T_X0_setLease g (L 0) a1 a2 o h k K KX := by
  obtain ⟨A, v, S, ⟨J, f, R, V, t, ho, _⟩, hC, hI, hW⟩ := hZ
  refine w_setLease G R V t ho hk fun h1 c1 => hK _ _ fun XX K0 hX => ?_
  have c2 := c1
  obtain ⟨J1, f1, R1, V1, t1, ho1, hx1⟩ := c2
  exact ⟨⟨_, t1.1⟩, fa, S, t1, km_setLease hC hI (by omega) (cl_M G c1 ((ki_setLease hI).le (by omega) (by omega)) (wb_le (wb_setLease hW) (by omega)) hX)⟩
theorem cs_fail {a1 a2 a3 : Int32} (G : lG L m o fa) (hZ : lZ g L m o fa n h) (hn : n < 64) (hd : a3 = 0 ∨ a3 = 1) (hk : 2000 ≤ k) (hK : ∀ r15 h16, tC g L m o fa n (T8_fail g m a1 a2 a3) r15 h16 → K r15 h16) : T_X0_fail g (L 0) a1 a2 a3 o h k K KX := by
  obtain ⟨A, v, S, ⟨J, f, R, V, t, ho, _⟩, hC, hI, hW⟩ := hZ
  refine w_fail G R V t ho hd hk fun h1 c1 => hK _ _ fun XX K0 hX => ?_
  have c2 := c1
  obtain ⟨J1, f1, R1, V1, t1, ho1, hx1⟩ := c2
  exact ⟨⟨_, t1.1⟩, fa, S, t1, km_fail hd hC (cl_M G c1 ((ki_fail hd hI).le (by omega) (by omega)) (wb_le (wb_fail hW) (by omega)) hX)⟩
theorem cs_pass {a1 : Int32} (G : lG L m o fa) (hZ : lZ g L m o fa n h) (hn : n < 64) (hk : 2000 ≤ k) (hK : ∀ r15 h16, tC g L m o fa n (T8_pass g m a1) r15 h16 → K r15 h16) : T_X0_pass g (L 0) a1 o h k K KX := by
  obtain ⟨A, v, S, ⟨J, f, R, V, t, ho, _⟩, hC, hI, hW⟩ := hZ
  refine w_pass G R V t ho hk fun h1 c1 => hK _ _ fun XX K0 hX => ?_
  have c2 := c1
  obtain ⟨J1, f1, R1, V1, t1, ho1, hx1⟩ := c2
  exact ⟨⟨_, t1.1⟩, fa, S, t1, km_pass hC hI (by omega) (cl_M G c1 ((ki_pass hI).le (by omega) (by omega)) (wb_le (wb_pass hW) (by omega)) hX)⟩
theorem cs_seat {a1 : Int32} (G : lG L m o fa) (hZ : lZ g L m o fa n h) (hn : n < 64) (hk : 2000 ≤ k) (hK : ∀ r15 h16, tC g L m o fa n (T8_seat g m a1) r15 h16 → K r15 h16) : T_X0_seat g (L 0) a1 o h k K KX := by
  obtain ⟨A, v, S, ⟨J, f, R, V, t, ho, _⟩, hC, hI, hW⟩ := hZ
  refine w_seat G R V t ho hk fun h1 c1 => hK _ _ fun XX K0 hX => ?_
  have c2 := c1
  obtain ⟨J1, f1, R1, V1, t1, ho1, hx1⟩ := c2
  exact ⟨⟨_, t1.1⟩, fa, S, t1, km_seat hC hI.2.2.2.1 (cl_M G c1 ((ki_seat hI).le (by omega) (by omega)) (wb_le (wb_seat hW) (by omega)) hX)⟩
theorem cs_link {a1 a2 a3 a4 : Int32} (G : lG L m o fa) (hZ : lZ g L m o fa n h) (hn : n < 64) (hk : 2000 ≤ k) (hK : ∀ r15 h16, tC g L m o fa n (T8_link g m a1 a2 a3 a4) r15 h16 → K r15 h16) : T_X0_link g (L 0) a1 a2 a3 a4 o h k K KX := by
  obtain ⟨A, v, S, ⟨J, f, R, V, t, ho, _⟩, hC, hI, hW⟩ := hZ
  refine w_link G R V t ho (fun k x hx => hI.sd k x hx) hk fun h1 c1 => hK _ _ fun XX K0 hX => ?_
  have c2 := c1
  obtain ⟨J1, f1, R1, V1, t1, ho1, hx1⟩ := c2
  exact ⟨⟨_, t1.1⟩, fa, S, t1, km_link hC hI.2.2.2.1 (cl_M G c1 ((ki_link hI).le (by omega) (by omega)) (wb_le (wb_link hW) (by omega)) hX)⟩
theorem cs_where {a1 a2 a3 a4 : Int32} (G : lG L m o fa) (hZ : lZ g L m o fa n h) (hn : n < 64) (hk : 2000 ≤ k) (hK : ∀ r15 h16, tC g L m o fa n (T8_where g m a1 a2 a3 a4) r15 h16 → K r15 h16) : T_X0_where g (L 0) a1 a2 a3 a4 o h k K KX := by
  obtain ⟨A, v, S, ⟨J, f, R, V, t, ho, _⟩, hC, hI, hW⟩ := hZ
  refine w_where G R V t ho (fun k x hx => hI.sd k x hx) hk fun h1 c1 => hK _ _ fun XX K0 hX => ?_
  have c2 := c1
  obtain ⟨J1, f1, R1, V1, t1, ho1, hx1⟩ := c2
  exact ⟨⟨_, t1.1⟩, fa, S, t1, km_where hC hI.2.2.2.1 (cl_M G c1 ((ki_where hI).le (by omega) (by omega)) (wb_le (wb_where hW) (by omega)) hX)⟩
theorem cs_out {a1 a2 : Int32} (G : lG L m o fa) (hZ : lZ g L m o fa n h) (hn : n < 64) (hk : 2000 ≤ k) (hK : ∀ r15 h16, tC g L m o fa n (T8_out g m a1 a2) r15 h16 → K r15 h16) : T_X0_out g (L 0) a1 a2 o h k K KX := by
  obtain ⟨A, v, S, ⟨J, f, R, V, t, ho, _⟩, hC, hI, hW⟩ := hZ
  refine w_out G R V t ho (fun k x hx => hI.sd k x hx) hk fun h1 c1 => hK _ _ fun XX K0 hX => ?_
  have c2 := c1
  obtain ⟨J1, f1, R1, V1, t1, ho1, hx1⟩ := c2
  exact ⟨⟨_, t1.1⟩, fa, S, t1, km_out hC hI.2.2.2.1 (cl_M G c1 ((ki_outp hI).le (by omega) (by omega)) (wb_le (wb_outp hW) (by omega)) hX)⟩
theorem cs_step {a1 a2 a3 a4 a5 a6 : Int32} (G : lG L m o fa) (hZ : lZ g L m o fa n h) (hn : n < 64) (hk : 2000 ≤ k) (hK : ∀ r15 h16, tC g L m o fa n (T8_step g m a1 a2 a3 a4 a5 a6) r15 h16 → K r15 h16) : T_X0_step g (L 0) a1 a2 a3 a4 a5 a6 o h k K KX := by
  obtain ⟨A, v, S, ⟨J, f, R, V, t, ho, _⟩, hC, hI, hW⟩ := hZ
  refine w_step G R V t ho hk fun h1 c1 => hK _ _ fun XX K0 hX => ?_
  have c2 := c1
  obtain ⟨J1, f1, R1, V1, t1, ho1, hx1⟩ := c2
  exact ⟨⟨_, t1.1⟩, fa, S, t1, km_step hC hI.2.2.2.2.1 (cl_M G c1 ((ki_step hI).le (by omega) (by omega)) (wb_le (wb_step2 hW) (by omega)) hX)⟩
theorem cs_count {a1 : Int32} (G : lG L m o fa) (hZ : lZ g L m o fa n h) (hn : n < 64) (hk : 2000 ≤ k) (hK : ∀ r15 h16, tC g L m o fa n (T8_count g m a1) r15 h16 → K r15 h16) : T_X0_count g (L 0) a1 o h k K KX := by
  obtain ⟨A, v, S, ⟨J, f, R, V, t, ho, _⟩, hC, hI, hW⟩ := hZ
  refine w_count G R V t ho hk fun h1 c1 => hK _ _ fun XX K0 hX => ?_
  have c2 := c1
  obtain ⟨J1, f1, R1, V1, t1, ho1, hx1⟩ := c2
  exact ⟨⟨_, t1.1⟩, fa, S, t1, km_count hC (cl_N G c1 hI hW hX)⟩
theorem cs_cell {a1 a2 a3 : Int32} (G : lG L m o fa) (hZ : lZ g L m o fa n h) (hn : n < 64) (hk : 2000 ≤ k) (hK : ∀ r15 h16, tC g L m o fa n (T8_cell g m a1 a2 a3) r15 h16 → K r15 h16) : T_X0_cell g (L 0) a1 a2 a3 o h k K KX := by
  obtain ⟨A, v, S, ⟨J, f, R, V, t, ho, _⟩, hC, hI, hW⟩ := hZ
  refine w_cell G R V t ho hk fun h1 c1 => hK _ _ fun XX K0 hX => ?_
  have c2 := c1
  obtain ⟨J1, f1, R1, V1, t1, ho1, hx1⟩ := c2
  exact ⟨⟨_, t1.1⟩, fa, S, t1, km_cell hC hI.1 (cl_N G c1 hI hW hX)⟩
theorem cs_answer {a1 a2 : Int32} (G : lG L m o fa) (hZ : lZ g L m o fa n h) (hn : n < 64) (hk : 2000 ≤ k) (hK : ∀ r15 h16, tC g L m o fa n (T8_answer g m a1 a2) r15 h16 → K r15 h16) : T_X0_answer g (L 0) a1 a2 o h k K KX := by
  obtain ⟨A, v, S, ⟨J, f, R, V, t, ho, _⟩, hC, hI, hW⟩ := hZ
  refine w_answer G R V t ho hk fun h1 c1 => hK _ _ fun XX K0 hX => ?_
  have c2 := c1
  obtain ⟨J1, f1, R1, V1, t1, ho1, hx1⟩ := c2
  exact ⟨⟨_, t1.1⟩, fa, S, t1, km_answer hC (cl_N G c1 hI hW hX)⟩
theorem cs_taken {a1 : Int32} (G : lG L m o fa) (hZ : lZ g L m o fa n h) (hn : n < 64) (hk : 2000 ≤ k) (hK : ∀ r15 h16, tC g L m o fa n (T8_taken g m a1) r15 h16 → K r15 h16) : T_X0_taken g (L 0) a1 o h k K KX := by
  obtain ⟨A, v, S, ⟨J, f, R, V, t, ho, _⟩, hC, hI, hW⟩ := hZ
  refine w_taken G R V t ho hk fun h1 c1 => hK _ _ fun XX K0 hX => ?_
  have c2 := c1
  obtain ⟨J1, f1, R1, V1, t1, ho1, hx1⟩ := c2
  exact ⟨⟨_, t1.1⟩, fa, S, t1, km_taken hC (cl_N G c1 hI hW hX)⟩
theorem cs_size {a1 : Int32} (G : lG L m o fa) (hZ : lZ g L m o fa n h) (hn : n < 64) (hk : 2000 ≤ k) (hK : ∀ r15 h16, tC g L m o fa n (T8_size g m a1) r15 h16 → K r15 h16) : T_X0_size g (L 0) a1 o h k K KX := by
  obtain ⟨A, v, S, ⟨J, f, R, V, t, ho, _⟩, hC, hI, hW⟩ := hZ
  refine w_size G R V t ho hk fun h1 c1 => hK _ _ fun XX K0 hX => ?_
  have c2 := c1
  obtain ⟨J1, f1, R1, V1, t1, ho1, hx1⟩ := c2
  exact ⟨⟨_, t1.1⟩, fa, S, t1, km_size hC (cl_N G c1 hI hW hX)⟩
end
