/-! SR 25 (printed by mk_w25.py): the world at the law's entry -/
set_option maxRecDepth 100000
def nwk : Cond → Bool := fun w => match w with
  | .castable _ _ => true
  | .declares _ => true
  | .fieldLinkNest _ _ _ _ _ _ => true
  | .methodLinkNest _ _ _ _ => true
  | .arrayOver _ => true
  | .publicMethod _ => true
  | .unhidden _ _ _ => true
  | .interfaceMethod r o _ _ => r == o && r == "QueryHarbor$Store"
  | .landsInDefault _ x y => x.cls == y.cls && x.name == y.name && x.desc == y.desc && x.cls == "QueryHarbor$Store"
  | _ => false
theorem nw_warm {w : Cond} (k : nwk w = true) {s U : State} (hW : s.WarmedH U.vm) (hZ : va_Nw w s) : va_Nw w U := by
  have hal := hW.alike
  have tr : ∀ {c : Cond}, c.onTables = true → c.before #[] (s.setVm U.vm) = true → va_Nw c U := fun hc h => va_tabs hc (rfl : (s.setVm U.vm).vm = U.vm) h
  unfold nwk at k
  split at k
  · exact va_Nw.warmC hW hZ
  · exact va_Nw.warmD hW hZ
  · exact va_Nw.warmF hW hZ
  · exact va_Nw.warmM hW hZ
  · next t =>
    have h9 : (Cond.arrayOver t).before #[] (s.setVm U.vm) = true := by rw [Cond.arrayOver_setVmC hal]; exact hZ
    exact h9
  · exact tr rfl (by rw [Cond.publicMethod_setVm hal]; exact hZ)
  · exact tr rfl (by rw [Cond.unhidden_setVm hal]; exact hZ)
  · next r o n d =>
    simp only [Bool.and_eq_true, beq_iff_eq] at k
    obtain ⟨rfl, rfl⟩ := k
    obtain ⟨_, _, m, _, _, _, _, hn⟩ := Cond.interfaceMethod_spec hZ
    exact tr rfl (by rw [Cond.interfaceMethod_setVm hal hn ⟨by decide, by decide⟩]; exact hZ)
  · next c x y =>
    simp only [Bool.and_eq_true, beq_iff_eq] at k
    obtain ⟨⟨⟨k1, k2⟩, k3⟩, k4⟩ := k
    obtain ⟨x1, x2, x3⟩ := x
    obtain ⟨y1, y2, y3⟩ := y
    simp only at k1 k2 k3 k4
    subst k1 k2 k3 k4
    obtain ⟨_, _, m, _, _, _, hn, _⟩ := Cond.landsInDefault_spec hZ
    have h9 : (Cond.landsInDefault c ⟨"QueryHarbor$Store", x2, x3⟩ ⟨"QueryHarbor$Store", x2, x3⟩).before #[] (s.setVm U.vm) = true := by
      rw [Cond.landsInDefault_setVm (args := #[]) (args' := #[]) hal (State.methodFound?_setVm_of_named hal hn ⟨(by decide : "QueryHarbor$Store" ≠ "java/lang/invoke/MethodHandle"), (by decide : "QueryHarbor$Store" ≠ "java/lang/invoke/VarHandle")⟩)]
      exact hZ
    exact h9
  · cases k
theorem nwk_c : ∀ w ∈ qc_N, nwk w = true := fun w hw => by
  have h : qc_nw w = true := (List.mem_filter.mp hw).2
  unfold qc_nw at h
  split at h <;> first | rfl | cases h
theorem nwk_p : ∀ w ∈ qp_N, nwk w = true := List.all_eq_true.mp (by decide +kernel : qp_N.all nwk = true)
/-- the stable part of the world -/
def wX (s0 : State) (b L : Nat) (xs : Nat → Int32) (x : qc_X) (sd : String → Nat → Nat) : State → Prop := fun U => va_X b L xs U U.heap ∧ s0.heap.size ≤ U.heap.size ∧ (∀ w, w ∈ qc_N ∨ w ∈ qp_N → va_Nw w U) ∧ (∀ q : String × String, q ∈ qp_nc ∨ q = ("java/lang/IndexOutOfBoundsException", "java/lang/IllegalStateException") → va_Nc q.1 q.2 U) ∧ va_Z "java/util/ArrayList" "DEFAULTCAPACITY_EMPTY_ELEMENTDATA" "[Ljava/lang/Object;" (.ref x.1) (fun q => s0.heap.size ≤ q) U U.heap ∧ va_T (.object "java/lang/Object") x.1 0 (fun _ => .null) (fun q => s0.heap.size ≤ q) U U.heap ∧ va_Z "java/lang/Integer$IntegerCache" "cache" "[Ljava/lang/Integer;" (.ref x.2.1) (fun q => s0.heap.size ≤ q) U U.heap ∧ va_T (.object "java/lang/Integer") x.2.1 256 (fun k => .ref (x.2.2.2 k)) (fun q => s0.heap.size ≤ q) U U.heap ∧ va_Z "java/lang/Integer$IntegerCache" "high" "I" (.int 127) (fun q => s0.heap.size ≤ q) U U.heap ∧ vb_C x.2.2.2 (fun q => s0.heap.size ≤ q) U U.heap ∧ va_Mi "[Ljava/lang/Object;" x.2.2.1 U ∧ vx_Zq Bundle.tN "UNASSIGNED_STACK" Bundle.steD (fun q => s0.heap.size ≤ q) U U.heap ∧ vx_Zq Bundle.tN "SUPPRESSED_SENTINEL" Bundle.listD (fun q => s0.heap.size ≤ q) U U.heap ∧ ∀ q ∈ qp_ts, vk_R q.1 q.2.1 q.2.2 (sd q.1 q.2.1) U
theorem wX_St {s0 : State} {b L : Nat} {xs : Nat → Int32} {x : qc_X} {sd : String → Nat → Nat} (hb : b < s0.heap.size) : ∀ s U : State, s.WarmedH U.vm → s.heap.size ≤ U.heap.size → (∀ q : Nat, q < s.heap.size → ¬ s0.heap.size ≤ q → U.heap[q]? = s.heap[q]?) → wX s0 b L xs x sd s → wX s0 b L xs x sd U := by
  intro s U hW hsz hq hX
  have hal := hW.alike
  obtain ⟨h1, h2, h3, h4, h5, h6, h7, h8, h9, h10, h11, h12, h13, h14⟩ := hX
  refine ⟨(h1.moved hal).kept (hq b (by omega) (by omega)), Nat.le_trans h2 hsz, fun w hw => nw_warm (hw.elim (nwk_c w) (nwk_p w)) hW (h3 w hw), fun q hq => (h4 q hq).moved hal, (h5.moved hal).kept hq, (h6.moved hal).kept hq, (h7.moved hal).kept hq, (h8.moved hal).kept hq, (h9.moved hal).kept hq, (h10.moved hal).kept hq, h11.moved hal, (h12.moved hal).kept hq, (h13.moved hal).kept hq, fun q hq => (h14 q hq).warm hW⟩
theorem wa_cls {s : State} {args : Array Value} {ty : FieldType} (h : (Cond.arrayClass ty).before args s = true) (hty : ∀ cA, va_RA s cA ty = (s.vm.findClass ("[" ++ ty.toString) = some cA)) : ∃ c, ArrOfT s c ty ∧ va_RA s c ty := by
  obtain ⟨c, k, comp, h1, h2, h3⟩ := Cond.arrayClass_spec h
  exact ⟨c, fun N z => ⟨(fun k h => by cases h), k, h2, comp, h3⟩, by rw [hty]; exact h1⟩
theorem wa_obj {s : State} {args : Array Value} {C : String} (h : (Cond.arrayOver (.object C)).before args s = true) : ∃ c, ArrOfT s c (.object C) ∧ va_RA s c (.object C) := by
  obtain ⟨comp, c, k, h1, h2, h3, h4, h5⟩ := Cond.arrayOver_spec h
  exact ⟨c, fun N z => ⟨(fun k h => by cases h), k, h3, comp, h4⟩, k, comp, h3, h4, h1, h5⟩
theorem wa_arr {s : State} {args : Array Value} {t : FieldType} (h : (Cond.arrayOver (.array t)).before args s = true) : ∃ c, ArrOfT s c (.array t) ∧ va_RA s c (.array t) := by
  obtain ⟨comp, c, k, h1, h3, h4, h5⟩ := Cond.arrayOver_specA h
  exact ⟨c, fun N z => ⟨(fun k h => by cases h), k, h3, comp, h4⟩, h5⟩
/-- classes and arrays by number -/
theorem wK {s : State} {args : Array Value} (hts : ∀ w ∈ lw_tbl, w.before args s = true) : ∃ (D : va_G) (cA : Nat → ClassId), va_K D qh_cl (qh_tys cA) s := by
  have htl : ∀ w ∈ lw_all, w.before args s = true := fun w h => hts w (lw_all_tbl h)
  obtain ⟨c0, iS0, hK0⟩ := u_known (C := RX1) (T := TX1) (N := 16) (n := 16) htl in_X1 (hts _ (lw_all_tbl q128))
  obtain ⟨c1, iS1, hK1⟩ := u_known (C := RX2) (T := TX2) (N := 10) (n := 10) htl in_X2 (hts _ (lw_all_tbl q137))
  obtain ⟨c2, iS2, hK2⟩ := u_known (C := RX3) (T := qh_no) (N := 0) (n := 0) htl (fun w h => by simp [u_ws] at h) (hts _ (lw_all_tbl q139))
  obtain ⟨c3, iS3, hK3⟩ := u_known (C := RX4) (T := qh_no) (N := 0) (n := 0) htl (fun w h => by simp [u_ws] at h) (hts _ (lw_all_tbl q187))
  obtain ⟨c4, iS4, hK4⟩ := u_known (C := RX5) (T := qh_no) (N := 0) (n := 0) htl (fun w h => by simp [u_ws] at h) (hts _ (lw_all_tbl q194))
  obtain ⟨c5, iS5, hK5⟩ := u_known (C := RX6) (T := TX6) (N := 7) (n := 7) htl in_X6 (hts _ (lw_all_tbl q232))
  obtain ⟨c6, iS6, hK6⟩ := u_known (C := RX7) (T := TX7) (N := 6) (n := 6) htl in_X7 (hts _ (lw_all_tbl q264))
  obtain ⟨c7, iS7, hK7⟩ := u_known (C := RX8) (T := TX8) (N := 94) (n := 94) htl in_X8 (hts _ (lw_all_tbl q1652))
  obtain ⟨c8, iS8, hK8⟩ := u_known (C := RX9) (T := TX9) (N := 2) (n := 2) htl in_X9 (hts _ (lw_all_tbl q634))
  obtain ⟨c9, iS9, hK9⟩ := u_known (C := RX10) (T := TX10) (N := 3) (n := 3) htl in_X10 (hts _ (lw_all_tbl q991))
  obtain ⟨c10, iS10, hK10⟩ := u_known (C := RX11) (T := TX11) (N := 4) (n := 4) htl in_X11 (hts _ (lw_all_tbl q1164))
  obtain ⟨c11, iS11, hK11⟩ := u_known (C := RX12) (T := TX12) (N := 4) (n := 4) htl in_X12 (hts _ (lw_all_tbl q1193))
  obtain ⟨c12, iS12, hK12⟩ := u_known (C := RX13) (T := TX13) (N := 2) (n := 2) htl in_X13 (hts _ (lw_all_tbl q1222))
  obtain ⟨c13, iS13, hK13⟩ := u_known (C := RX14) (T := TX14) (N := 11) (n := 11) htl in_X14 (hts _ (lw_all_tbl q1256))
  obtain ⟨c14, iS14, hK14⟩ := u_known (C := RX17) (T := TX17) (N := 5) (n := 5) htl in_X17 (hts _ (lw_all_tbl q1480))
  obtain ⟨c15, iS15, hK15⟩ := u_known (C := RX18) (T := TX18) (N := 4) (n := 4) htl in_X18 (hts _ (lw_all_tbl q1620))
  obtain ⟨c16, iS16, hK16⟩ := u_known (C := RJ2) (T := TJ2) (N := 3) (n := 3) htl in_J2 (hts _ (lw_all_tbl q205))
  obtain ⟨c17, iS17, hK17⟩ := u_known (C := RJ21) (T := TJ21) (N := 1) (n := 1) htl in_J21 (hts _ (lw_all_tbl q970))
  obtain ⟨c18, iS18, hK18⟩ := u_known (C := RX15) (T := qh_no) (N := 0) (n := 6) htl (fun w h => by simp [u_ws] at h) (hts _ (lw_all_tbl q1429))
  obtain ⟨c19, iS19, hK19⟩ := u_known (C := RX16) (T := qh_no) (N := 0) (n := 6) htl (fun w h => by simp [u_ws] at h) (hts _ (lw_all_tbl q1449))
  obtain ⟨c20, iS20, hK20⟩ := u_known (C := RJ6) (T := qh_no) (N := 0) (n := 6) htl (fun w h => by simp [u_ws] at h) (hts _ (lw_all_tbl q498))
  obtain ⟨c21, iS21, hK21⟩ := u_known (C := RJ9) (T := qh_no) (N := 0) (n := 6) htl (fun w h => by simp [u_ws] at h) (hts _ (lw_all_tbl q544))
  obtain ⟨c22, iS22, hK22⟩ := u_known (C := RJ12) (T := qh_no) (N := 0) (n := 6) htl (fun w h => by simp [u_ws] at h) (hts _ (lw_all_tbl q598))
  obtain ⟨a0, A0⟩ := wa_cls (ty := .int) (hts _ (lw_all_tbl q559)) (fun _ => rfl)
  obtain ⟨a1, A1⟩ := wa_cls (ty := .boolean) (hts _ (lw_all_tbl q230)) (fun _ => rfl)
  obtain ⟨a2, A2⟩ := wa_cls (ty := .long) (hts _ (lw_all_tbl q2321)) (fun _ => rfl)
  obtain ⟨a3, A3⟩ := wa_obj (hts _ q953)
  obtain ⟨a4, A4⟩ := wa_obj (hts _ q136)
  obtain ⟨a5, A5⟩ := wa_obj (hts _ q201)
  obtain ⟨a6, A6⟩ := wa_obj (hts _ q1527)
  obtain ⟨a7, A7⟩ := wa_obj (hts _ q1255)
  obtain ⟨a8, A8⟩ := wa_arr (hts _ q203)
  refine ⟨(fun k => match k with | 0 => c0 | 1 => c1 | 2 => c2 | 3 => c3 | 4 => c4 | 5 => c5 | 6 => c6 | 7 => c7 | 8 => c8 | 9 => c9 | 10 => c10 | 11 => c11 | 12 => c12 | 13 => c13 | 14 => c14 | 15 => c15 | 16 => c16 | 17 => c17 | 18 => c18 | 19 => c19 | 20 => c20 | 21 => c21 | _ => c22, fun k => match k with | 0 => iS0 | 1 => iS1 | 2 => iS2 | 3 => iS3 | 4 => iS4 | 5 => iS5 | 6 => iS6 | 7 => iS7 | 8 => iS8 | 9 => iS9 | 10 => iS10 | 11 => iS11 | 12 => iS12 | 13 => iS13 | 14 => iS14 | 15 => iS15 | 16 => iS16 | 17 => iS17 | 18 => iS18 | 19 => iS19 | 20 => iS20 | 21 => iS21 | _ => iS22), fun k => match k with | 0 => a0 | 1 => a1 | 2 => a2 | 3 => a3 | 4 => a4 | 5 => a5 | 6 => a6 | 7 => a7 | _ => a8, fun k q hq => ?_, fun k q hq => ?_⟩
  · match k, hq with
    | 0, hq => cases hq; exact hK0
    | 1, hq => cases hq; exact hK1
    | 2, hq => cases hq; exact hK2
    | 3, hq => cases hq; exact hK3
    | 4, hq => cases hq; exact hK4
    | 5, hq => cases hq; exact hK5
    | 6, hq => cases hq; exact hK6
    | 7, hq => cases hq; exact hK7
    | 8, hq => cases hq; exact hK8
    | 9, hq => cases hq; exact hK9
    | 10, hq => cases hq; exact hK10
    | 11, hq => cases hq; exact hK11
    | 12, hq => cases hq; exact hK12
    | 13, hq => cases hq; exact hK13
    | 14, hq => cases hq; exact hK14
    | 15, hq => cases hq; exact hK15
    | 16, hq => cases hq; exact hK16
    | 17, hq => cases hq; exact hK17
    | 18, hq => cases hq; exact hK18
    | 19, hq => cases hq; exact hK19
    | 20, hq => cases hq; exact hK20
    | 21, hq => cases hq; exact hK21
    | 22, hq => cases hq; exact hK22
    | k + 23, hq => cases hq
  · match k, hq with
    | 0, hq => cases hq; exact A0
    | 1, hq => cases hq; exact A1
    | 2, hq => cases hq; exact A2
    | 3, hq => cases hq; exact A3
    | 4, hq => cases hq; exact A4
    | 5, hq => cases hq; exact A5
    | 6, hq => cases hq; exact A6
    | 7, hq => cases hq; exact A7
    | 8, hq => cases hq; exact A8
    | k + 9, hq => cases hq
theorem w_val {c : Cond} {args : Array Value} {s : State} (h : c.before args s = true) : c.value args s none s [] = some true := by
  unfold Cond.before Cond.holds at h
  exact beq_iff_eq.mp h
theorem vb_inj {ad : Nat → Nat} {A : Nat → Prop} {U : State} {H : Heap} (h : vb_C ad A U H) : ∀ j k, j < 256 → k < 256 → ad j = ad k → j = k := by
  intro j k hj hk e
  obtain ⟨cf, kf, i, f, cell, g1, g2, g3, g4, g5, g6⟩ := h.2 j hj
  obtain ⟨cf', kf', i', f', cell', d1, d2, d3, d4, d5, d6⟩ := h.2 k hk
  rw [g1] at d1
  cases d1
  rw [← e, g3] at d3
  cases d3
  rw [g5] at d5
  have e1 : vb_c j = vb_c k := by
    injection d5 with d5
    injection d5
  unfold vb_c at e1
  have e2 : (nI j - nI 128).toInt = (nI k - nI 128).toInt := congrArg Int32.toInt e1
  rw [pk_sub_toInt (by omega) (by omega), pk_sub_toInt (by omega) (by omega)] at e2
  omega
theorem nwk_t {w : Cond} (k : nwk w = true) {A : Array Value} {s : State} (h : w.before A s = true) : va_Nw w s := by
  unfold nwk at k
  split at k
  · exact va_Nw.of rfl h
  · exact va_Nw.of rfl h
  · exact va_Nw.of rfl h
  · exact va_Nw.of rfl h
  · exact h
  · exact va_Nw.of rfl h
  · exact va_Nw.of rfl h
  · exact va_Nw.of rfl h
  · exact h
  · cases k
theorem w_ld : ∀ w ∈ qp_df.map (fun q => Cond.landsInDefault q.1 q.2 q.2), w ∈ flatC (Jvm.Cond.and given_1 narrow_1) := by decide +kernel
theorem w_nc : ∀ q ∈ qp_nc ++ [("java/lang/IndexOutOfBoundsException", "java/lang/IllegalStateException")], Cond.not (.castable q.1 q.2) ∈ flatC (Jvm.Cond.and given_1 narrow_1) := by decide +kernel
theorem va_str {own : String} {k a : Nat} {args : Array Value} {s : State} (h : (Term.string own k).eval args s none [] s = some (.ref a)) : (Term.string own k).eval args s none [] s = some (.ref a) := h
theorem w_start {s : State} {b L : Nat} {xs : Nat → Int32} (hts : ∀ w ∈ lw_tbl, w.before #[Value.ref b] s = true) (hX : va_X b L xs s s.heap) (hbl : b < s.heap.size) (hgv : (Jvm.Cond.and given_1 narrow_1).before #[Value.ref b] s = true) : ∃ (x : qc_X) (sd : String → Nat → Nat), wX s b L xs x sd s ∧ ∀ j k, j < 256 → k < 256 → x.2.2.2 j = x.2.2.2 k → j = k := by
  have hf := flat_of_before _ hgv
  have hA : ∀ a : Nat, a < s.heap.size → ¬ (fun q : Nat => s.heap.size ≤ q) a := fun a h => Nat.not_le.mpr h
  obtain ⟨t1, e1, T1⟩ := va_Tof (tm := .static "java/util/ArrayList" "DEFAULTCAPACITY_EMPTY_ELEMENTDATA" "[Ljava/lang/Object;") (ty := .object "java/lang/Object") (N := 0) (f := fun _ => .null) (A := fun q => s.heap.size ≤ q) (by decide) (hf (.arrayOf (.static "java/util/ArrayList" "DEFAULTCAPACITY_EMPTY_ELEMENTDATA" "[Ljava/lang/Object;") (.object "java/lang/Object")) (by decide +kernel)) (va_eqI (w_val (hf (.eq (.length (.static "java/util/ArrayList" "DEFAULTCAPACITY_EMPTY_ELEMENTDATA" "[Ljava/lang/Object;")) (.int 0)) (by decide +kernel))) rfl) (fun j hj => absurd hj (Nat.not_lt_zero j)) hA
  have hlen : (Term.length (.static "java/lang/Integer$IntegerCache" "cache" "[Ljava/lang/Integer;")).eval #[.ref b] s none [] s = some (.int (Int32.ofNat 256)) := va_eqI (w_val (hf (.eq (.length (.static "java/lang/Integer$IntegerCache" "cache" "[Ljava/lang/Integer;")) (.int 256)) (by decide +kernel))) rfl
  obtain ⟨ad, C2, el⟩ := vb_Cof (st := .static "java/lang/Integer$IntegerCache" "cache" "[Ljava/lang/Integer;") (A := fun q => s.heap.size ≤ q) rfl hlen (hf (.all (.static "java/lang/Integer$IntegerCache" "cache" "[Ljava/lang/Integer;") (.and (.exactly (.elem (.static "java/lang/Integer$IntegerCache" "cache" "[Ljava/lang/Integer;") (.index 0)) "java/lang/Integer") (.eq (.field (.elem (.static "java/lang/Integer$IntegerCache" "cache" "[Ljava/lang/Integer;") (.index 0)) "java/lang/Integer" "value" "I") (.sub (.index 0) (.int 128))))) (by decide +kernel)) hA
  obtain ⟨t2, e2, T2⟩ := va_Tof (tm := .static "java/lang/Integer$IntegerCache" "cache" "[Ljava/lang/Integer;") (ty := .object "java/lang/Integer") (N := 256) (f := fun k => .ref (ad k)) (A := fun q => s.heap.size ≤ q) (by decide) (hf (.arrayOf (.static "java/lang/Integer$IntegerCache" "cache" "[Ljava/lang/Integer;") (.object "java/lang/Integer")) (by decide +kernel)) hlen el hA
  obtain ⟨mi, Mi⟩ := va_Mi.of (hf (.isRef (.mirror "[Ljava/lang/Object;")) (by decide +kernel))
  obtain ⟨d0, _, _, _, D0, _⟩ := Cond.exactly_spec (t := .string "QueryHarbor" 93) (cls := "java/lang/String") (hf (.exactly (.string "QueryHarbor" 93) "java/lang/String") (by decide +kernel))
  obtain ⟨d1, _, _, _, D1, _⟩ := Cond.exactly_spec (t := .string "QueryHarbor" 100) (cls := "java/lang/String") (hf (.exactly (.string "QueryHarbor" 100) "java/lang/String") (by decide +kernel))
  obtain ⟨d2, _, _, _, D2, _⟩ := Cond.exactly_spec (t := .string "QueryHarbor" 109) (cls := "java/lang/String") (hf (.exactly (.string "QueryHarbor" 109) "java/lang/String") (by decide +kernel))
  obtain ⟨d3, _, _, _, D3, _⟩ := Cond.exactly_spec (t := .string "QueryHarbor" 316) (cls := "java/lang/String") (hf (.exactly (.string "QueryHarbor" 316) "java/lang/String") (by decide +kernel))
  obtain ⟨d4, _, _, _, D4, _⟩ := Cond.exactly_spec (t := .string "QueryHarbor" 332) (cls := "java/lang/String") (hf (.exactly (.string "QueryHarbor" 332) "java/lang/String") (by decide +kernel))
  obtain ⟨d5, _, _, _, D5, _⟩ := Cond.exactly_spec (t := .string "QueryHarbor" 339) (cls := "java/lang/String") (hf (.exactly (.string "QueryHarbor" 339) "java/lang/String") (by decide +kernel))
  refine ⟨(t1, t2, mi, ad), fun (o : String) (k : Nat) => if k = 93 then d0 else if k = 100 then d1 else if k = 109 then d2 else if k = 316 then d3 else if k = 332 then d4 else if k = 339 then d5 else 0, ⟨hX, Nat.le_refl _, fun w hw => ?_, fun q hq => ?_, va_Zref (hts _ q217) (hts _ (lw_all_tbl q92)) e1 hA, T1, va_Zref (hts _ q968) (hts _ (lw_all_tbl q117)) e2 hA, T2, va_Zof (hts _ q966) (hts _ (lw_all_tbl q117)) (va_eqI (w_val (hf (.eq (.static "java/lang/Integer$IntegerCache" "high" "I") (.int 127)) (by decide +kernel))) rfl) hA, C2, Mi, vx_Zqof (hts _ q423) (hts _ (lw_all_tbl q96)) (hf (.isRef (.static "java/lang/Throwable" "UNASSIGNED_STACK" "[Ljava/lang/StackTraceElement;")) (by decide +kernel)) hA, vx_Zqof (hts _ q425) (hts _ (lw_all_tbl q96)) (hf (.isRef (.static "java/lang/Throwable" "SUPPRESSED_SENTINEL" "Ljava/util/List;")) (by decide +kernel)) hA, fun q hq => ?_⟩, vb_inj C2⟩
  · have hk : nwk w = true := hw.elim (nwk_c w) (nwk_p w)
    rcases hw with hw | hw
    · exact nwk_t hk (hts w (List.mem_filter.mp hw).1)
    · rcases List.mem_append.mp hw with hw | hw
      · exact nwk_t hk (hts w (List.mem_filter.mp hw).1)
      · exact nwk_t hk (hf w (w_ld w hw))
  · refine va_Nc.of (hf _ (w_nc q ?_))
    rcases hq with hq | hq
    · exact List.mem_append_left _ hq
    · rw [hq]
      exact List.mem_append_right _ List.mem_cons_self
  · have hq : q = ("QueryHarbor", 93, "number") ∨ q = ("QueryHarbor", 100, "unfit") ∨ q = ("QueryHarbor", 109, "state") ∨ q = ("QueryHarbor", 316, "deadline") ∨ q = ("QueryHarbor", 332, "failed") ∨ q = ("QueryHarbor", 339, "no answer") := by simpa [qp_ts] using hq
    rcases hq with rfl | rfl | rfl | rfl | rfl | rfl
    · exact vk_R.of (hts _ q506) (va_str D0)
    · exact vk_R.of (hts _ q552) (va_str D1)
    · exact vk_R.of (hts _ q606) (va_str D2)
    · exact vk_R.of (hts _ q1437) (va_str D3)
    · exact vk_R.of (hts _ q1457) (va_str D4)
    · exact vk_R.of (hts _ q1464) (va_str D5)
