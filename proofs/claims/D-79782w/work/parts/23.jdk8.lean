/-! JDK 8: clear over level 1; Integer.valueOf, intValue -/
set_option maxRecDepth 100000
section
variable {g : qh_G} {x : qc_X} {d : Nat} {τ : qh_H} {Q : qh_R → qh_H → Prop}
theorem j0_clearL {p ea n cap : Nat} (τ1 : qh_H) (h1 : n ≤ cap) (h2 : cap ≤ 65536) (hq : ∀ f', Q (.inl none) (qh_upd τ1 ea (qj_a g cap f'))) : ∀ (j k : Nat) (f : Nat → Option Nat), k + j = n → qh_wp g d 0 I_J2_clear 27 [some (.ref p), some (.ref ea), some (.int (nI n)), some (.int (nI k))] [] (qh_upd τ1 ea (qj_a g cap f)) Q := by
  intro j
  induction j with
  | zero =>
    intro k f hk
    refine qh_iload_n E_J2_clear (by rfl) dJ2_clear_27 ?_
    refine qh_iload_n E_J2_clear (by rfl) dJ2_clear_28 ?_
    refine qh_icmp_ge E_J2_clear 42 dJ2_clear_29 (by decide) (fun _ => ?_) (fun q => absurd (nI_le (a := n) (b := k) (by omega) (by omega)) q)
    exact qh_vret E_J2_clear rfl dJ2_clear_42 (hq f)
  | succ j ih =>
    intro k f hk
    refine qh_iload_n E_J2_clear (by rfl) dJ2_clear_27 ?_
    refine qh_iload_n E_J2_clear (by rfl) dJ2_clear_28 ?_
    refine qh_icmp_ge E_J2_clear 42 dJ2_clear_29 (by decide) (fun q => absurd q (nI_ge (a := k) (b := n) (by omega) (by omega))) (fun _ => ?_)
    refine qh_aload_n E_J2_clear (by rfl) dJ2_clear_32 ?_
    refine qh_iload_n E_J2_clear (by rfl) dJ2_clear_33 ?_
    refine qh_null E_J2_clear dJ2_clear_34 ?_
    refine qh_aastN 3 (fun _ => rfl) E_J2_clear (n := cap) (f := f) qh_upd_s (vp_in_nI (n := k) (by omega) (by omega)) dJ2_clear_35 ?_
    rw [qh_uu]
    refine qh_iinc E_J2_clear 1 (by rfl) (by decide) (by decide) dJ2_clear_36 ?_
    refine qh_goto E_J2_clear 27 dJ2_clear_39 (by decide) ?_
    have := ih (k + 1) (va_up f (nI k).toNatClampNeg none) (by omega)
    rw [← nI_1 k] at this
    exact this
theorem j0_clear {p ea n cap : Nat} {m : Int32} {f : Nat → Option Nat} (hp : τ p = some (qj_o m ea (nI n))) (he : τ ea = some (qj_a g cap f)) (h1 : n ≤ cap) (h2 : cap ≤ 65536) (hq : ∀ f', Q (.inl none) (qh_upd (qh_upd τ ea (qj_a g cap f')) p (qj_o (m + 1) ea (nI 0)))) : qh_S g d 0 I_J2_clear [.ref p] τ Q := by
  have ne : p ≠ ea := fun z => by rw [z, he] at hp; cases hp
  refine qh_S.of (by decide) rfl (ls := [some (.ref p), none, none, none]) rfl (Nat.le_of_ble_eq_true rfl) (qm_ct rfl) ?_
  refine qh_aload_n E_J2_clear (by rfl) dJ2_clear_0 ?_
  refine qh_dup E_J2_clear rfl dJ2_clear_1 ?_
  refine qh_getfS E_J2_clear rfl qj_ck 0 (by decide) q221 q222 hp rfl dJ2_clear_2 ?_
  refine qh_iconst E_J2_clear 1 (by decide) dJ2_clear_5 ?_
  refine qh_iadd E_J2_clear dJ2_clear_6 ?_
  refine qh_putfS E_J2_clear rfl qj_ck 0 (by decide) q221 q222 rfl rfl rfl hp (Nat.le_of_ble_eq_true rfl) dJ2_clear_7 ?_
  have hp1 : qh_upd τ p (qj_o (m + 1) ea (nI n)) p = some (qj_o (m + 1) ea (nI n)) := qh_upd_s
  refine qh_aload_n E_J2_clear (by rfl) dJ2_clear_10 ?_
  refine qh_getf E_J2_clear rfl qj_ck 1 (by decide) q218 hp1 rfl dJ2_clear_11 ?_
  refine qh_astore_n E_J2_clear (by decide) dJ2_clear_14 ?_
  refine qh_aload_n E_J2_clear (by rfl) dJ2_clear_15 ?_
  refine qh_getf E_J2_clear rfl qj_ck 2 (by decide) q219 hp1 rfl dJ2_clear_16 ?_
  refine qh_istore_n E_J2_clear (by decide) dJ2_clear_19 ?_
  refine qh_aload_n E_J2_clear (by rfl) dJ2_clear_20 ?_
  refine qh_iconst E_J2_clear 0 (by decide) dJ2_clear_21 ?_
  refine qh_dup_x1 E_J2_clear rfl rfl dJ2_clear_22 ?_
  refine qh_putf E_J2_clear rfl qj_ck 2 (by decide) q219 rfl rfl rfl hp1 (Nat.le_of_ble_eq_true rfl) dJ2_clear_23 ?_
  refine qh_istore_n E_J2_clear (by decide) dJ2_clear_26 ?_
  have hw := j0_clearL (g := g) (d := d) (p := p) (ea := ea) (n := n) (cap := cap) (Q := Q) (qh_upd τ p (qj_o (m + 1) ea (nI 0))) h1 h2 (fun f' => by rw [qj_sw ne]; exact hq f') n 0 f (by omega)
  rw [qj_id (by rw [qh_upd_n ne.symm]; exact he)] at hw
  refine qh_wp.less (τ' := qh_upd τ p (qj_o (m + 1) ea (nI 0))) (fun a e ha => ?_) hw
  have e1 : qh_upd (qh_upd τ p (.inr (16, [Value.int (m + 1), .ref ea, .int (nI n)]))) p (qj_o (m + 1) ea (nI 0)) = qh_upd τ p (qj_o (m + 1) ea (nI 0)) := qh_uu
  show qh_upd (qh_upd τ p (.inr (16, [Value.int (m + 1), .ref ea, .int (nI n)]))) p (qj_o (m + 1) ea (nI 0)) a = some e
  rw [e1]
  exact ha
theorem j0_clearE {p ea : Nat} {m : Int32} (hp : τ p = some (qj_o m ea (nI 0))) (hq : Q (.inl none) (qh_upd τ p (qj_o (m + 1) ea (nI 0)))) : qh_S g d 0 I_J2_clear [.ref p] τ Q := by
  refine qh_S.of (by decide) rfl (ls := [some (.ref p), none, none, none]) rfl (Nat.le_of_ble_eq_true rfl) (qm_ct rfl) ?_
  refine qh_aload_n E_J2_clear (by rfl) dJ2_clear_0 ?_
  refine qh_dup E_J2_clear rfl dJ2_clear_1 ?_
  refine qh_getfS E_J2_clear rfl qj_ck 0 (by decide) q221 q222 hp rfl dJ2_clear_2 ?_
  refine qh_iconst E_J2_clear 1 (by decide) dJ2_clear_5 ?_
  refine qh_iadd E_J2_clear dJ2_clear_6 ?_
  refine qh_putfS E_J2_clear rfl qj_ck 0 (by decide) q221 q222 rfl rfl rfl hp (Nat.le_of_ble_eq_true rfl) dJ2_clear_7 ?_
  have hp1 : qh_upd τ p (qj_o (m + 1) ea (nI 0)) p = some (qj_o (m + 1) ea (nI 0)) := qh_upd_s
  refine qh_aload_n E_J2_clear (by rfl) dJ2_clear_10 ?_
  refine qh_getf E_J2_clear rfl qj_ck 1 (by decide) q218 hp1 rfl dJ2_clear_11 ?_
  refine qh_astore_n E_J2_clear (by decide) dJ2_clear_14 ?_
  refine qh_aload_n E_J2_clear (by rfl) dJ2_clear_15 ?_
  refine qh_getf E_J2_clear rfl qj_ck 2 (by decide) q219 hp1 rfl dJ2_clear_16 ?_
  refine qh_istore_n E_J2_clear (by decide) dJ2_clear_19 ?_
  refine qh_aload_n E_J2_clear (by rfl) dJ2_clear_20 ?_
  refine qh_iconst E_J2_clear 0 (by decide) dJ2_clear_21 ?_
  refine qh_dup_x1 E_J2_clear rfl rfl dJ2_clear_22 ?_
  refine qh_putf E_J2_clear rfl qj_ck 2 (by decide) q219 rfl rfl rfl hp1 (Nat.le_of_ble_eq_true rfl) dJ2_clear_23 ?_
  refine qh_istore_n E_J2_clear (by decide) dJ2_clear_26 ?_
  refine qh_iload_n E_J2_clear (by rfl) dJ2_clear_27 ?_
  refine qh_iload_n E_J2_clear (by rfl) dJ2_clear_28 ?_
  refine qh_icmp_ge E_J2_clear 42 dJ2_clear_29 (by decide) (fun _ => ?_) (fun q => absurd (by decide) q)
  refine qh_vret E_J2_clear rfl dJ2_clear_42 ?_
  have e1 : qh_upd (qh_upd τ p (.inr (16, [Value.int (m + 1), .ref ea, .int (nI 0)]))) p (qj_o (m + 1) ea (nI 0)) = qh_upd τ p (qj_o (m + 1) ea (nI 0)) := qh_uu
  show Q (.inl none) (qh_upd (qh_upd τ p (.inr (16, [Value.int (m + 1), .ref ea, .int (nI 0)]))) p (qj_o (m + 1) ea (nI 0)))
  rw [e1]
  exact hq
theorem j0_initN {p : Nat} (hq : Q (.inl none) τ) : qh_S g (d + 1) 0 I_J20_init [.ref p] τ Q := by
  refine qh_S.of (by decide) rfl (ls := [some (.ref p)]) rfl (Nat.le_of_ble_eq_true rfl) (qm_ct rfl) ?_
  refine qh_aload_n E_J20_init (by rfl) dJ20_init_0 ?_
  refine qh_objInit E_J20_init rfl q977 q133 q134 dJ20_init_1 (Nat.le_of_ble_eq_true rfl) ?_
  exact qh_vret E_J20_init rfl dJ20_init_4 hq
theorem j0_initI {p : Nat} {v : Int32} {w : Value} (hp : τ p = some (.inr (17, [w]))) (hq : Q (.inl none) (qh_upd τ p (.inr (17, [.int v])))) : qh_S g (d + 2) 0 I_J21_init [.ref p, .int v] τ Q := by
  refine qh_S.of (by decide) rfl (ls := [some (.ref p), some (.int v)]) rfl (Nat.le_of_ble_eq_true rfl) (qm_ct rfl) ?_
  refine qh_aload_n E_J21_init (by rfl) dJ21_init_0 ?_
  refine qh_callI (c := 0) (k := 0) (As := []) (rest := []) E_J21_init rfl M_J20_init rfl rfl rfl q974 q975 rfl rfl (Nat.le_of_ble_eq_true rfl) dJ21_init_1 ?_
  refine j0_initN ?_
  refine qh_aload_n E_J21_init (by rfl) dJ21_init_4 ?_
  refine qh_iload_n E_J21_init (by rfl) dJ21_init_5 ?_
  refine qh_putF E_J21_init rfl rfl qj_ckI 0 (by decide) q978 rfl rfl rfl rfl hp (Nat.le_of_ble_eq_true rfl) dJ21_init_6 ?_
  exact qh_vret E_J21_init rfl dJ21_init_9 hq
end
