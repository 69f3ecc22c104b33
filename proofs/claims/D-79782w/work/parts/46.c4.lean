/-! CORE 21, next part (printed by gen2.py) -/
set_option maxRecDepth 100000
def I_X1_request : qh_I := (yX1_request, cX1_request, 8, (Option.none : Option Jvm.ClassFile.FieldType), [(12, 21, 22, 330)])
theorem E_X1_request : I_X1_request.2.1 = cX1_request := rfl
theorem M_X1_request : qh_M I_X1_request 4 := ⟨by decide, by decide, by decide +kernel, q85, q1423, by decide⟩
theorem thr_X1_request_34 {g : qh_G} {x : qc_X} {d c : Nat} {ls : List (Option Value)} {h : qc_H} {Q : qh_R → qc_H → Prop} {sd : String → Nat → Nat} {r : Option Nat} (hO : qc_O g x) (hP : qc_P g qp_ts sd) (hl : ls[5]? = some (some (va_rf r))) (hq : Q (.inr "QueryHarbor$NoAnswer") h) : qc_wp g x (d + 4) (c + 7) I_X1_request 34 ls [] h Q := fun τ hR => qh_throwA (d := d + 4) (c := c + 1) (own := RX1) (text := "no answer") (sa := sd "QueryHarbor" 339) (n1 := 2) (r := r) E_X1_request rfl hP.1 q1362 q1429 q123 q1438 q1439 q1440 (hP.2.2.2.2.2 ("QueryHarbor", 339, "no answer") (by decide)) hP.2.2.2.1 hP.2.2.2.2.1 dX1_request_34 dX1_request_37 dX1_request_38 (Or.inr ⟨_, dX1_request_41, rfl, hl⟩) dX1_request_43 dX1_request_46 (by decide) ⟨h, hR, hq⟩
def T_X1_request (g : qh_G) (a0 : Nat) (a1 : Nat) (a2 : Int32) (a3 : Int32) (a4 : Nat) (hp : qc_H) (c : Nat) (K : qc_H → Prop) (KX : String → qc_H → Prop) : Prop := ∀ X1 : Option Nat → Int32 → qc_H → Nat → Prop, (∀ (x2 : Option Nat) (x3 : Int32) (h4 : qc_H) (c5 : Nat), ((3 ≤ x3 → eTh c5 (KX "QueryHarbor$NoAnswer" h4)) ∧ (¬ 3 ≤ x3 → eC h4 a0 0 (eK c5 (fun c8 k7 => T_X1_attempt g a0 a1 a2 a3 a4 h4 k7 (fun h9 => K h9) (fun Ez h10 => (Ez = "QueryHarbor$Failed" ∧ ∀ q11 : Nat, X1 (some q11) (x3 + 1) h10 c8) ∨ (Ez = "QueryHarbor$NoAnswer" ∧ KX "QueryHarbor$NoAnswer" h10)))))) → X1 x2 x3 h4 c5) → X1 none 0 hp c
set_option maxHeartbeats 8000000 in
theorem C_X1_request {g : qh_G} {x : qc_X} {d : Nat} {sd : String → Nat → Nat} (hO : qc_O g x) (hP : qc_P g qp_ts sd) (a0 : Nat) (a1 : Nat) (a2 : Int32) (a3 : Int32) (a4 : Nat) (hp : qc_H) (c : Nat) (K : qc_H → Prop) (KX : String → qc_H → Prop) (hz : T_X1_request g a0 a1 a2 a3 a4 hp c K KX) : qc_S g x (d + 9) c I_X1_request [.ref a0, .ref a1, .int a2, .int a3, .ref a4] hp (oX (oV K) KX) := by
  refine qc_S.ofH (by decide) rfl (ls := [some (.ref a0), some (.ref a1), some (.int a2), some (.int a3), some (.ref a4), none, none, none]) rfl (Nat.le_of_ble_eq_true rfl) (ct_c rfl (ct_c rfl (ct_c rfl (ct_c rfl (ct_c rfl ct_n))))) ?_
  unfold T_X1_request at hz
  have h := hz
  clear hz
  refine qc_null E_X1_request dX1_request_0 ?_
  refine qc_astoreN E_X1_request (by decide) dX1_request_1 ?_
  refine qc_iconst E_X1_request 0 (by decide) dX1_request_3 ?_
  refine qc_istore E_X1_request (by decide) dX1_request_4 ?_
  refine h (fun (x2 : Option Nat) (x3 : Int32) (h4 : qc_H) (c5 : Nat) => qc_wp g x (d + 9) c5 I_X1_request 6 [some (.ref a0), some (.ref a1), some (.int a2), some (.int a3), some (.ref a4), some (va_rf x2), some (.int x3), none] [] h4 (oX (oV K) KX)) ?_
  clear h
  intro x2 x3 h4 c5 h
  refine qc_iload E_X1_request (by rfl) dX1_request_6 ?_
  refine qc_iconst E_X1_request 3 (by decide) dX1_request_8 ?_
  refine qc_icmp_ge E_X1_request 34 dX1_request_9 (by decide) (fun (c6 : 3 ≤ x3) => ?_) (fun (c6 : ¬ 3 ≤ x3) => ?_)
  · replace h := h.1 c6
    obtain ⟨cz, rfl, h⟩ := h
    exact thr_X1_request_34 (d := d + 5) hO hP (by rfl) (Or.inr ⟨_, rfl, h⟩)
  · replace h := h.2 c6
    refine qc_aload_n E_X1_request (by rfl) dX1_request_12 ?_
    refine qc_aload_n E_X1_request (by rfl) dX1_request_13 ?_
    refine qc_iload_n E_X1_request (by rfl) dX1_request_14 ?_
    refine qc_iload_n E_X1_request (by rfl) dX1_request_15 ?_
    refine qc_aload E_X1_request (by rfl) dX1_request_16 ?_
    obtain ⟨⟨fz, hb⟩, c8, k7, rfl, h⟩ := h
    refine qc_callV (c := c8) (k := k7) (As := [.ref a1, .int a2, .int a3, .ref a4]) (rest := []) hO E_X1_request rfl M_X1_attempt rfl q1425 q1427 qs22 (ci := 0) rfl rfl hb rfl rfl (Nat.le_of_ble_eq_true rfl) dX1_request_18 (qc_S.mono ?_ (C_X1_attempt (d := d) hO hP a0 a1 a2 a3 a4 h4 k7 _ _ h))
    clear h
    clear hb
    rintro _ tz (hz | hz)
    · revert tz; rintro h9 ⟨rfl, h⟩
      refine K1_v ?_
      exact qc_vret E_X1_request rfl dX1_request_21 (Or.inl (⟨rfl, h⟩))
    · revert tz; rintro h10 ⟨Ez, rfl, h⟩
      refine K1_x ?_
      rcases h with ⟨rfl, h⟩ | ⟨rfl, h⟩
      · refine qc_catch (own := RX1) rfl [] ⟨12, 21, 22, 330⟩ [] rfl (by intro z hz; cases hz) (by decide) (by decide) q1424 (hP.2.1 _ (qp_n q1450 rfl)) ?_
        intro q11
        replace h := h q11
        refine qc_astore E_X1_request (by decide) dX1_request_22 ?_
        refine qc_aload E_X1_request (by rfl) dX1_request_24 ?_
        refine qc_astore E_X1_request (by decide) dX1_request_26 ?_
        refine qc_iinc E_X1_request 1 rfl (by decide) (by decide) dX1_request_28 ?_
        refine qc_goto E_X1_request 6 dX1_request_31 (by decide) ?_
        refine qc_drop 7 ?_
        exact h
      · exact qc_outP rfl (by intro z hz; have hz : z ∈ ([⟨12, 21, 22, 330⟩] : List ExceptionTableEntry) := hz; simp only [List.mem_cons, List.not_mem_nil, or_false] at hz; subst hz; exact Or.inr ⟨by decide, _, q1424, hP.2.2.1 ("QueryHarbor$NoAnswer", "QueryHarbor$Failed") (by decide)⟩) (Or.inr ⟨_, rfl, h⟩)
def I_X12_holdsFor : qh_I := (yX12_holdsFor, cX12_holdsFor, 3, (Option.some Jvm.ClassFile.FieldType.boolean), [])
theorem E_X12_holdsFor : I_X12_holdsFor.2.1 = cX12_holdsFor := rfl
theorem M_X12_holdsFor : qh_M I_X12_holdsFor 1 := ⟨by decide, by decide, by decide +kernel, q120, q1471, by decide⟩
def T_X12_holdsFor (g : qh_G) (a0 : Nat) (a1 : Nat) (hp : qc_H) (K : Int32 → Prop) : Prop := eR hp a1 8 1 (fun v1 => eI hp a0 11 1 (fun v2 => eA g.2.2.2.1 hp v1 v2 (fun v3 => eI hp a0 11 2 (fun v4 => (v4 = 0 → eI hp a0 11 3 (fun v5 => (¬ v3 = v5 → K 0) ∧ (v3 = v5 → K 1))) ∧ (v4 = 1 → T_X1_isNumber g v3 hp (fun r7 => (r7 = 0 → K 0) ∧ (¬ r7 = 0 → eI hp a0 11 3 (fun v10 => (v10 ≤ v3 → K 0) ∧ (¬ v10 ≤ v3 → K 1))))) ∧ (v4 = 2 → T_X1_isNumber g v3 hp (fun r12 => (r12 = 0 → K 0) ∧ (¬ r12 = 0 → eI hp a0 11 3 (fun v15 => (v3 ≤ v15 → K 0) ∧ (¬ v3 ≤ v15 → K 1))))) ∧ (v4 = 3 → (¬ v3 = 5000 → K 0) ∧ (v3 = 5000 → K 1)) ∧ (¬ v4 = 0 → ¬ v4 = 1 → ¬ v4 = 2 → ¬ v4 = 3 → (¬ v3 = 5001 → K 0) ∧ (v3 = 5001 → K 1))))))
set_option maxHeartbeats 8000000 in
theorem C_X12_holdsFor {g : qh_G} {x : qc_X} {d : Nat} {sd : String → Nat → Nat} (hO : qc_O g x) (hP : qc_P g qp_ts sd) (a0 : Nat) (a1 : Nat) (hp : qc_H) (K : Int32 → Prop) (hz : T_X12_holdsFor g a0 a1 hp K) : qc_S g x (d + 1) 0 I_X12_holdsFor [.ref a0, .ref a1] hp (oZ (fun v t => hp = t ∧ K v)) := by
  refine qc_S.of (by decide) rfl (ls := [some (.ref a0), some (.ref a1), none]) rfl (Nat.le_of_ble_eq_true rfl) (ct_c rfl (ct_c rfl ct_n)) ?_
  unfold T_X12_holdsFor at hz
  have h := hz
  clear hz
  refine qc_aload_n E_X12_holdsFor (by rfl) dX12_holdsFor_0 ?_
  refine re_getR E_X12_holdsFor rfl ck_X9 (by decide) 1 (by decide) q644 dX12_holdsFor_1 h ?_
  clear h
  intro v1 h
  refine qc_aload_n E_X12_holdsFor (by rfl) dX12_holdsFor_4 ?_
  refine re_getI E_X12_holdsFor rfl ck_X12 (by decide) 1 (by decide) q1200 dX12_holdsFor_5 h ?_
  clear h
  intro v2 h
  refine re_iald E_X12_holdsFor dX12_holdsFor_8 h ?_
  clear h
  intro v3 h
  refine qc_istore_n E_X12_holdsFor (by decide) dX12_holdsFor_9 ?_
  refine qc_aload_n E_X12_holdsFor (by rfl) dX12_holdsFor_10 ?_
  refine re_getI E_X12_holdsFor rfl ck_X12 (by decide) 2 (by decide) q1202 dX12_holdsFor_11 h ?_
  clear h
  intro v4 h
  by_cases s0_ : v4 = 0
  · replace h := h.1 s0_
    refine qc_tableIn E_X12_holdsFor 44 dX12_holdsFor_14 (by rw [s0_]; decide) (by rw [s0_]; decide) (by rw [s0_]; rfl) (by decide) ?_
    refine qc_iload_n E_X12_holdsFor (by rfl) dX12_holdsFor_44 ?_
    refine qc_aload_n E_X12_holdsFor (by rfl) dX12_holdsFor_45 ?_
    refine re_getI E_X12_holdsFor rfl ck_X12 (by decide) 3 (by decide) q1204 dX12_holdsFor_46 h ?_
    clear h
    intro v5 h
    refine qc_icmp_ne E_X12_holdsFor 56 dX12_holdsFor_49 (by decide) (fun (c6 : ¬ v3 = v5) => ?_) (fun (c6 : v3 = v5) => ?_)
    · replace h := h.1 c6
      refine qc_iconst E_X12_holdsFor 0 (by decide) dX12_holdsFor_56 ?_
      exact qc_zret E_X12_holdsFor rfl (qm_nb (Or.inl rfl)) dX12_holdsFor_57 (⟨_, rfl, (Or.inl rfl), rfl, h⟩)
    · replace h := h.2 c6
      refine qc_iconst E_X12_holdsFor 1 (by decide) dX12_holdsFor_52 ?_
      refine qc_goto E_X12_holdsFor 57 dX12_holdsFor_53 (by decide) ?_
      exact qc_zret E_X12_holdsFor rfl (qm_nb (Or.inr rfl)) dX12_holdsFor_57 (⟨_, rfl, (Or.inr rfl), rfl, h⟩)
  by_cases s1_ : v4 = 1
  · replace h := h.2.1 s1_
    refine qc_tableIn E_X12_holdsFor 58 dX12_holdsFor_14 (by rw [s1_]; decide) (by rw [s1_]; decide) (by rw [s1_]; rfl) (by decide) ?_
    refine qc_iload_n E_X12_holdsFor (by rfl) dX12_holdsFor_58 ?_
    refine qc_callSN (c := 0) (k := 0) (As := [.int v3]) (rest := []) E_X12_holdsFor rfl M_X1_isNumber rfl (hO.2.1 _ (qj_N q1472 rfl)) q527 rfl rfl (Nat.le_of_ble_eq_true rfl) dX12_holdsFor_59 (qc_S.mono ?_ (C_X1_isNumber (d := d) hO hP v3 hp _ h))
    clear h
    rintro _ _ ⟨r7, rfl, z8, rfl, h⟩
    refine K1_i ?_
    refine qc_if_eq E_X12_holdsFor 77 dX12_holdsFor_62 (by decide) (fun (c9 : r7 = 0) => ?_) (fun (c9 : ¬ r7 = 0) => ?_)
    · replace h := h.1 c9
      refine qc_iconst E_X12_holdsFor 0 (by decide) dX12_holdsFor_77 ?_
      exact qc_zret E_X12_holdsFor rfl (qm_nb (Or.inl rfl)) dX12_holdsFor_78 (⟨_, rfl, (Or.inl rfl), rfl, h⟩)
    · replace h := h.2 c9
      refine qc_iload_n E_X12_holdsFor (by rfl) dX12_holdsFor_65 ?_
      refine qc_aload_n E_X12_holdsFor (by rfl) dX12_holdsFor_66 ?_
      refine re_getI E_X12_holdsFor rfl ck_X12 (by decide) 3 (by decide) q1204 dX12_holdsFor_67 h ?_
      clear h
      intro v10 h
      refine qc_icmp_ge E_X12_holdsFor 77 dX12_holdsFor_70 (by decide) (fun (c11 : v10 ≤ v3) => ?_) (fun (c11 : ¬ v10 ≤ v3) => ?_)
      · replace h := h.1 c11
        refine qc_iconst E_X12_holdsFor 0 (by decide) dX12_holdsFor_77 ?_
        exact qc_zret E_X12_holdsFor rfl (qm_nb (Or.inl rfl)) dX12_holdsFor_78 (⟨_, rfl, (Or.inl rfl), rfl, h⟩)
      · replace h := h.2 c11
        refine qc_iconst E_X12_holdsFor 1 (by decide) dX12_holdsFor_73 ?_
        refine qc_goto E_X12_holdsFor 78 dX12_holdsFor_74 (by decide) ?_
        exact qc_zret E_X12_holdsFor rfl (qm_nb (Or.inr rfl)) dX12_holdsFor_78 (⟨_, rfl, (Or.inr rfl), rfl, h⟩)
  by_cases s2_ : v4 = 2
  · replace h := h.2.2.1 s2_
    refine qc_tableIn E_X12_holdsFor 79 dX12_holdsFor_14 (by rw [s2_]; decide) (by rw [s2_]; decide) (by rw [s2_]; rfl) (by decide) ?_
    refine qc_iload_n E_X12_holdsFor (by rfl) dX12_holdsFor_79 ?_
    refine qc_callSN (c := 0) (k := 0) (As := [.int v3]) (rest := []) E_X12_holdsFor rfl M_X1_isNumber rfl (hO.2.1 _ (qj_N q1472 rfl)) q527 rfl rfl (Nat.le_of_ble_eq_true rfl) dX12_holdsFor_80 (qc_S.mono ?_ (C_X1_isNumber (d := d) hO hP v3 hp _ h))
    clear h
    rintro _ _ ⟨r12, rfl, z13, rfl, h⟩
    refine K1_i ?_
    refine qc_if_eq E_X12_holdsFor 98 dX12_holdsFor_83 (by decide) (fun (c14 : r12 = 0) => ?_) (fun (c14 : ¬ r12 = 0) => ?_)
    · replace h := h.1 c14
      refine qc_iconst E_X12_holdsFor 0 (by decide) dX12_holdsFor_98 ?_
      exact qc_zret E_X12_holdsFor rfl (qm_nb (Or.inl rfl)) dX12_holdsFor_99 (⟨_, rfl, (Or.inl rfl), rfl, h⟩)
    · replace h := h.2 c14
      refine qc_iload_n E_X12_holdsFor (by rfl) dX12_holdsFor_86 ?_
      refine qc_aload_n E_X12_holdsFor (by rfl) dX12_holdsFor_87 ?_
      refine re_getI E_X12_holdsFor rfl ck_X12 (by decide) 3 (by decide) q1204 dX12_holdsFor_88 h ?_
      clear h
      intro v15 h
      refine qc_icmp_le E_X12_holdsFor 98 dX12_holdsFor_91 (by decide) (fun (c16 : v3 ≤ v15) => ?_) (fun (c16 : ¬ v3 ≤ v15) => ?_)
      · replace h := h.1 c16
        refine qc_iconst E_X12_holdsFor 0 (by decide) dX12_holdsFor_98 ?_
        exact qc_zret E_X12_holdsFor rfl (qm_nb (Or.inl rfl)) dX12_holdsFor_99 (⟨_, rfl, (Or.inl rfl), rfl, h⟩)
      · replace h := h.2 c16
        refine qc_iconst E_X12_holdsFor 1 (by decide) dX12_holdsFor_94 ?_
        refine qc_goto E_X12_holdsFor 99 dX12_holdsFor_95 (by decide) ?_
        exact qc_zret E_X12_holdsFor rfl (qm_nb (Or.inr rfl)) dX12_holdsFor_99 (⟨_, rfl, (Or.inr rfl), rfl, h⟩)
  by_cases s3_ : v4 = 3
  · replace h := h.2.2.2.1 s3_
    refine qc_tableIn E_X12_holdsFor 100 dX12_holdsFor_14 (by rw [s3_]; decide) (by rw [s3_]; decide) (by rw [s3_]; rfl) (by decide) ?_
    refine qc_iload_n E_X12_holdsFor (by rfl) dX12_holdsFor_100 ?_
    refine qc_sipush E_X12_holdsFor 5000 (by decide) dX12_holdsFor_101 ?_
    refine qc_icmp_ne E_X12_holdsFor 111 dX12_holdsFor_104 (by decide) (fun (c17 : ¬ v3 = 5000) => ?_) (fun (c17 : v3 = 5000) => ?_)
    · replace h := h.1 c17
      refine qc_iconst E_X12_holdsFor 0 (by decide) dX12_holdsFor_111 ?_
      exact qc_zret E_X12_holdsFor rfl (qm_nb (Or.inl rfl)) dX12_holdsFor_112 (⟨_, rfl, (Or.inl rfl), rfl, h⟩)
    · replace h := h.2 c17
      refine qc_iconst E_X12_holdsFor 1 (by decide) dX12_holdsFor_107 ?_
      refine qc_goto E_X12_holdsFor 112 dX12_holdsFor_108 (by decide) ?_
      exact qc_zret E_X12_holdsFor rfl (qm_nb (Or.inr rfl)) dX12_holdsFor_112 (⟨_, rfl, (Or.inr rfl), rfl, h⟩)
  replace h := h.2.2.2.2 s0_ s1_ s2_ s3_
  refine qc_tableOut E_X12_holdsFor 113 dX12_holdsFor_14 (qm_sw4 s0_ s1_ s2_ s3_) (by decide) ?_
  refine qc_iload_n E_X12_holdsFor (by rfl) dX12_holdsFor_113 ?_
  refine qc_sipush E_X12_holdsFor 5001 (by decide) dX12_holdsFor_114 ?_
  refine qc_icmp_ne E_X12_holdsFor 124 dX12_holdsFor_117 (by decide) (fun (c18 : ¬ v3 = 5001) => ?_) (fun (c18 : v3 = 5001) => ?_)
  · replace h := h.1 c18
    refine qc_iconst E_X12_holdsFor 0 (by decide) dX12_holdsFor_124 ?_
    exact qc_zret E_X12_holdsFor rfl (qm_nb (Or.inl rfl)) dX12_holdsFor_125 (⟨_, rfl, (Or.inl rfl), rfl, h⟩)
  · replace h := h.2 c18
    refine qc_iconst E_X12_holdsFor 1 (by decide) dX12_holdsFor_120 ?_
    refine qc_goto E_X12_holdsFor 125 dX12_holdsFor_121 (by decide) ?_
    exact qc_zret E_X12_holdsFor rfl (qm_nb (Or.inr rfl)) dX12_holdsFor_125 (⟨_, rfl, (Or.inr rfl), rfl, h⟩)
def I_X1_holdAll : qh_I := (yX1_holdAll, cX1_holdAll, 4, (Option.some Jvm.ClassFile.FieldType.boolean), [])
theorem E_X1_holdAll : I_X1_holdAll.2.1 = cX1_holdAll := rfl
theorem M_X1_holdAll : qh_M I_X1_holdAll 2 := ⟨by decide, by decide, by decide +kernel, q85, q1467, by decide⟩
def T_X1_holdAll (g : qh_G) (a1 : Nat) (a2 : Nat) (hp : qc_H) (K : Int32 → Prop) : Prop := ∀ X1 : Int32 → Int32 → Prop, (∀ (x2 : Int32) (x3 : Int32), (eSz hp a1 (fun n4 => (n4 ≤ x3 → (x2 = 0 ∨ x2 = 1) ∧ K x2) ∧ (¬ n4 ≤ x3 → eGt hp a1 x3 (fun p7 => eC hp p7 11 (eC hp p7 11 (T_X12_holdsFor g p7 a2 hp (fun r8 => X1 (x2 &&& r8) (x3 + 1)))))))) → X1 x2 x3) → X1 1 0
set_option maxHeartbeats 8000000 in
theorem C_X1_holdAll {g : qh_G} {x : qc_X} {d : Nat} {sd : String → Nat → Nat} (hO : qc_O g x) (hP : qc_P g qp_ts sd) (a1 : Nat) (a2 : Nat) (hp : qc_H) (K : Int32 → Prop) (hz : T_X1_holdAll g a1 a2 hp K) : qc_S g x (d + 6) 0 I_X1_holdAll [.ref a1, .ref a2] hp (oZ (fun v t => hp = t ∧ K v)) := by
  refine qc_S.of (by decide) rfl (ls := [some (.ref a1), some (.ref a2), none, none]) rfl (Nat.le_of_ble_eq_true rfl) (ct_c rfl (ct_c rfl ct_n)) ?_
  unfold T_X1_holdAll at hz
  have h := hz
  clear hz
  refine qc_iconst E_X1_holdAll 1 (by decide) dX1_holdAll_0 ?_
  refine qc_istore_n E_X1_holdAll (by decide) dX1_holdAll_1 ?_
  refine qc_iconst E_X1_holdAll 0 (by decide) dX1_holdAll_2 ?_
  refine qc_istore_n E_X1_holdAll (by decide) dX1_holdAll_3 ?_
  refine h (fun (x2 : Int32) (x3 : Int32) => qc_wp g x (d + 6) 0 I_X1_holdAll 4 [some (.ref a1), some (.ref a2), some (.int x2), some (.int x3)] [] hp (oZ (fun v t => hp = t ∧ K v))) ?_
  clear h
  intro x2 x3 h
  refine qc_iload_n E_X1_holdAll (by rfl) dX1_holdAll_4 ?_
  refine qc_aload_n E_X1_holdAll (by rfl) dX1_holdAll_5 ?_
  refine re_size (d := d) hO E_X1_holdAll rfl q366 (Nat.le_of_ble_eq_true rfl) dX1_holdAll_6 h ?_
  clear h
  intro n4 h
  refine qc_icmp_ge E_X1_holdAll 33 dX1_holdAll_9 (by decide) (fun (c5 : n4 ≤ x3) => ?_) (fun (c5 : ¬ n4 ≤ x3) => ?_)
  · replace h := h.1 c5
    refine qc_iload_n E_X1_holdAll (by rfl) dX1_holdAll_33 ?_
    obtain ⟨o6, h⟩ := h
    exact qc_zret E_X1_holdAll rfl (qm_nb o6) dX1_holdAll_34 (⟨_, rfl, o6, rfl, h⟩)
  · replace h := h.2 c5
    refine qc_iload_n E_X1_holdAll (by rfl) dX1_holdAll_12 ?_
    refine qc_aload_n E_X1_holdAll (by rfl) dX1_holdAll_13 ?_
    refine qc_iload_n E_X1_holdAll (by rfl) dX1_holdAll_14 ?_
    refine re_get (d := d) hO E_X1_holdAll rfl q1013 (Nat.le_of_ble_eq_true rfl) dX1_holdAll_15 h ?_
    clear h
    intro p7 h
    refine re_castS (ci := 11) hO E_X1_holdAll rfl rfl q1192 dX1_holdAll_18 h ?_
    clear h
    intro h
    refine qc_aload_n E_X1_holdAll (by rfl) dX1_holdAll_21 ?_
    obtain ⟨⟨fz, hb⟩, h⟩ := h
    refine qc_callV (c := 0) (k := 0) (As := [.ref a2]) (rest := [.int x2]) hO E_X1_holdAll rfl M_X12_holdsFor rfl q1468 q1469 q1470 (ci := 11) rfl rfl hb rfl rfl (Nat.le_of_ble_eq_true rfl) dX1_holdAll_22 (qc_S.mono ?_ (C_X12_holdsFor (d := d + 4) hO hP p7 a2 hp _ h))
    clear h
    clear hb
    rintro _ _ ⟨r8, rfl, z9, rfl, h⟩
    refine K1_i ?_
    refine qc_iand E_X1_holdAll dX1_holdAll_25 ?_
    refine qc_istore_n E_X1_holdAll (by decide) dX1_holdAll_26 ?_
    refine qc_iinc E_X1_holdAll 1 rfl (by decide) (by decide) dX1_holdAll_27 ?_
    refine qc_goto E_X1_holdAll 4 dX1_holdAll_30 (by decide) ?_
    exact h
def I_X1_ship : qh_I := (yX1_ship, cX1_ship, 15, (Option.none : Option Jvm.ClassFile.FieldType), [(18, 32, 54, 0), (54, 56, 54, 0)])
theorem E_X1_ship : I_X1_ship.2.1 = cX1_ship := rfl
theorem M_X1_ship : qh_M I_X1_ship 7 := ⟨by decide, by decide, by decide +kernel, q85, q1419, by decide⟩
def T_X1_ship (g : qh_G) (a0 : Nat) (a1 : Nat) (a2 : Int32) (a3 : Option Nat) (a4 : Int32) (a5 : Int32) (a6 : Int32) (a7 : Int32) (hp : qc_H) (c : Nat) (K : qc_H → Prop) (KX : String → qc_H → Prop) : Prop := eR hp a1 13 1 (fun v1 => eR hp v1 6 1 (fun v2 => eR hp a0 0 12 (fun v3 => eI hp v3 5 4 (fun v4 => eR hp a0 0 12 (fun v5 => eC hp a0 0 (eK c (fun c7 k6 => T_X1_request g a0 v2 a6 a7 v5 hp k6 (fun h8 => eI h8 a1 13 9 (fun v15 => eR h8 a0 0 12 (fun v16 => eI h8 v16 5 4 (fun v17 => eP h8 a1 13 9 (.int (v15 + (v17 - v4))) (fun h18 => ∀ X19 : Int32 → Int32 → qc_H → Nat → Prop, (∀ (x20 : Int32) (x21 : Int32) (h22 : qc_H) (c23 : Nat), (eR h22 a1 13 1 (fun v24 => eR h22 v24 6 2 (fun v25 => eSz h22 v25 (fun n26 => (n26 ≤ x21 → eR h22 a0 0 12 (fun v28 => eI h22 v28 5 6 (fun v29 => eP h22 v28 5 6 (.int (v29 + x20)) (fun h30 => eR h30 a0 0 12 (fun v31 => eI h30 v31 5 4 (fun v32 => eR h30 v2 1 0 (fun v33 => U_freight g h30 v33 (fun r34 => eP h30 v31 5 4 (.int (v32 + (x20 * r34))) (fun h35 => eI h35 a1 13 9 (fun v36 => eR h35 v2 1 0 (fun v37 => U_freight g h35 v37 (fun r38 => eP h35 a1 13 9 (.int (v36 + (x20 * r38))) (fun h39 => eI h39 a0 0 14 (fun v40 => eP h39 a1 13 8 (.int v40) (fun h41 => K h41))))))))))))))) ∧ (¬ n26 ≤ x21 → eR h22 a1 13 1 (fun v42 => eR h22 v42 6 2 (fun v43 => eGt h22 v43 x21 (fun p44 => eC h22 p44 8 (∀ J46 : Int32 → Prop, (∀ (x47 : Int32), (∀ X48 : Int32 → Int32 → Prop, (∀ (x49 : Int32) (x50 : Int32), ((a5 ≤ x50 → (x49 = 0 → X19 x20 (x21 + 1) h22 c23) ∧ (¬ x49 = 0 → eR h22 a1 13 3 (fun v53 => T_X1_holdAll g v53 p44 h22 (fun r54 => (r54 = 0 → X19 x20 (x21 + 1) h22 c23) ∧ (¬ r54 = 0 → eI h22 v2 1 4 (fun v57 => (¬ x20 = v57 → eR h22 a1 13 4 (fun v59 => eAd g h22 v59 p44 c23 (fun h60 c61 => X19 (x20 + 1) (x21 + 1) h60 c61))) ∧ (x20 = v57 → eP h22 a1 13 6 (.int 1) (fun h62 => X19 x20 (x21 + 1) h62 c23)))))))) ∧ (¬ a5 ≤ x50 → eR h22 p44 8 1 (fun v63 => eA g.2.2.2.1 h22 v63 a2 (fun v64 => ∃ y65 : Nat, a3 = some y65 ∧ eGt h22 y65 x50 (fun p66 => eC h22 p66 17 (eB h22 p66 (fun v67 => ∀ J69 : Int32 → Prop, (∀ (x70 : Int32), (X48 (x49 ||| x70) (x50 + 1)) → J69 x70) → (¬ v64 = v67 → J69 0) ∧ (v64 = v67 → J69 1)))))))) → X48 x49 x50) → X48 x47 a4) → J46 x47) → (¬ a2 = ((-1)) → J46 0) ∧ (a2 = ((-1)) → J46 1)))))))))) → X19 x20 x21 h22 c23) → X19 0 0 h18 c7))))) (fun Ez h9 => (Ez = "QueryHarbor$NoAnswer" ∧ eI h9 a1 13 9 (fun v11 => eR h9 a0 0 12 (fun v12 => eI h9 v12 5 4 (fun v13 => eP h9 a1 13 9 (.int (v11 + (v13 - v4))) (fun h14 => KX "QueryHarbor$NoAnswer" h14)))))))))))))
set_option maxHeartbeats 8000000 in
theorem C_X1_ship {g : qh_G} {x : qc_X} {d : Nat} {sd : String → Nat → Nat} (hO : qc_O g x) (hP : qc_P g qp_ts sd) (a0 : Nat) (a1 : Nat) (a2 : Int32) (a3 : Option Nat) (a4 : Int32) (a5 : Int32) (a6 : Int32) (a7 : Int32) (hp : qc_H) (c : Nat) (K : qc_H → Prop) (KX : String → qc_H → Prop) (hz : T_X1_ship g a0 a1 a2 a3 a4 a5 a6 a7 hp c K KX) : qc_S g x (d + 10) c I_X1_ship [.ref a0, .ref a1, .int a2, va_rf a3, .int a4, .int a5, .int a6, .int a7] hp (oX (oV K) KX) := by
  refine qc_S.ofH (by decide) rfl (ls := [some (.ref a0), some (.ref a1), some (.int a2), some (va_rf a3), some (.int a4), some (.int a5), some (.int a6), some (.int a7), none, none, none, none, none, none, none]) rfl (Nat.le_of_ble_eq_true rfl) (ct_c rfl (ct_c rfl (ct_c rfl (ct_c ct_o (ct_c rfl (ct_c rfl (ct_c rfl (ct_c rfl ct_n)))))))) ?_
  unfold T_X1_ship at hz
  have h := hz
  clear hz
  refine qc_aload_n E_X1_ship (by rfl) dX1_ship_0 ?_
  refine re_getR E_X1_ship rfl ck_X14 (by decide) 1 (by decide) q1291 dX1_ship_1 h ?_
  clear h
  intro v1 h
  refine re_getR E_X1_ship rfl ck_X7 (by decide) 1 (by decide) q275 dX1_ship_4 h ?_
  clear h
  intro v2 h
  refine qc_astore E_X1_ship (by decide) dX1_ship_7 ?_
  refine qc_aload_n E_X1_ship (by rfl) dX1_ship_9 ?_
  refine re_getR E_X1_ship rfl ck_X1 (by decide) 12 (by decide) q313 dX1_ship_10 h ?_
  clear h
  intro v3 h
  refine re_getI E_X1_ship rfl ck_X6 (by decide) 4 (by decide) q246 dX1_ship_13 h ?_
  clear h
  intro v4 h
  refine qc_istore E_X1_ship (by decide) dX1_ship_16 ?_
  refine qc_aload_n E_X1_ship (by rfl) dX1_ship_18 ?_
  refine qc_aload E_X1_ship (by rfl) dX1_ship_19 ?_
  refine qc_iload E_X1_ship (by rfl) dX1_ship_21 ?_
  refine qc_iload E_X1_ship (by rfl) dX1_ship_23 ?_
  refine qc_aload_n E_X1_ship (by rfl) dX1_ship_25 ?_
  refine re_getR E_X1_ship rfl ck_X1 (by decide) 12 (by decide) q313 dX1_ship_26 h ?_
  clear h
  intro v5 h
  obtain ⟨⟨fz, hb⟩, c7, k6, rfl, h⟩ := h
  refine qc_callVX (c := c7) (k := k6) (As := [.ref v2, .int a6, .int a7, .ref v5]) (rest := []) hO E_X1_ship rfl M_X1_request rfl q1420 q1422 qs21 (ci := 0) rfl rfl hb rfl rfl (Nat.le_of_ble_eq_true rfl) dX1_ship_29 (qc_S.mono ?_ (C_X1_request (d := d) hO hP a0 v2 a6 a7 v5 hp k6 _ _ h))
  clear h
  clear hb
  rintro _ tz (hz | hz)
  · revert tz; rintro h8 ⟨rfl, h⟩
    refine K1_v ?_
    refine qc_aload_n E_X1_ship (by rfl) dX1_ship_32 ?_
    refine qc_dup E_X1_ship rfl dX1_ship_33 ?_
    refine re_getI E_X1_ship rfl ck_X14 (by decide) 9 (by decide) q1301 dX1_ship_34 h ?_
    clear h
    intro v15 h
    refine qc_aload_n E_X1_ship (by rfl) dX1_ship_37 ?_
    refine re_getR E_X1_ship rfl ck_X1 (by decide) 12 (by decide) q313 dX1_ship_38 h ?_
    clear h
    intro v16 h
    refine re_getI E_X1_ship rfl ck_X6 (by decide) 4 (by decide) q246 dX1_ship_41 h ?_
    clear h
    intro v17 h
    refine qc_iload E_X1_ship (by rfl) dX1_ship_44 ?_
    refine qc_isub E_X1_ship dX1_ship_46 ?_
    refine qc_iadd E_X1_ship dX1_ship_47 ?_
    refine re_put E_X1_ship rfl ck_X14 (by decide) 9 (by decide) q1301 rfl rfl rfl dX1_ship_48 h ?_
    clear h
    intro h18 h
    refine qc_goto E_X1_ship 78 dX1_ship_51 (by decide) ?_
    refine qc_iconst E_X1_ship 0 (by decide) dX1_ship_78 ?_
    refine qc_istore E_X1_ship (by decide) dX1_ship_79 ?_
    refine qc_iconst E_X1_ship 0 (by decide) dX1_ship_81 ?_
    refine qc_istore E_X1_ship (by decide) dX1_ship_82 ?_
    refine qc_drop 6 ?_
    refine qc_drop 7 ?_
    refine qc_drop 9 ?_
    refine h (fun (x20 : Int32) (x21 : Int32) (h22 : qc_H) (c23 : Nat) => qc_wp g x (d + 10) c23 I_X1_ship 84 [some (.ref a0), some (.ref a1), some (.int a2), some (va_rf a3), some (.int a4), some (.int a5), none, none, some (.ref v2), none, some (.int x20), some (.int x21), none, none, none] [] h22 (oX (oV K) KX)) ?_
    clear h
    intro x20 x21 h22 c23 h
    refine qc_iload E_X1_ship (by rfl) dX1_ship_84 ?_
    refine qc_aload_n E_X1_ship (by rfl) dX1_ship_86 ?_
    refine re_getR E_X1_ship rfl ck_X14 (by decide) 1 (by decide) q1291 dX1_ship_87 h ?_
    clear h
    intro v24 h
    refine re_getR E_X1_ship rfl ck_X7 (by decide) 2 (by decide) q278 dX1_ship_90 h ?_
    clear h
    intro v25 h
    refine re_size (d := d + 4) hO E_X1_ship rfl q366 (Nat.le_of_ble_eq_true rfl) dX1_ship_93 h ?_
    clear h
    intro n26 h
    refine qc_icmp_ge E_X1_ship 231 dX1_ship_96 (by decide) (fun (c27 : n26 ≤ x21) => ?_) (fun (c27 : ¬ n26 ≤ x21) => ?_)
    · replace h := h.1 c27
      refine qc_aload_n E_X1_ship (by rfl) dX1_ship_231 ?_
      refine re_getR E_X1_ship rfl ck_X1 (by decide) 12 (by decide) q313 dX1_ship_232 h ?_
      clear h
      intro v28 h
      refine qc_dup E_X1_ship rfl dX1_ship_235 ?_
      refine re_getI E_X1_ship rfl ck_X6 (by decide) 6 (by decide) q248 dX1_ship_236 h ?_
      clear h
      intro v29 h
      refine qc_iload E_X1_ship (by rfl) dX1_ship_239 ?_
      refine qc_iadd E_X1_ship dX1_ship_241 ?_
      refine re_put E_X1_ship rfl ck_X6 (by decide) 6 (by decide) q248 rfl rfl rfl dX1_ship_242 h ?_
      clear h
      intro h30 h
      refine qc_aload_n E_X1_ship (by rfl) dX1_ship_245 ?_
      refine re_getR E_X1_ship rfl ck_X1 (by decide) 12 (by decide) q313 dX1_ship_246 h ?_
      clear h
      intro v31 h
      refine qc_dup E_X1_ship rfl dX1_ship_249 ?_
      refine re_getI E_X1_ship rfl ck_X6 (by decide) 4 (by decide) q246 dX1_ship_250 h ?_
      clear h
      intro v32 h
      refine qc_iload E_X1_ship (by rfl) dX1_ship_253 ?_
      refine qc_aload E_X1_ship (by rfl) dX1_ship_255 ?_
      refine re_getR E_X1_ship rfl ck_X2 (by decide) 0 (by decide) q151 dX1_ship_257 h ?_
      clear h
      intro v33 h
      refine V_freight (d := d + 9) (rest := [.int x20, .int v32, .ref v31]) hO hP E_X1_ship rfl q1414 rfl (Nat.le_of_ble_eq_true rfl) dX1_ship_260 h ?_
      clear h
      intro r34 h
      refine qc_imul E_X1_ship dX1_ship_265 ?_
      refine qc_iadd E_X1_ship dX1_ship_266 ?_
      refine re_put E_X1_ship rfl ck_X6 (by decide) 4 (by decide) q246 rfl rfl rfl dX1_ship_267 h ?_
      clear h
      intro h35 h
      refine qc_aload_n E_X1_ship (by rfl) dX1_ship_270 ?_
      refine qc_dup E_X1_ship rfl dX1_ship_271 ?_
      refine re_getI E_X1_ship rfl ck_X14 (by decide) 9 (by decide) q1301 dX1_ship_272 h ?_
      clear h
      intro v36 h
      refine qc_iload E_X1_ship (by rfl) dX1_ship_275 ?_
      refine qc_aload E_X1_ship (by rfl) dX1_ship_277 ?_
      refine re_getR E_X1_ship rfl ck_X2 (by decide) 0 (by decide) q151 dX1_ship_279 h ?_
      clear h
      intro v37 h
      refine V_freight (d := d + 9) (rest := [.int x20, .int v36, .ref a1]) hO hP E_X1_ship rfl q1414 rfl (Nat.le_of_ble_eq_true rfl) dX1_ship_282 h ?_
      clear h
      intro r38 h
      refine qc_imul E_X1_ship dX1_ship_287 ?_
      refine qc_iadd E_X1_ship dX1_ship_288 ?_
      refine re_put E_X1_ship rfl ck_X14 (by decide) 9 (by decide) q1301 rfl rfl rfl dX1_ship_289 h ?_
      clear h
      intro h39 h
      refine qc_aload_n E_X1_ship (by rfl) dX1_ship_292 ?_
      refine qc_aload_n E_X1_ship (by rfl) dX1_ship_293 ?_
      refine re_getI E_X1_ship rfl ck_X1 (by decide) 14 (by decide) q315 dX1_ship_294 h ?_
      clear h
      intro v40 h
      refine re_put E_X1_ship rfl ck_X14 (by decide) 8 (by decide) q1300 rfl rfl rfl dX1_ship_297 h ?_
      clear h
      intro h41 h
      exact qc_vret E_X1_ship rfl dX1_ship_300 (Or.inl (⟨rfl, h⟩))
    · replace h := h.2 c27
      refine qc_aload_n E_X1_ship (by rfl) dX1_ship_99 ?_
      refine re_getR E_X1_ship rfl ck_X14 (by decide) 1 (by decide) q1291 dX1_ship_100 h ?_
      clear h
      intro v42 h
      refine re_getR E_X1_ship rfl ck_X7 (by decide) 2 (by decide) q278 dX1_ship_103 h ?_
      clear h
      intro v43 h
      refine qc_iload E_X1_ship (by rfl) dX1_ship_106 ?_
      refine re_get (d := d + 4) hO E_X1_ship rfl q1013 (Nat.le_of_ble_eq_true rfl) dX1_ship_108 h ?_
      clear h
      intro p44 h
      refine re_castS (ci := 8) hO E_X1_ship rfl rfl q633 dX1_ship_111 h ?_
      clear h
      intro h
      refine qc_astore E_X1_ship (by decide) dX1_ship_114 ?_
      refine qc_iload_n E_X1_ship (by rfl) dX1_ship_116 ?_
      refine qc_iconst E_X1_ship (-1) (by decide) dX1_ship_117 ?_
      have jz := h (fun (x47 : Int32) => qc_wp g x (d + 10) c23 I_X1_ship 126 [some (.ref a0), some (.ref a1), some (.int a2), some (va_rf a3), some (.int a4), some (.int a5), none, none, some (.ref v2), none, some (.int x20), some (.int x21), some (.ref p44), none, none] [.int x47] h22 (oX (oV K) KX))
      clear h
      have h := jz (by
        intro x47 h
        refine qc_istore E_X1_ship (by decide) dX1_ship_126 ?_
        refine qc_iload E_X1_ship (by rfl) dX1_ship_128 ?_
        refine qc_istore E_X1_ship (by decide) dX1_ship_130 ?_
        refine h (fun (x49 : Int32) (x50 : Int32) => qc_wp g x (d + 10) c23 I_X1_ship 132 [some (.ref a0), some (.ref a1), some (.int a2), some (va_rf a3), some (.int a4), some (.int a5), none, none, some (.ref v2), none, some (.int x20), some (.int x21), some (.ref p44), some (.int x49), some (.int x50)] [] h22 (oX (oV K) KX)) ?_
        clear h
        intro x49 x50 h
        refine qc_iload E_X1_ship (by rfl) dX1_ship_132 ?_
        refine qc_iload E_X1_ship (by rfl) dX1_ship_134 ?_
        refine qc_icmp_ge E_X1_ship 177 dX1_ship_136 (by decide) (fun (c51 : a5 ≤ x50) => ?_) (fun (c51 : ¬ a5 ≤ x50) => ?_)
        · replace h := h.1 c51
          refine qc_iload E_X1_ship (by rfl) dX1_ship_177 ?_
          refine qc_if_eq E_X1_ship 225 dX1_ship_179 (by decide) (fun (c52 : x49 = 0) => ?_) (fun (c52 : ¬ x49 = 0) => ?_)
          · replace h := h.1 c52
            refine qc_iinc E_X1_ship 1 rfl (by decide) (by decide) dX1_ship_225 ?_
            refine qc_goto E_X1_ship 84 dX1_ship_228 (by decide) ?_
            refine qc_drop 12 ?_
            refine qc_drop 13 ?_
            refine qc_drop 14 ?_
            exact h
          · replace h := h.2 c52
            refine qc_aload_n E_X1_ship (by rfl) dX1_ship_182 ?_
            refine re_getR E_X1_ship rfl ck_X14 (by decide) 3 (by decide) q1294 dX1_ship_183 h ?_
            clear h
            intro v53 h
            refine qc_aload E_X1_ship (by rfl) dX1_ship_186 ?_
            refine qc_callS (c := c23) (k := 0) (As := [.ref v53, .ref p44]) (rest := []) E_X1_ship rfl M_X1_holdAll rfl q1465 q1466 rfl rfl (Nat.le_of_ble_eq_true rfl) dX1_ship_188 (qc_S.mono ?_ (C_X1_holdAll (d := d + 3) hO hP v53 p44 h22 _ h))
            clear h
            rintro _ _ ⟨r54, rfl, z55, rfl, h⟩
            refine K1_i ?_
            refine qc_if_eq E_X1_ship 225 dX1_ship_191 (by decide) (fun (c56 : r54 = 0) => ?_) (fun (c56 : ¬ r54 = 0) => ?_)
            · replace h := h.1 c56
              refine qc_iinc E_X1_ship 1 rfl (by decide) (by decide) dX1_ship_225 ?_
              refine qc_goto E_X1_ship 84 dX1_ship_228 (by decide) ?_
              refine qc_drop 12 ?_
              refine qc_drop 13 ?_
              refine qc_drop 14 ?_
              exact h
            · replace h := h.2 c56
              refine qc_iload E_X1_ship (by rfl) dX1_ship_194 ?_
              refine qc_aload E_X1_ship (by rfl) dX1_ship_196 ?_
              refine re_getI E_X1_ship rfl ck_X2 (by decide) 4 (by decide) q158 dX1_ship_198 h ?_
              clear h
              intro v57 h
              refine qc_icmp_ne E_X1_ship 212 dX1_ship_201 (by decide) (fun (c58 : ¬ x20 = v57) => ?_) (fun (c58 : x20 = v57) => ?_)
              · replace h := h.1 c58
                refine qc_iinc E_X1_ship 1 rfl (by decide) (by decide) dX1_ship_212 ?_
                refine qc_aload_n E_X1_ship (by rfl) dX1_ship_215 ?_
                refine re_getR E_X1_ship rfl ck_X14 (by decide) 4 (by decide) q1296 dX1_ship_216 h ?_
                clear h
                intro v59 h
                refine qc_aload E_X1_ship (by rfl) dX1_ship_219 ?_
                refine re_add (d := d + 4) hO E_X1_ship rfl q982 (Nat.le_of_ble_eq_true rfl) dX1_ship_221 h ?_
                clear h
                intro h60 c61 h
                refine qc_pop E_X1_ship rfl dX1_ship_224 ?_
                refine qc_iinc E_X1_ship 1 rfl (by decide) (by decide) dX1_ship_225 ?_
                refine qc_goto E_X1_ship 84 dX1_ship_228 (by decide) ?_
                refine qc_drop 12 ?_
                refine qc_drop 13 ?_
                refine qc_drop 14 ?_
                exact h
              · replace h := h.2 c58
                refine qc_aload_n E_X1_ship (by rfl) dX1_ship_204 ?_
                refine qc_iconst E_X1_ship 1 (by decide) dX1_ship_205 ?_
                refine re_put E_X1_ship rfl ck_X14 (by decide) 6 (by decide) q1298 rfl (qm_nb (Or.inr rfl)) (qm_fb (Or.inr rfl)) dX1_ship_206 h ?_
                clear h
                intro h62 h
                refine qc_goto E_X1_ship 225 dX1_ship_209 (by decide) ?_
                refine qc_iinc E_X1_ship 1 rfl (by decide) (by decide) dX1_ship_225 ?_
                refine qc_goto E_X1_ship 84 dX1_ship_228 (by decide) ?_
                refine qc_drop 12 ?_
                refine qc_drop 13 ?_
                refine qc_drop 14 ?_
                exact h
        · replace h := h.2 c51
          refine qc_iload E_X1_ship (by rfl) dX1_ship_139 ?_
          refine qc_aload E_X1_ship (by rfl) dX1_ship_141 ?_
          refine re_getR E_X1_ship rfl ck_X9 (by decide) 1 (by decide) q646 dX1_ship_143 h ?_
          clear h
          intro v63 h
          refine qc_iload_n E_X1_ship (by rfl) dX1_ship_146 ?_
          refine re_iald E_X1_ship dX1_ship_147 h ?_
          clear h
          intro v64 h
          refine re_aloadO_n E_X1_ship (by rfl) dX1_ship_148 ?_
          refine qc_iload E_X1_ship (by rfl) dX1_ship_149 ?_
          obtain ⟨y65, rfl, h⟩ := h
          refine re_get (d := d + 4) hO E_X1_ship rfl q1013 (Nat.le_of_ble_eq_true rfl) dX1_ship_151 h ?_
          clear h
          intro p66 h
          refine re_castS (ci := 17) hO E_X1_ship rfl rfl q1158 dX1_ship_154 h ?_
          clear h
          intro h
          refine re_unbox (d := d + 4) hO E_X1_ship rfl q1159 (Nat.le_of_ble_eq_true rfl) dX1_ship_157 h ?_
          clear h
          intro v67 h
          have jz := h (fun (x70 : Int32) => qc_wp g x (d + 10) c23 I_X1_ship 168 [some (.ref a0), some (.ref a1), some (.int a2), some (.ref y65), some (.int a4), some (.int a5), none, none, some (.ref v2), none, some (.int x20), some (.int x21), some (.ref p44), none, some (.int x50)] [.int x70, .int x49] h22 (oX (oV K) KX))
          clear h
          have h := jz (by
            intro x70 h
            refine qc_ior E_X1_ship dX1_ship_168 ?_
            refine qc_istore E_X1_ship (by decide) dX1_ship_169 ?_
            refine qc_iinc E_X1_ship 1 rfl (by decide) (by decide) dX1_ship_171 ?_
            refine qc_goto E_X1_ship 132 dX1_ship_174 (by decide) ?_
            exact h)
          clear jz
          refine qc_icmp_ne E_X1_ship 167 dX1_ship_160 (by decide) (fun (c68 : ¬ v64 = v67) => ?_) (fun (c68 : v64 = v67) => ?_)
          · replace h := h.1 c68
            refine qc_iconst E_X1_ship 0 (by decide) dX1_ship_167 ?_
            refine qc_drop 13 ?_
            exact h
          · replace h := h.2 c68
            refine qc_iconst E_X1_ship 1 (by decide) dX1_ship_163 ?_
            refine qc_goto E_X1_ship 168 dX1_ship_164 (by decide) ?_
            refine qc_drop 13 ?_
            exact h)
      clear jz
      refine qc_icmp_ne E_X1_ship 125 dX1_ship_118 (by decide) (fun (c45 : ¬ a2 = ((-1))) => ?_) (fun (c45 : a2 = ((-1))) => ?_)
      · replace h := h.1 c45
        refine qc_iconst E_X1_ship 0 (by decide) dX1_ship_125 ?_
        exact h
      · replace h := h.2 c45
        refine qc_iconst E_X1_ship 1 (by decide) dX1_ship_121 ?_
        refine qc_goto E_X1_ship 126 dX1_ship_122 (by decide) ?_
        exact h
  · revert tz; rintro h9 ⟨Ez, rfl, h⟩
    refine K1_x ?_
    obtain ⟨rfl, h⟩ := h
    · exact qc_fin (a0 := a0) (a1 := a1) rfl rfl rfl (by decide) rfl (by rfl) (by rfl) (by rfl) (by simp) h
def I_X1_order : qh_I := (yX1_order, cX1_order, 4, (Option.none : Option Jvm.ClassFile.FieldType), [])
theorem E_X1_order : I_X1_order.2.1 = cX1_order := rfl
theorem M_X1_order : qh_M I_X1_order 1 := ⟨by decide, by decide, by decide +kernel, q85, q1475, by decide⟩
def T_X1_order (g : qh_G) (a1 : Nat) (hp : qc_H) (K : qc_H → Prop) : Prop := ∀ X1 : Int32 → qc_H → Prop, (∀ (x2 : Int32) (h3 : qc_H), (eSz h3 a1 (fun n4 => (n4 ≤ x2 → K h3) ∧ (¬ n4 ≤ x2 → eGt h3 a1 x2 (fun p6 => eC h3 p6 8 (∀ X7 : Int32 → qc_H → Prop, (∀ (x8 : Int32) (h9 : qc_H), (∀ J18 : Prop, ((eSt g h9 a1 x8 p6 (fun p20 h19 => X1 (x2 + 1) h19)) → J18) → (x8 ≤ 0 → J18) ∧ (¬ x8 ≤ 0 → eGt h9 a1 (x8 - 1) (fun p11 => eC h9 p11 8 (eI h9 p11 8 0 (fun v12 => eI h9 p6 8 0 (fun v13 => (v12 ≤ v13 → J18) ∧ (¬ v12 ≤ v13 → eGt h9 a1 (x8 - 1) (fun p15 => eC h9 p15 8 (eSt g h9 a1 x8 p15 (fun p17 h16 => X7 (x8 + (-1)) h16)))))))))) → X7 x8 h9) → X7 x2 h3))))) → X1 x2 h3) → X1 1 hp
set_option maxHeartbeats 8000000 in
theorem C_X1_order {g : qh_G} {x : qc_X} {d : Nat} {sd : String → Nat → Nat} (hO : qc_O g x) (hP : qc_P g qp_ts sd) (a1 : Nat) (hp : qc_H) (K : qc_H → Prop) (hz : T_X1_order g a1 hp K) : qc_S g x (d + 6) 0 I_X1_order [.ref a1] hp (oV K) := by
  refine qc_S.of (by decide) rfl (ls := [some (.ref a1), none, none, none]) rfl (Nat.le_of_ble_eq_true rfl) (ct_c rfl ct_n) ?_
  unfold T_X1_order at hz
  have h := hz
  clear hz
  refine qc_iconst E_X1_order 1 (by decide) dX1_order_0 ?_
  refine qc_istore_n E_X1_order (by decide) dX1_order_1 ?_
  refine h (fun (x2 : Int32) (h3 : qc_H) => qc_wp g x (d + 6) 0 I_X1_order 2 [some (.ref a1), some (.int x2), none, none] [] h3 (oV K)) ?_
  clear h
  intro x2 h3 h
  refine qc_iload_n E_X1_order (by rfl) dX1_order_2 ?_
  refine qc_aload_n E_X1_order (by rfl) dX1_order_3 ?_
  refine re_size (d := d) hO E_X1_order rfl q366 (Nat.le_of_ble_eq_true rfl) dX1_order_4 h ?_
  clear h
  intro n4 h
  refine qc_icmp_ge E_X1_order 80 dX1_order_7 (by decide) (fun (c5 : n4 ≤ x2) => ?_) (fun (c5 : ¬ n4 ≤ x2) => ?_)
  · replace h := h.1 c5
    exact qc_vret E_X1_order rfl dX1_order_80 (⟨rfl, h⟩)
  · replace h := h.2 c5
    refine qc_aload_n E_X1_order (by rfl) dX1_order_10 ?_
    refine qc_iload_n E_X1_order (by rfl) dX1_order_11 ?_
    refine re_get (d := d) hO E_X1_order rfl q1013 (Nat.le_of_ble_eq_true rfl) dX1_order_12 h ?_
    clear h
    intro p6 h
    refine re_castS (ci := 8) hO E_X1_order rfl rfl q633 dX1_order_15 h ?_
    clear h
    intro h
    refine qc_astore_n E_X1_order (by decide) dX1_order_18 ?_
    refine qc_iload_n E_X1_order (by rfl) dX1_order_19 ?_
    refine qc_istore_n E_X1_order (by decide) dX1_order_20 ?_
    refine h (fun (x8 : Int32) (h9 : qc_H) => qc_wp g x (d + 6) 0 I_X1_order 21 [some (.ref a1), some (.int x2), some (.ref p6), some (.int x8)] [] h9 (oV K)) ?_
    clear h
    intro x8 h9 h
    refine qc_iload_n E_X1_order (by rfl) dX1_order_21 ?_
    have jz := h (qc_wp g x (d + 6) 0 I_X1_order 67 [some (.ref a1), some (.int x2), some (.ref p6), some (.int x8)] [] h9 (oV K))
    clear h
    have h := jz (by
      intro h
      refine qc_aload_n E_X1_order (by rfl) dX1_order_67 ?_
      refine qc_iload_n E_X1_order (by rfl) dX1_order_68 ?_
      refine qc_aload_n E_X1_order (by rfl) dX1_order_69 ?_
      refine re_set (d := d) hO E_X1_order rfl q1062 (Nat.le_of_ble_eq_true rfl) dX1_order_70 h ?_
      clear h
      intro p20 h19 h
      refine qc_pop E_X1_order rfl dX1_order_73 ?_
      refine qc_iinc E_X1_order 1 rfl (by decide) (by decide) dX1_order_74 ?_
      refine qc_goto E_X1_order 2 dX1_order_77 (by decide) ?_
      refine qc_drop 2 ?_
      refine qc_drop 3 ?_
      exact h)
    clear jz
    refine qc_if_le E_X1_order 67 dX1_order_22 (by decide) (fun (c10 : x8 ≤ 0) => ?_) (fun (c10 : ¬ x8 ≤ 0) => ?_)
    · replace h := h.1 c10
      exact h
    · replace h := h.2 c10
      refine qc_aload_n E_X1_order (by rfl) dX1_order_25 ?_
      refine qc_iload_n E_X1_order (by rfl) dX1_order_26 ?_
      refine qc_iconst E_X1_order 1 (by decide) dX1_order_27 ?_
      refine qc_isub E_X1_order dX1_order_28 ?_
      refine re_get (d := d) hO E_X1_order rfl q1013 (Nat.le_of_ble_eq_true rfl) dX1_order_29 h ?_
      clear h
      intro p11 h
      refine re_castS (ci := 8) hO E_X1_order rfl rfl q633 dX1_order_32 h ?_
      clear h
      intro h
      refine re_getI E_X1_order rfl ck_X9 (by decide) 0 (by decide) q642 dX1_order_35 h ?_
      clear h
      intro v12 h
      refine qc_aload_n E_X1_order (by rfl) dX1_order_38 ?_
      refine re_getI E_X1_order rfl ck_X9 (by decide) 0 (by decide) q642 dX1_order_39 h ?_
      clear h
      intro v13 h
      refine qc_icmp_le E_X1_order 67 dX1_order_42 (by decide) (fun (c14 : v12 ≤ v13) => ?_) (fun (c14 : ¬ v12 ≤ v13) => ?_)
      · replace h := h.1 c14
        exact h
      · replace h := h.2 c14
        refine qc_aload_n E_X1_order (by rfl) dX1_order_45 ?_
        refine qc_iload_n E_X1_order (by rfl) dX1_order_46 ?_
        refine qc_aload_n E_X1_order (by rfl) dX1_order_47 ?_
        refine qc_iload_n E_X1_order (by rfl) dX1_order_48 ?_
        refine qc_iconst E_X1_order 1 (by decide) dX1_order_49 ?_
        refine qc_isub E_X1_order dX1_order_50 ?_
        refine re_get (d := d) hO E_X1_order rfl q1013 (Nat.le_of_ble_eq_true rfl) dX1_order_51 h ?_
        clear h
        intro p15 h
        refine re_castS (ci := 8) hO E_X1_order rfl rfl q633 dX1_order_54 h ?_
        clear h
        intro h
        refine re_set (d := d) hO E_X1_order rfl q1062 (Nat.le_of_ble_eq_true rfl) dX1_order_57 h ?_
        clear h
        intro p17 h16 h
        refine qc_pop E_X1_order rfl dX1_order_60 ?_
        refine qc_iinc E_X1_order (-1) rfl (by decide) (by decide) dX1_order_61 ?_
        refine qc_goto E_X1_order 21 dX1_order_64 (by decide) ?_
        exact h
def I_X1_bind : qh_I := (yX1_bind, cX1_bind, 12, (Option.some Jvm.ClassFile.FieldType.boolean), [(142, 207, 217, 314), (208, 214, 217, 314)])
theorem E_X1_bind : I_X1_bind.2.1 = cX1_bind := rfl
theorem M_X1_bind : qh_M I_X1_bind 5 := ⟨by decide, by decide, by decide +kernel, q85, q1361, by decide⟩
def T_X1_bind (g : qh_G) (a0 : Nat) (a1 : Nat) (a2 : Nat) (a3 : Nat) (a4 : Int32) (a5 : Int32) (hp : qc_H) (c : Nat) (K : Int32 → qc_H → Prop) : Prop := eR hp a1 13 1 (fun v1 => eR hp v1 6 1 (fun v2 => eR hp v2 1 0 (fun v3 => eI hp a1 13 0 (fun v4 => eC hp a3 10 (T_X11_columnOf g a3 v4 hp (fun r5 => U_can g hp v3 0 r5 (fun r6 => (r6 = 0 → K 0 hp) ∧ (¬ r6 = 0 → eR hp a0 0 2 (fun v9 => eR hp a2 13 1 (fun v10 => eI hp v10 6 0 (fun v11 => eQ g.2.2.2.1 8 hp v9 v11 (fun v12 => eR hp a1 13 1 (fun v13 => eI hp v13 6 0 (fun v14 => eZ g.2.2.2.1 hp v12 (v14 / 2) (fun v15 => (v15 = 0 → eR hp a2 13 4 (fun v17 => eI hp a2 13 0 (fun v18 => eC hp a3 10 (T_X11_columnOf g a3 v18 hp (fun r19 => eK c (fun c21 k20 => T_X1_keysOf g v17 r19 hp k20 (fun r22 h23 => eSz h23 r22 (fun n24 => eC h23 a1 13 (T_X14_scanCost g a1 h23 (fun r25 => U_fee g h23 v3 (fun r26 => eSz h23 r22 (fun n27 => U_freight g h23 v3 (fun r28 => ((((((n24 + 4) - 1) / 4) * r26) + (n27 * r28)) < r25 → eP h23 a1 13 7 (.int 1) (fun h30 => eI h30 a0 0 14 (fun v31 => eP h30 a1 13 8 (.int v31) (fun h32 => ∀ X33 : Int32 → qc_H → Nat → Prop, (∀ (x34 : Int32) (h35 : qc_H) (c36 : Nat), (((((n24 + 4) - 1) / 4) ≤ x34 → eR h35 a1 13 4 (fun v38 => T_X1_order g v38 h35 (fun h39 => K 1 h39))) ∧ (¬ (((n24 + 4) - 1) / 4) ≤ x34 → eSz h35 r22 (fun n40 => ∀ u41 : Int32, u41 = (if ((x34 + 1) * 4) < n40 then ((x34 + 1) * 4) else n40) → eC h35 a0 0 (eK c36 (fun c43 k42 => T_X1_ship g a0 a1 r5 (some r22) (x34 * 4) u41 a4 a5 h35 k42 (fun h44 => (((((n24 + 4) - 1) / 4) - 1) ≤ x34 → X33 (x34 + 1) h44 c43) ∧ (¬ ((((n24 + 4) - 1) / 4) - 1) ≤ x34 → eI h44 a1 13 9 (fun v51 => (v51 < r25 → X33 (x34 + 1) h44 c43) ∧ (¬ v51 < r25 → eP h44 a1 13 7 (.int 2) (fun h53 => K 0 h53))))) (fun Ez h45 => (Ez = "QueryHarbor$NoAnswer" ∧ ∀ q46 : Nat, eP h45 a1 13 6 (.int 1) (fun h47 => eR h47 a1 13 4 (fun v48 => T_X1_order g v48 h47 (fun h49 => K 1 h49)))))))))) → X33 x34 h35 c36) → X33 0 h32 c21)))) ∧ (¬ (((((n24 + 4) - 1) / 4) * r26) + (n27 * r28)) < r25 → K 0 h23)))))))))))))) ∧ (¬ v15 = 0 → K 0 hp))))))))))))))))
set_option maxHeartbeats 8000000 in
theorem C_X1_bind {g : qh_G} {x : qc_X} {d : Nat} {sd : String → Nat → Nat} (hO : qc_O g x) (hP : qc_P g qp_ts sd) (a0 : Nat) (a1 : Nat) (a2 : Nat) (a3 : Nat) (a4 : Int32) (a5 : Int32) (hp : qc_H) (c : Nat) (K : Int32 → qc_H → Prop) (hz : T_X1_bind g a0 a1 a2 a3 a4 a5 hp c K) : qc_S g x (d + 11) c I_X1_bind [.ref a0, .ref a1, .ref a2, .ref a3, .int a4, .int a5] hp (oZ K) := by
  refine qc_S.ofH (by decide) rfl (ls := [some (.ref a0), some (.ref a1), some (.ref a2), some (.ref a3), some (.int a4), some (.int a5), none, none, none, none, none, none]) rfl (Nat.le_of_ble_eq_true rfl) (ct_c rfl (ct_c rfl (ct_c rfl (ct_c rfl (ct_c rfl (ct_c rfl ct_n)))))) ?_
  unfold T_X1_bind at hz
  have h := hz
  clear hz
  refine qc_aload_n E_X1_bind (by rfl) dX1_bind_0 ?_
  refine re_getR E_X1_bind rfl ck_X14 (by decide) 1 (by decide) q1291 dX1_bind_1 h ?_
  clear h
  intro v1 h
  refine re_getR E_X1_bind rfl ck_X7 (by decide) 1 (by decide) q275 dX1_bind_4 h ?_
  clear h
  intro v2 h
  refine re_getR E_X1_bind rfl ck_X2 (by decide) 0 (by decide) q151 dX1_bind_7 h ?_
  clear h
  intro v3 h
  refine qc_astore E_X1_bind (by decide) dX1_bind_10 ?_
  refine qc_aload_n E_X1_bind (by rfl) dX1_bind_12 ?_
  refine qc_aload_n E_X1_bind (by rfl) dX1_bind_13 ?_
  refine re_getI E_X1_bind rfl ck_X14 (by decide) 0 (by decide) q1289 dX1_bind_14 h ?_
  clear h
  intro v4 h
  obtain ⟨⟨fz, hb⟩, h⟩ := h
  refine qc_callV (c := c) (k := 0) (As := [.int v4]) (rest := []) hO E_X1_bind rfl M_X11_columnOf rfl q1363 q1364 q1365 (ci := 10) rfl rfl hb rfl rfl (Nat.le_of_ble_eq_true rfl) dX1_bind_17 (qc_S.mono ?_ (C_X11_columnOf (d := d + 10) hO hP a3 v4 hp _ h))
  clear h
  clear hb
  rintro _ _ ⟨r5, rfl, rfl, h⟩
  refine K1_i ?_
  refine qc_istore E_X1_bind (by decide) dX1_bind_20 ?_
  refine qc_aload E_X1_bind (by rfl) dX1_bind_22 ?_
  refine qc_iconst E_X1_bind 0 (by decide) dX1_bind_24 ?_
  refine qc_iload E_X1_bind (by rfl) dX1_bind_25 ?_
  refine V_can (d := d + 10) (rest := []) hO hP E_X1_bind rfl q1368 rfl (Nat.le_of_ble_eq_true rfl) dX1_bind_27 h ?_
  clear h
  intro r6 z7 h
  refine qc_if_eq E_X1_bind 60 dX1_bind_32 (by decide) (fun (c8 : r6 = 0) => ?_) (fun (c8 : ¬ r6 = 0) => ?_)
  · replace h := h.1 c8
    refine qc_iconst E_X1_bind 0 (by decide) dX1_bind_60 ?_
    exact qc_zret E_X1_bind rfl (qm_nb (Or.inl rfl)) dX1_bind_61 (⟨_, rfl, (Or.inl rfl), h⟩)
  · replace h := h.2 c8
    refine qc_aload_n E_X1_bind (by rfl) dX1_bind_35 ?_
    refine re_getR E_X1_bind rfl ck_X1 (by decide) 2 (by decide) q301 dX1_bind_36 h ?_
    clear h
    intro v9 h
    refine qc_aload_n E_X1_bind (by rfl) dX1_bind_39 ?_
    refine re_getR E_X1_bind rfl ck_X14 (by decide) 1 (by decide) q1291 dX1_bind_40 h ?_
    clear h
    intro v10 h
    refine re_getI E_X1_bind rfl ck_X7 (by decide) 0 (by decide) q272 dX1_bind_43 h ?_
    clear h
    intro v11 h
    refine re_aaldA 8 (fun _ => rfl) E_X1_bind dX1_bind_46 h ?_
    clear h
    intro v12 h
    refine qc_aload_n E_X1_bind (by rfl) dX1_bind_47 ?_
    refine re_getR E_X1_bind rfl ck_X14 (by decide) 1 (by decide) q1291 dX1_bind_48 h ?_
    clear h
    intro v13 h
    refine re_getI E_X1_bind rfl ck_X7 (by decide) 0 (by decide) q272 dX1_bind_51 h ?_
    clear h
    intro v14 h
    refine qc_iconst E_X1_bind 2 (by decide) dX1_bind_54 ?_
    refine qc_idiv E_X1_bind (by decide) dX1_bind_55 ?_
    refine re_zald E_X1_bind dX1_bind_56 h ?_
    clear h
    intro v15 h
    refine qc_if_eq E_X1_bind 62 dX1_bind_57 (by decide) (fun (c16 : v15 = 0) => ?_) (fun (c16 : ¬ v15 = 0) => ?_)
    · replace h := h.1 c16
      refine qc_aload_n E_X1_bind (by rfl) dX1_bind_62 ?_
      refine re_getR E_X1_bind rfl ck_X14 (by decide) 4 (by decide) q1296 dX1_bind_63 h ?_
      clear h
      intro v17 h
      refine qc_aload_n E_X1_bind (by rfl) dX1_bind_66 ?_
      refine qc_aload_n E_X1_bind (by rfl) dX1_bind_67 ?_
      refine re_getI E_X1_bind rfl ck_X14 (by decide) 0 (by decide) q1289 dX1_bind_68 h ?_
      clear h
      intro v18 h
      obtain ⟨⟨fz, hb⟩, h⟩ := h
      refine qc_callV (c := c) (k := 0) (As := [.int v18]) (rest := [.ref v17]) hO E_X1_bind rfl M_X11_columnOf rfl q1363 q1364 q1365 (ci := 10) rfl rfl hb rfl rfl (Nat.le_of_ble_eq_true rfl) dX1_bind_71 (qc_S.mono ?_ (C_X11_columnOf (d := d + 10) hO hP a3 v18 hp _ h))
      clear h
      clear hb
      rintro _ _ ⟨r19, rfl, rfl, h⟩
      refine K1_i ?_
      obtain ⟨c21, k20, rfl, h⟩ := h
      refine qc_callS (c := c21) (k := k20) (As := [.ref v17, .int r19]) (rest := []) E_X1_bind rfl M_X1_keysOf rfl q1369 q1370 rfl rfl (Nat.le_of_ble_eq_true rfl) dX1_bind_74 (qc_S.mono ?_ (C_X1_keysOf (d := d + 4) hO hP v17 r19 hp k20 _ h))
      clear h
      rintro _ h23 ⟨r22, rfl, h⟩
      refine K1_r ?_
      refine qc_astore E_X1_bind (by decide) dX1_bind_77 ?_
      refine qc_aload E_X1_bind (by rfl) dX1_bind_79 ?_
      refine re_size (d := d + 5) hO E_X1_bind rfl q366 (Nat.le_of_ble_eq_true rfl) dX1_bind_81 h ?_
      clear h
      intro n24 h
      refine qc_iconst E_X1_bind 4 (by decide) dX1_bind_84 ?_
      refine qc_iadd E_X1_bind dX1_bind_85 ?_
      refine qc_iconst E_X1_bind 1 (by decide) dX1_bind_86 ?_
      refine qc_isub E_X1_bind dX1_bind_87 ?_
      refine qc_iconst E_X1_bind 4 (by decide) dX1_bind_88 ?_
      refine qc_idiv E_X1_bind (by decide) dX1_bind_89 ?_
      refine qc_istore E_X1_bind (by decide) dX1_bind_90 ?_
      refine qc_aload_n E_X1_bind (by rfl) dX1_bind_92 ?_
      obtain ⟨⟨fz, hb⟩, h⟩ := h
      refine qc_callV (c := c21) (k := 0) (As := []) (rest := []) hO E_X1_bind rfl M_X14_scanCost rfl q1373 q1374 q1375 (ci := 13) rfl rfl hb rfl rfl (Nat.le_of_ble_eq_true rfl) dX1_bind_93 (qc_S.mono ?_ (C_X14_scanCost (d := d + 3) hO hP a1 h23 _ h))
      clear h
      clear hb
      rintro _ _ ⟨r25, rfl, rfl, h⟩
      refine K1_i ?_
      refine qc_istore E_X1_bind (by decide) dX1_bind_96 ?_
      refine qc_iload E_X1_bind (by rfl) dX1_bind_98 ?_
      refine qc_aload E_X1_bind (by rfl) dX1_bind_100 ?_
      refine V_fee (d := d + 10) (rest := [.int (((n24 + 4) - 1) / 4)]) hO hP E_X1_bind rfl q1412 rfl (Nat.le_of_ble_eq_true rfl) dX1_bind_102 h ?_
      clear h
      intro r26 h
      refine qc_imul E_X1_bind dX1_bind_107 ?_
      refine qc_aload E_X1_bind (by rfl) dX1_bind_108 ?_
      refine re_size (d := d + 5) hO E_X1_bind rfl q366 (Nat.le_of_ble_eq_true rfl) dX1_bind_110 h ?_
      clear h
      intro n27 h
      refine qc_aload E_X1_bind (by rfl) dX1_bind_113 ?_
      refine V_freight (d := d + 10) (rest := [.int n27, .int ((((n24 + 4) - 1) / 4) * r26)]) hO hP E_X1_bind rfl q1414 rfl (Nat.le_of_ble_eq_true rfl) dX1_bind_115 h ?_
      clear h
      intro r28 h
      refine qc_imul E_X1_bind dX1_bind_120 ?_
      refine qc_iadd E_X1_bind dX1_bind_121 ?_
      refine qc_iload E_X1_bind (by rfl) dX1_bind_122 ?_
      refine qc_icmp_lt E_X1_bind 129 dX1_bind_124 (by decide) (fun (c29 : (((((n24 + 4) - 1) / 4) * r26) + (n27 * r28)) < r25) => ?_) (fun (c29 : ¬ (((((n24 + 4) - 1) / 4) * r26) + (n27 * r28)) < r25) => ?_)
      · replace h := h.1 c29
        refine qc_aload_n E_X1_bind (by rfl) dX1_bind_129 ?_
        refine qc_iconst E_X1_bind 1 (by decide) dX1_bind_130 ?_
        refine re_put E_X1_bind rfl ck_X14 (by decide) 7 (by decide) q1299 rfl rfl rfl dX1_bind_131 h ?_
        clear h
        intro h30 h
        refine qc_aload_n E_X1_bind (by rfl) dX1_bind_134 ?_
        refine qc_aload_n E_X1_bind (by rfl) dX1_bind_135 ?_
        refine re_getI E_X1_bind rfl ck_X1 (by decide) 14 (by decide) q315 dX1_bind_136 h ?_
        clear h
        intro v31 h
        refine re_put E_X1_bind rfl ck_X14 (by decide) 8 (by decide) q1300 rfl rfl rfl dX1_bind_139 h ?_
        clear h
        intro h32 h
        refine qc_iconst E_X1_bind 0 (by decide) dX1_bind_142 ?_
        refine qc_istore E_X1_bind (by decide) dX1_bind_143 ?_
        refine qc_drop 2 ?_
        refine qc_drop 3 ?_
        refine qc_drop 6 ?_
        refine h (fun (x34 : Int32) (h35 : qc_H) (c36 : Nat) => qc_wp g x (d + 11) c36 I_X1_bind 145 [some (.ref a0), some (.ref a1), none, none, some (.int a4), some (.int a5), none, some (.int r5), some (.ref r22), some (.int (((n24 + 4) - 1) / 4)), some (.int r25), some (.int x34)] [] h35 (oZ K)) ?_
        clear h
        intro x34 h35 c36 h
        refine qc_iload E_X1_bind (by rfl) dX1_bind_145 ?_
        refine qc_iload E_X1_bind (by rfl) dX1_bind_147 ?_
        refine qc_icmp_ge E_X1_bind 214 dX1_bind_149 (by decide) (fun (c37 : (((n24 + 4) - 1) / 4) ≤ x34) => ?_) (fun (c37 : ¬ (((n24 + 4) - 1) / 4) ≤ x34) => ?_)
        · replace h := h.1 c37
          refine qc_goto E_X1_bind 224 dX1_bind_214 (by decide) ?_
          refine qc_aload_n E_X1_bind (by rfl) dX1_bind_224 ?_
          refine re_getR E_X1_bind rfl ck_X14 (by decide) 4 (by decide) q1296 dX1_bind_225 h ?_
          clear h
          intro v38 h
          refine qc_callS (c := c36) (k := 0) (As := [.ref v38]) (rest := []) E_X1_bind rfl M_X1_order rfl q1473 q1474 rfl rfl (Nat.le_of_ble_eq_true rfl) dX1_bind_228 (qc_S.mono ?_ (C_X1_order (d := d + 4) hO hP v38 h35 _ h))
          clear h
          rintro _ h39 ⟨rfl, h⟩
          refine K1_v ?_
          refine qc_iconst E_X1_bind 1 (by decide) dX1_bind_231 ?_
          exact qc_zret E_X1_bind rfl (qm_nb (Or.inr rfl)) dX1_bind_232 (⟨_, rfl, (Or.inr rfl), h⟩)
        · replace h := h.2 c37
          refine qc_aload_n E_X1_bind (by rfl) dX1_bind_152 ?_
          refine qc_aload_n E_X1_bind (by rfl) dX1_bind_153 ?_
          refine qc_iload E_X1_bind (by rfl) dX1_bind_154 ?_
          refine qc_aload E_X1_bind (by rfl) dX1_bind_156 ?_
          refine qc_iload E_X1_bind (by rfl) dX1_bind_158 ?_
          refine qc_iconst E_X1_bind 4 (by decide) dX1_bind_160 ?_
          refine qc_imul E_X1_bind dX1_bind_161 ?_
          refine qc_aload E_X1_bind (by rfl) dX1_bind_162 ?_
          refine re_size (d := d + 5) hO E_X1_bind rfl q366 (Nat.le_of_ble_eq_true rfl) dX1_bind_164 h ?_
          clear h
          intro n40 h
          refine qc_iload E_X1_bind (by rfl) dX1_bind_167 ?_
          refine qc_iconst E_X1_bind 1 (by decide) dX1_bind_169 ?_
          refine qc_iadd E_X1_bind dX1_bind_170 ?_
          refine qc_iconst E_X1_bind 4 (by decide) dX1_bind_171 ?_
          refine qc_imul E_X1_bind dX1_bind_172 ?_
          refine qc_mmin E_X1_bind rfl q1415 q627 q106 q628 (Nat.le_of_ble_eq_true rfl) dX1_bind_173 ?_
          obtain ⟨u41, eu41⟩ : ∃ z : Int32, z = (if ((x34 + 1) * 4) < n40 then ((x34 + 1) * 4) else n40) := ⟨_, rfl⟩
          replace h := h u41 eu41
          rw [← eu41]
          refine qc_iload E_X1_bind (by rfl) dX1_bind_176 ?_
          refine qc_iload E_X1_bind (by rfl) dX1_bind_178 ?_
          obtain ⟨⟨fz, hb⟩, c43, k42, rfl, h⟩ := h
          refine qc_callVX (c := c43) (k := k42) (As := [.ref a1, .int r5, .ref r22, .int (x34 * 4), .int u41, .int a4, .int a5]) (rest := []) hO E_X1_bind rfl M_X1_ship rfl q1416 q1418 qs20 (ci := 0) rfl rfl hb rfl rfl (Nat.le_of_ble_eq_true rfl) dX1_bind_180 (qc_S.mono ?_ (C_X1_ship (d := d) hO hP a0 a1 r5 (some r22) (x34 * 4) u41 a4 a5 h35 k42 _ _ h))
          clear h
          clear hb
          rintro _ tz (hz | hz)
          · revert tz; rintro h44 ⟨rfl, h⟩
            refine K1_v ?_
            refine qc_iload E_X1_bind (by rfl) dX1_bind_183 ?_
            refine qc_iload E_X1_bind (by rfl) dX1_bind_185 ?_
            refine qc_iconst E_X1_bind 1 (by decide) dX1_bind_187 ?_
            refine qc_isub E_X1_bind dX1_bind_188 ?_
            refine qc_icmp_ge E_X1_bind 208 dX1_bind_189 (by decide) (fun (c50 : ((((n24 + 4) - 1) / 4) - 1) ≤ x34) => ?_) (fun (c50 : ¬ ((((n24 + 4) - 1) / 4) - 1) ≤ x34) => ?_)
            · replace h := h.1 c50
              refine qc_iinc E_X1_bind 1 rfl (by decide) (by decide) dX1_bind_208 ?_
              refine qc_goto E_X1_bind 145 dX1_bind_211 (by decide) ?_
              exact h
            · replace h := h.2 c50
              refine qc_aload_n E_X1_bind (by rfl) dX1_bind_192 ?_
              refine re_getI E_X1_bind rfl ck_X14 (by decide) 9 (by decide) q1301 dX1_bind_193 h ?_
              clear h
              intro v51 h
              refine qc_iload E_X1_bind (by rfl) dX1_bind_196 ?_
              refine qc_icmp_lt E_X1_bind 208 dX1_bind_198 (by decide) (fun (c52 : v51 < r25) => ?_) (fun (c52 : ¬ v51 < r25) => ?_)
              · replace h := h.1 c52
                refine qc_iinc E_X1_bind 1 rfl (by decide) (by decide) dX1_bind_208 ?_
                refine qc_goto E_X1_bind 145 dX1_bind_211 (by decide) ?_
                exact h
              · replace h := h.2 c52
                refine qc_aload_n E_X1_bind (by rfl) dX1_bind_201 ?_
                refine qc_iconst E_X1_bind 2 (by decide) dX1_bind_202 ?_
                refine re_put E_X1_bind rfl ck_X14 (by decide) 7 (by decide) q1299 rfl rfl rfl dX1_bind_203 h ?_
                clear h
                intro h53 h
                refine qc_iconst E_X1_bind 0 (by decide) dX1_bind_206 ?_
                exact qc_zret E_X1_bind rfl (qm_nb (Or.inl rfl)) dX1_bind_207 (⟨_, rfl, (Or.inl rfl), h⟩)
          · revert tz; rintro h45 ⟨Ez, rfl, h⟩
            refine K1_x ?_
            obtain ⟨rfl, h⟩ := h
            · refine qc_catch (own := RX1) rfl [] ⟨142, 207, 217, 314⟩ [⟨208, 214, 217, 314⟩] rfl (by intro z hz; cases hz) (by decide) (by decide) q1362 (hP.2.1 _ (qp_n q1430 rfl)) ?_
              intro q46
              replace h := h q46
              refine qc_astore E_X1_bind (by decide) dX1_bind_217 ?_
              refine qc_aload_n E_X1_bind (by rfl) dX1_bind_219 ?_
              refine qc_iconst E_X1_bind 1 (by decide) dX1_bind_220 ?_
              refine re_put E_X1_bind rfl ck_X14 (by decide) 6 (by decide) q1298 rfl (qm_nb (Or.inr rfl)) (qm_fb (Or.inr rfl)) dX1_bind_221 h ?_
              clear h
              intro h47 h
              refine qc_aload_n E_X1_bind (by rfl) dX1_bind_224 ?_
              refine re_getR E_X1_bind rfl ck_X14 (by decide) 4 (by decide) q1296 dX1_bind_225 h ?_
              clear h
              intro v48 h
              refine qc_callS (c := c43) (k := 0) (As := [.ref v48]) (rest := []) E_X1_bind rfl M_X1_order rfl q1473 q1474 rfl rfl (Nat.le_of_ble_eq_true rfl) dX1_bind_228 (qc_S.mono ?_ (C_X1_order (d := d + 4) hO hP v48 h47 _ h))
              clear h
              rintro _ h49 ⟨rfl, h⟩
              refine K1_v ?_
              refine qc_iconst E_X1_bind 1 (by decide) dX1_bind_231 ?_
              exact qc_zret E_X1_bind rfl (qm_nb (Or.inr rfl)) dX1_bind_232 (⟨_, rfl, (Or.inr rfl), h⟩)
      · replace h := h.2 c29
        refine qc_iconst E_X1_bind 0 (by decide) dX1_bind_127 ?_
        exact qc_zret E_X1_bind rfl (qm_nb (Or.inl rfl)) dX1_bind_128 (⟨_, rfl, (Or.inl rfl), h⟩)
    · replace h := h.2 c16
      refine qc_iconst E_X1_bind 0 (by decide) dX1_bind_60 ?_
      exact qc_zret E_X1_bind rfl (qm_nb (Or.inl rfl)) dX1_bind_61 (⟨_, rfl, (Or.inl rfl), h⟩)
def I_X17_init : qh_I := (yX17_init, cX17_init, 6, (Option.none : Option Jvm.ClassFile.FieldType), [])
theorem E_X17_init : I_X17_init.2.1 = cX17_init := rfl
theorem M_X17_init : qh_M I_X17_init 5 := ⟨by decide, by decide, by decide +kernel, q125, q1483, by decide⟩
def T_X17_init (g : qh_G) (a0 : Nat) (a1 : Nat) (a2 : Nat) (a3 : Nat) (a4 : Int32) (a5 : Int32) (hp : qc_H) (K : qc_H → Prop) : Prop := eP hp a0 14 0 (.ref a1) (fun h1 => eP h1 a0 14 1 (.ref a2) (fun h2 => eP h2 a0 14 2 (.ref a3) (fun h3 => eP h3 a0 14 3 (.int a4) (fun h4 => eP h4 a0 14 4 (.int a5) (fun h5 => K h5)))))
set_option maxHeartbeats 8000000 in
theorem C_X17_init {g : qh_G} {x : qc_X} {d : Nat} {sd : String → Nat → Nat} (hO : qc_O g x) (hP : qc_P g qp_ts sd) (a0 : Nat) (a1 : Nat) (a2 : Nat) (a3 : Nat) (a4 : Int32) (a5 : Int32) (hp : qc_H) (K : qc_H → Prop) (hz : T_X17_init g a0 a1 a2 a3 a4 a5 hp K) : qc_S g x (d + 0) 0 I_X17_init [.ref a0, .ref a1, .ref a2, .ref a3, .int a4, .int a5] hp (oV K) := by
  refine qc_S.of (by decide) rfl (ls := [some (.ref a0), some (.ref a1), some (.ref a2), some (.ref a3), some (.int a4), some (.int a5)]) rfl (Nat.le_of_ble_eq_true rfl) (ct_c rfl (ct_c rfl (ct_c rfl (ct_c rfl (ct_c rfl (ct_c rfl ct_n)))))) ?_
  unfold T_X17_init at hz
  have h := hz
  clear hz
  refine qc_aload_n E_X17_init (by rfl) dX17_init_0 ?_
  refine qc_objInit E_X17_init rfl q1484 q133 q134 dX17_init_1 (Nat.le_of_ble_eq_true rfl) ?_
  refine qc_aload_n E_X17_init (by rfl) dX17_init_4 ?_
  refine qc_aload_n E_X17_init (by rfl) dX17_init_5 ?_
  refine re_putF E_X17_init rfl rfl ck_X17 (by decide) 0 (by decide) q1485 rfl rfl rfl rfl dX17_init_6 h ?_
  clear h
  intro h1 h
  refine qc_aload_n E_X17_init (by rfl) dX17_init_9 ?_
  refine qc_aload_n E_X17_init (by rfl) dX17_init_10 ?_
  refine re_putF E_X17_init rfl rfl ck_X17 (by decide) 1 (by decide) q1487 rfl rfl rfl rfl dX17_init_11 h ?_
  clear h
  intro h2 h
  refine qc_aload_n E_X17_init (by rfl) dX17_init_14 ?_
  refine qc_aload_n E_X17_init (by rfl) dX17_init_15 ?_
  refine re_putF E_X17_init rfl rfl ck_X17 (by decide) 2 (by decide) q1489 rfl rfl rfl rfl dX17_init_16 h ?_
  clear h
  intro h3 h
  refine qc_aload_n E_X17_init (by rfl) dX17_init_19 ?_
  refine qc_iload E_X17_init (by rfl) dX17_init_20 ?_
  refine re_putF E_X17_init rfl rfl ck_X17 (by decide) 3 (by decide) q1491 rfl rfl rfl rfl dX17_init_22 h ?_
  clear h
  intro h4 h
  refine qc_aload_n E_X17_init (by rfl) dX17_init_25 ?_
  refine qc_iload E_X17_init (by rfl) dX17_init_26 ?_
  refine re_putF E_X17_init rfl rfl ck_X17 (by decide) 4 (by decide) q1493 rfl rfl rfl rfl dX17_init_28 h ?_
  clear h
  intro h5 h
  exact qc_vret E_X17_init rfl dX17_init_31 (⟨rfl, h⟩)
def I_X1_scan : qh_I := (yX1_scan, cX1_scan, 5, (Option.none : Option Jvm.ClassFile.FieldType), [(16, 124, 127, 314)])
theorem E_X1_scan : I_X1_scan.2.1 = cX1_scan := rfl
theorem M_X1_scan : qh_M I_X1_scan 3 := ⟨by decide, by decide, by decide +kernel, q85, q1479, by decide⟩
def T_X1_scan (g : qh_G) (a0 : Nat) (a1 : Nat) (a2 : Int32) (a3 : Int32) (hp : qc_H) (c : Nat) (K : qc_H → Prop) : Prop := eNL hp c (fun w1 h2 c3 => eP h2 a1 13 4 (.ref w1) (fun h4 => eP h4 a1 13 6 (.int 0) (fun h5 => eC h5 a0 0 (eK c3 (fun c7 k6 => T_X1_ship g a0 a1 ((-1)) none 0 0 a2 a3 h5 k6 (fun h8 => eI h8 a1 13 6 (fun v12 => (¬ v12 = 0 → K h8) ∧ (v12 = 0 → eR h8 a0 0 4 (fun v14 => eSz h8 v14 (fun n15 => ∀ J20 : qc_H → Prop, (∀ (h21 : qc_H), (eR h21 a0 0 4 (fun v22 => eN h21 c7 14 5 [.null, .null, .null, .int 0, .int 0] (fun w23 h24 c25 => eR h24 a1 13 1 (fun v26 => eR h24 a1 13 3 (fun v27 => eR h24 a1 13 4 (fun v28 => eI h24 a0 0 15 (fun v29 => eI h24 a0 0 14 (fun v30 => T_X17_init g w23 v26 v27 v28 v29 v30 h24 (fun h31 => eAd g h31 v22 w23 c25 (fun h32 c33 => eR h32 a1 13 1 (fun v34 => eR h32 a1 13 3 (fun v35 => eEm h32 v35 (fun n36 => ∀ J42 : Int32 → Prop, (∀ (x43 : Int32), (eP h32 v34 6 5 (.int x43) (fun h44 => K h44)) → J42 x43) → (n36 = 0 → eR h32 a1 13 1 (fun v38 => eI h32 v38 6 5 (fun v39 => J42 v39))) ∧ (¬ n36 = 0 → eR h32 a1 13 4 (fun v40 => eSz h32 v40 (fun n41 => J42 n41)))))))))))))))) → J20 h21) → (¬ n15 = 6 → J20 h8) ∧ (n15 = 6 → eR h8 a0 0 4 (fun v17 => eRm h8 v17 0 (fun p19 h18 => J20 h18)))))))) (fun Ez h9 => (Ez = "QueryHarbor$NoAnswer" ∧ ∀ q10 : Nat, eP h9 a1 13 6 (.int 1) (fun h11 => K h11))))))))
set_option maxHeartbeats 8000000 in
theorem C_X1_scan {g : qh_G} {x : qc_X} {d : Nat} {sd : String → Nat → Nat} (hO : qc_O g x) (hP : qc_P g qp_ts sd) (a0 : Nat) (a1 : Nat) (a2 : Int32) (a3 : Int32) (hp : qc_H) (c : Nat) (K : qc_H → Prop) (hz : T_X1_scan g a0 a1 a2 a3 hp c K) : qc_S g x (d + 11) c I_X1_scan [.ref a0, .ref a1, .int a2, .int a3] hp (oV K) := by
  refine qc_S.ofH (by decide) rfl (ls := [some (.ref a0), some (.ref a1), some (.int a2), some (.int a3), none]) rfl (Nat.le_of_ble_eq_true rfl) (ct_c rfl (ct_c rfl (ct_c rfl (ct_c rfl ct_n)))) ?_
  unfold T_X1_scan at hz
  have h := hz
  clear hz
  refine qc_aload_n E_X1_scan (by rfl) dX1_scan_0 ?_
  refine re_newL (d := d + 5) hO E_X1_scan rfl q204 q206 (Nat.le_of_ble_eq_true rfl) dX1_scan_1 dX1_scan_4 dX1_scan_5 h ?_
  clear h
  intro w1 h2 c3 h
  refine re_put E_X1_scan rfl ck_X14 (by decide) 4 (by decide) q1296 rfl rfl rfl dX1_scan_8 h ?_
  clear h
  intro h4 h
  refine qc_aload_n E_X1_scan (by rfl) dX1_scan_11 ?_
  refine qc_iconst E_X1_scan 0 (by decide) dX1_scan_12 ?_
  refine re_put E_X1_scan rfl ck_X14 (by decide) 6 (by decide) q1298 rfl (qm_nb (Or.inl rfl)) (qm_fb (Or.inl rfl)) dX1_scan_13 h ?_
  clear h
  intro h5 h
  refine qc_aload_n E_X1_scan (by rfl) dX1_scan_16 ?_
  refine qc_aload_n E_X1_scan (by rfl) dX1_scan_17 ?_
  refine qc_iconst E_X1_scan (-1) (by decide) dX1_scan_18 ?_
  refine qc_null E_X1_scan dX1_scan_19 ?_
  refine qc_iconst E_X1_scan 0 (by decide) dX1_scan_20 ?_
  refine qc_iconst E_X1_scan 0 (by decide) dX1_scan_21 ?_
  refine qc_iload_n E_X1_scan (by rfl) dX1_scan_22 ?_
  refine qc_iload_n E_X1_scan (by rfl) dX1_scan_23 ?_
  obtain ⟨⟨fz, hb⟩, c7, k6, rfl, h⟩ := h
  refine qc_callVX (c := c7) (k := k6) (As := [.ref a1, .int ((-1)), .null, .int 0, .int 0, .int a2, .int a3]) (rest := []) hO E_X1_scan rfl M_X1_ship rfl q1416 q1418 qs20 (ci := 0) rfl rfl hb rfl rfl (Nat.le_of_ble_eq_true rfl) dX1_scan_24 (qc_S.mono ?_ (C_X1_ship (d := d) hO hP a0 a1 ((-1)) none 0 0 a2 a3 h5 k6 _ _ h))
  clear h
  clear hb
  rintro _ tz (hz | hz)
  · revert tz; rintro h8 ⟨rfl, h⟩
    refine K1_v ?_
    refine qc_aload_n E_X1_scan (by rfl) dX1_scan_27 ?_
    refine re_getI E_X1_scan rfl ck_X14 (by decide) 6 (by decide) q1298 dX1_scan_28 h ?_
    clear h
    intro v12 h
    refine qc_if_ne E_X1_scan 124 dX1_scan_31 (by decide) (fun (c13 : ¬ v12 = 0) => ?_) (fun (c13 : v12 = 0) => ?_)
    · replace h := h.1 c13
      refine qc_goto E_X1_scan 134 dX1_scan_124 (by decide) ?_
      exact qc_vret E_X1_scan rfl dX1_scan_134 (⟨rfl, h⟩)
    · replace h := h.2 c13
      refine qc_aload_n E_X1_scan (by rfl) dX1_scan_34 ?_
      refine re_getR E_X1_scan rfl ck_X1 (by decide) 4 (by decide) q303 dX1_scan_35 h ?_
      clear h
      intro v14 h
      refine re_size (d := d + 5) hO E_X1_scan rfl q366 (Nat.le_of_ble_eq_true rfl) dX1_scan_38 h ?_
      clear h
      intro n15 h
      refine qc_bipush E_X1_scan 6 (by decide) dX1_scan_41 ?_
      have jz := h (fun (h21 : qc_H) => qc_wp g x (d + 11) c7 I_X1_scan 55 [some (.ref a0), some (.ref a1), none, none, none] [] h21 (oV K))
      clear h
      have h := jz (by
        intro h21 h
        refine qc_aload_n E_X1_scan (by rfl) dX1_scan_55 ?_
        refine re_getR E_X1_scan rfl ck_X1 (by decide) 4 (by decide) q303 dX1_scan_56 h ?_
        clear h
        intro v22 h
        refine re_new hO E_X1_scan rfl ck_X17 q1026 q1480 q125 df_X17 dX1_scan_59 h ?_
        clear h
        intro w23 h24 c25 h
        refine qc_dup E_X1_scan rfl dX1_scan_62 ?_
        refine qc_aload_n E_X1_scan (by rfl) dX1_scan_63 ?_
        refine re_getR E_X1_scan rfl ck_X14 (by decide) 1 (by decide) q1291 dX1_scan_64 h ?_
        clear h
        intro v26 h
        refine qc_aload_n E_X1_scan (by rfl) dX1_scan_67 ?_
        refine re_getR E_X1_scan rfl ck_X14 (by decide) 3 (by decide) q1294 dX1_scan_68 h ?_
        clear h
        intro v27 h
        refine qc_aload_n E_X1_scan (by rfl) dX1_scan_71 ?_
        refine re_getR E_X1_scan rfl ck_X14 (by decide) 4 (by decide) q1296 dX1_scan_72 h ?_
        clear h
        intro v28 h
        refine qc_aload_n E_X1_scan (by rfl) dX1_scan_75 ?_
        refine re_getI E_X1_scan rfl ck_X1 (by decide) 15 (by decide) q316 dX1_scan_76 h ?_
        clear h
        intro v29 h
        refine qc_aload_n E_X1_scan (by rfl) dX1_scan_79 ?_
        refine re_getI E_X1_scan rfl ck_X1 (by decide) 14 (by decide) q315 dX1_scan_80 h ?_
        clear h
        intro v30 h
        refine qc_callI (c := c25) (k := 0) (As := [.ref v26, .ref v27, .ref v28, .int v29, .int v30]) (rest := [.ref w23, .ref v22]) E_X1_scan rfl M_X17_init rfl rfl rfl q1481 q1482 rfl rfl (Nat.le_of_ble_eq_true rfl) dX1_scan_83 (qc_S.mono ?_ (C_X17_init (d := d + 10) hO hP w23 v26 v27 v28 v29 v30 h24 _ h))
        clear h
        rintro _ h31 ⟨rfl, h⟩
        refine K1_v ?_
        refine re_add (d := d + 5) hO E_X1_scan rfl q982 (Nat.le_of_ble_eq_true rfl) dX1_scan_86 h ?_
        clear h
        intro h32 c33 h
        refine qc_pop E_X1_scan rfl dX1_scan_89 ?_
        refine qc_aload_n E_X1_scan (by rfl) dX1_scan_90 ?_
        refine re_getR E_X1_scan rfl ck_X14 (by decide) 1 (by decide) q1291 dX1_scan_91 h ?_
        clear h
        intro v34 h
        refine qc_aload_n E_X1_scan (by rfl) dX1_scan_94 ?_
        refine re_getR E_X1_scan rfl ck_X14 (by decide) 3 (by decide) q1294 dX1_scan_95 h ?_
        clear h
        intro v35 h
        refine re_empty (d := d + 5) hO E_X1_scan rfl q1250 (Nat.le_of_ble_eq_true rfl) dX1_scan_98 h ?_
        clear h
        intro n36 h
        have jz := h (fun (x43 : Int32) => qc_wp g x (d + 11) c33 I_X1_scan 121 [none, some (.ref a1), none, none, none] [.int x43, .ref v34] h32 (oV K))
        clear h
        have h := jz (by
          intro x43 h
          refine re_put E_X1_scan rfl ck_X7 (by decide) 5 (by decide) q284 rfl rfl rfl dX1_scan_121 h ?_
          clear h
          intro h44 h
          refine qc_goto E_X1_scan 134 dX1_scan_124 (by decide) ?_
          exact qc_vret E_X1_scan rfl dX1_scan_134 (⟨rfl, h⟩))
        clear jz
        refine qc_if_eq E_X1_scan 114 dX1_scan_101 (by decide) (fun (c37 : n36 = 0) => ?_) (fun (c37 : ¬ n36 = 0) => ?_)
        · replace h := h.1 c37
          refine qc_aload_n E_X1_scan (by rfl) dX1_scan_114 ?_
          refine re_getR E_X1_scan rfl ck_X14 (by decide) 1 (by decide) q1291 dX1_scan_115 h ?_
          clear h
          intro v38 h
          refine re_getI E_X1_scan rfl ck_X7 (by decide) 5 (by decide) q284 dX1_scan_118 h ?_
          clear h
          intro v39 h
          refine qc_drop 0 ?_
          exact h
        · replace h := h.2 c37
          refine qc_aload_n E_X1_scan (by rfl) dX1_scan_104 ?_
          refine re_getR E_X1_scan rfl ck_X14 (by decide) 4 (by decide) q1296 dX1_scan_105 h ?_
          clear h
          intro v40 h
          refine re_size (d := d + 5) hO E_X1_scan rfl q366 (Nat.le_of_ble_eq_true rfl) dX1_scan_108 h ?_
          clear h
          intro n41 h
          refine qc_goto E_X1_scan 121 dX1_scan_111 (by decide) ?_
          refine qc_drop 0 ?_
          exact h)
      clear jz
      refine qc_icmp_ne E_X1_scan 55 dX1_scan_43 (by decide) (fun (c16 : ¬ n15 = 6) => ?_) (fun (c16 : n15 = 6) => ?_)
      · replace h := h.1 c16
        refine qc_drop 2 ?_
        refine qc_drop 3 ?_
        exact h
      · replace h := h.2 c16
        refine qc_aload_n E_X1_scan (by rfl) dX1_scan_46 ?_
        refine re_getR E_X1_scan rfl ck_X1 (by decide) 4 (by decide) q303 dX1_scan_47 h ?_
        clear h
        intro v17 h
        refine qc_iconst E_X1_scan 0 (by decide) dX1_scan_50 ?_
        refine re_remove (d := d + 5) hO E_X1_scan rfl q1014 (Nat.le_of_ble_eq_true rfl) dX1_scan_51 h ?_
        clear h
        intro p19 h18 h
        refine qc_pop E_X1_scan rfl dX1_scan_54 ?_
        refine qc_drop 2 ?_
        refine qc_drop 3 ?_
        exact h
  · revert tz; rintro h9 ⟨Ez, rfl, h⟩
    refine K1_x ?_
    obtain ⟨rfl, h⟩ := h
    · refine qc_catch (own := RX1) rfl [] ⟨16, 124, 127, 314⟩ [] rfl (by intro z hz; cases hz) (by decide) (by decide) q1362 (hP.2.1 _ (qp_n q1430 rfl)) ?_
      intro q10
      replace h := h q10
      refine qc_astore E_X1_scan (by decide) dX1_scan_127 ?_
      refine qc_aload_n E_X1_scan (by rfl) dX1_scan_129 ?_
      refine qc_iconst E_X1_scan 1 (by decide) dX1_scan_130 ?_
      refine re_put E_X1_scan rfl ck_X14 (by decide) 6 (by decide) q1298 rfl (qm_nb (Or.inr rfl)) (qm_fb (Or.inr rfl)) dX1_scan_131 h ?_
      clear h
      intro h11 h
      exact qc_vret E_X1_scan rfl dX1_scan_134 (⟨rfl, h⟩)
def I_X14_filter : qh_I := (yX14_filter, cX14_filter, 3, (Option.none : Option Jvm.ClassFile.FieldType), [])
theorem E_X14_filter : I_X14_filter.2.1 = cX14_filter := rfl
theorem M_X14_filter : qh_M I_X14_filter 0 := ⟨by decide, by decide, by decide +kernel, q122, q1509, by decide⟩
def T_X14_filter (g : qh_G) (a0 : Nat) (hp : qc_H) (c : Nat) (K : qc_H → Prop) : Prop := eNL hp c (fun w1 h2 c3 => ∀ X4 : Int32 → qc_H → Nat → Prop, (∀ (x5 : Int32) (h6 : qc_H) (c7 : Nat), (eR h6 a0 13 4 (fun v8 => eSz h6 v8 (fun n9 => (n9 ≤ x5 → eP h6 a0 13 4 (.ref w1) (fun h11 => K h11)) ∧ (¬ n9 ≤ x5 → eR h6 a0 13 2 (fun v12 => eR h6 a0 13 4 (fun v13 => eGt h6 v13 x5 (fun p14 => eC h6 p14 8 (T_X1_holdAll g v12 p14 h6 (fun r15 => (r15 = 0 → X4 (x5 + 1) h6 c7) ∧ (¬ r15 = 0 → eR h6 a0 13 4 (fun v18 => eGt h6 v18 x5 (fun p19 => eC h6 p19 8 (eAd g h6 w1 p19 c7 (fun h20 c21 => X4 (x5 + 1) h20 c21)))))))))))))) → X4 x5 h6 c7) → X4 0 h2 c3)
set_option maxHeartbeats 8000000 in
theorem C_X14_filter {g : qh_G} {x : qc_X} {d : Nat} {sd : String → Nat → Nat} (hO : qc_O g x) (hP : qc_P g qp_ts sd) (a0 : Nat) (hp : qc_H) (c : Nat) (K : qc_H → Prop) (hz : T_X14_filter g a0 hp c K) : qc_S g x (d + 7) c I_X14_filter [.ref a0] hp (oV K) := by
  refine qc_S.of (by decide) rfl (ls := [some (.ref a0), none, none]) rfl (Nat.le_of_ble_eq_true rfl) (ct_c rfl ct_n) ?_
  unfold T_X14_filter at hz
  have h := hz
  clear hz
  refine re_newL (d := d + 1) hO E_X14_filter rfl q1261 q1262 (Nat.le_of_ble_eq_true rfl) dX14_filter_0 dX14_filter_3 dX14_filter_4 h ?_
  clear h
  intro w1 h2 c3 h
  refine qc_astore_n E_X14_filter (by decide) dX14_filter_7 ?_
  refine qc_iconst E_X14_filter 0 (by decide) dX14_filter_8 ?_
  refine qc_istore_n E_X14_filter (by decide) dX14_filter_9 ?_
  refine h (fun (x5 : Int32) (h6 : qc_H) (c7 : Nat) => qc_wp g x (d + 7) c7 I_X14_filter 10 [some (.ref a0), some (.ref w1), some (.int x5)] [] h6 (oV K)) ?_
  clear h
  intro x5 h6 c7 h
  refine qc_iload_n E_X14_filter (by rfl) dX14_filter_10 ?_
  refine qc_aload_n E_X14_filter (by rfl) dX14_filter_11 ?_
  refine re_getR E_X14_filter rfl ck_X14 (by decide) 4 (by decide) q1295 dX14_filter_12 h ?_
  clear h
  intro v8 h
  refine re_size (d := d + 1) hO E_X14_filter rfl q1266 (Nat.le_of_ble_eq_true rfl) dX14_filter_15 h ?_
  clear h
  intro n9 h
  refine qc_icmp_ge E_X14_filter 64 dX14_filter_18 (by decide) (fun (c10 : n9 ≤ x5) => ?_) (fun (c10 : ¬ n9 ≤ x5) => ?_)
  · replace h := h.1 c10
    refine qc_aload_n E_X14_filter (by rfl) dX14_filter_64 ?_
    refine qc_aload_n E_X14_filter (by rfl) dX14_filter_65 ?_
    refine re_put E_X14_filter rfl ck_X14 (by decide) 4 (by decide) q1295 rfl rfl rfl dX14_filter_66 h ?_
    clear h
    intro h11 h
    exact qc_vret E_X14_filter rfl dX14_filter_69 (⟨rfl, h⟩)
  · replace h := h.2 c10
    refine qc_aload_n E_X14_filter (by rfl) dX14_filter_21 ?_
    refine re_getR E_X14_filter rfl ck_X14 (by decide) 2 (by decide) q1292 dX14_filter_22 h ?_
    clear h
    intro v12 h
    refine qc_aload_n E_X14_filter (by rfl) dX14_filter_25 ?_
    refine re_getR E_X14_filter rfl ck_X14 (by decide) 4 (by decide) q1295 dX14_filter_26 h ?_
    clear h
    intro v13 h
    refine qc_iload_n E_X14_filter (by rfl) dX14_filter_29 ?_
    refine re_get (d := d + 1) hO E_X14_filter rfl q1263 (Nat.le_of_ble_eq_true rfl) dX14_filter_30 h ?_
    clear h
    intro p14 h
    refine re_castS (ci := 8) hO E_X14_filter rfl rfl q1510 dX14_filter_33 h ?_
    clear h
    intro h
    refine qc_callSN (c := c7) (k := 0) (As := [.ref v12, .ref p14]) (rest := []) E_X14_filter rfl M_X1_holdAll rfl (hO.2.1 _ (qj_N q1511 rfl)) q1466 rfl rfl (Nat.le_of_ble_eq_true rfl) dX14_filter_36 (qc_S.mono ?_ (C_X1_holdAll (d := d) hO hP v12 p14 h6 _ h))
    clear h
    rintro _ _ ⟨r15, rfl, z16, rfl, h⟩
    refine K1_i ?_
    refine qc_if_eq E_X14_filter 58 dX14_filter_39 (by decide) (fun (c17 : r15 = 0) => ?_) (fun (c17 : ¬ r15 = 0) => ?_)
    · replace h := h.1 c17
      refine qc_iinc E_X14_filter 1 rfl (by decide) (by decide) dX14_filter_58 ?_
      refine qc_goto E_X14_filter 10 dX14_filter_61 (by decide) ?_
      exact h
    · replace h := h.2 c17
      refine qc_aload_n E_X14_filter (by rfl) dX14_filter_42 ?_
      refine qc_aload_n E_X14_filter (by rfl) dX14_filter_43 ?_
      refine re_getR E_X14_filter rfl ck_X14 (by decide) 4 (by decide) q1295 dX14_filter_44 h ?_
      clear h
      intro v18 h
      refine qc_iload_n E_X14_filter (by rfl) dX14_filter_47 ?_
      refine re_get (d := d + 1) hO E_X14_filter rfl q1263 (Nat.le_of_ble_eq_true rfl) dX14_filter_48 h ?_
      clear h
      intro p19 h
      refine re_castS (ci := 8) hO E_X14_filter rfl rfl q1510 dX14_filter_51 h ?_
      clear h
      intro h
      refine re_add (d := d + 1) hO E_X14_filter rfl q1268 (Nat.le_of_ble_eq_true rfl) dX14_filter_54 h ?_
      clear h
      intro h20 c21 h
      refine qc_pop E_X14_filter rfl dX14_filter_57 ?_
      refine qc_iinc E_X14_filter 1 rfl (by decide) (by decide) dX14_filter_58 ?_
      refine qc_goto E_X14_filter 10 dX14_filter_61 (by decide) ?_
      exact h
def I_X1_take : qh_I := (yX1_take, cX1_take, 8, (Option.none : Option Jvm.ClassFile.FieldType), [])
theorem E_X1_take : I_X1_take.2.1 = cX1_take := rfl
theorem M_X1_take : qh_M I_X1_take 5 := ⟨by decide, by decide, by decide +kernel, q85, q1346, by decide⟩
def T_X1_take (g : qh_G) (a0 : Nat) (a1 : Nat) (a2 : Nat) (a3 : Int32) (a4 : Int32) (a5 : Int32) (hp : qc_H) (c : Nat) (K : qc_H → Prop) : Prop := eC hp a0 0 (T_X1_entryFor g a0 a1 a3 hp (fun r1 => eC hp a0 0 (T_X1_linkOf g a0 a1 a2 hp (fun r2 => eP hp a1 13 7 (.int 3) (fun h3 => ∀ J33 : qc_H → Nat → Prop, (∀ (h34 : qc_H) (c35 : Nat), (eP h34 a1 13 5 (.int 1) (fun h36 => eC h36 a1 13 (eK c35 (fun c38 k37 => T_X14_filter g a1 h36 k37 (fun h39 => K h39))))) → J33 h34 c35) → (r1 = none → (r2 = none → eC h3 a0 0 (eK c (fun c9 k8 => T_X1_scan g a0 a1 a4 a5 h3 k8 (fun h10 => J33 h10 c9)))) ∧ (∀ y6, r2 = some y6 → eI h3 y6 10 0 (fun v11 => eI h3 a1 13 0 (fun v12 => ∀ J16 : Int32 → Prop, (∀ (x17 : Int32), (eQ g.2.2.2.1 7 h3 a2 x17 (fun v18 => eC h3 a0 0 (eK c (fun c20 k19 => T_X1_bind g a0 a1 v18 y6 a4 a5 h3 k19 (fun r21 h23 => (¬ r21 = 0 → J33 h23 c20) ∧ (r21 = 0 → eC h23 a0 0 (eK c20 (fun c26 k25 => T_X1_scan g a0 a1 a4 a5 h23 k25 (fun h27 => J33 h27 c26))))))))) → J16 x17) → (¬ v11 = v12 → eI h3 y6 10 0 (fun v14 => J16 v14)) ∧ (v11 = v12 → eI h3 y6 10 2 (fun v15 => J16 v15)))))) ∧ (∀ y4, r1 = some y4 → eP h3 a1 13 7 (.int 0) (fun h28 => eR h28 y4 14 2 (fun v29 => eP h28 a1 13 4 (.ref v29) (fun h30 => eI h30 y4 14 4 (fun v31 => eP h30 a1 13 8 (.int v31) (fun h32 => J33 h32 c)))))))))))
set_option maxHeartbeats 8000000 in
theorem C_X1_take {g : qh_G} {x : qc_X} {d : Nat} {sd : String → Nat → Nat} (hO : qc_O g x) (hP : qc_P g qp_ts sd) (a0 : Nat) (a1 : Nat) (a2 : Nat) (a3 : Int32) (a4 : Int32) (a5 : Int32) (hp : qc_H) (c : Nat) (K : qc_H → Prop) (hz : T_X1_take g a0 a1 a2 a3 a4 a5 hp c K) : qc_S g x (d + 12) c I_X1_take [.ref a0, .ref a1, .ref a2, .int a3, .int a4, .int a5] hp (oV K) := by
  refine qc_S.of (by decide) rfl (ls := [some (.ref a0), some (.ref a1), some (.ref a2), some (.int a3), some (.int a4), some (.int a5), none, none]) rfl (Nat.le_of_ble_eq_true rfl) (ct_c rfl (ct_c rfl (ct_c rfl (ct_c rfl (ct_c rfl (ct_c rfl ct_n)))))) ?_
  unfold T_X1_take at hz
  have h := hz
  clear hz
  refine qc_aload_n E_X1_take (by rfl) dX1_take_0 ?_
  refine qc_aload_n E_X1_take (by rfl) dX1_take_1 ?_
  refine qc_iload_n E_X1_take (by rfl) dX1_take_2 ?_
  obtain ⟨⟨fz, hb⟩, h⟩ := h
  refine qc_callV (c := c) (k := 0) (As := [.ref a1, .int a3]) (rest := []) hO E_X1_take rfl M_X1_entryFor rfl q1347 q1349 qs18 (ci := 0) rfl rfl hb rfl rfl (Nat.le_of_ble_eq_true rfl) dX1_take_3 (qc_S.mono ?_ (C_X1_entryFor (d := d + 4) hO hP a0 a1 a3 hp _ h))
  clear h
  clear hb
  rintro _ _ ⟨r1, rfl, rfl, h⟩
  refine K1_o ?_
  refine re_astoreO E_X1_take (by decide) dX1_take_6 ?_
  refine qc_aload_n E_X1_take (by rfl) dX1_take_8 ?_
  refine qc_aload_n E_X1_take (by rfl) dX1_take_9 ?_
  refine qc_aload_n E_X1_take (by rfl) dX1_take_10 ?_
  obtain ⟨⟨fz, hb⟩, h⟩ := h
  refine qc_callV (c := c) (k := 0) (As := [.ref a1, .ref a2]) (rest := []) hO E_X1_take rfl M_X1_linkOf rfl q1330 q1332 qs16 (ci := 0) rfl rfl hb rfl rfl (Nat.le_of_ble_eq_true rfl) dX1_take_11 (qc_S.mono ?_ (C_X1_linkOf (d := d + 5) hO hP a0 a1 a2 hp _ h))
  clear h
  clear hb
  rintro _ _ ⟨r2, rfl, rfl, h⟩
  refine K1_o ?_
  refine re_astoreO E_X1_take (by decide) dX1_take_14 ?_
  refine qc_aload_n E_X1_take (by rfl) dX1_take_16 ?_
  refine qc_iconst E_X1_take 3 (by decide) dX1_take_17 ?_
  refine re_put E_X1_take rfl ck_X14 (by decide) 7 (by decide) q1299 rfl rfl rfl dX1_take_18 h ?_
  clear h
  intro h3 h
  refine re_aloadO E_X1_take (by rfl) dX1_take_21 ?_
  have jz := h (fun (h34 : qc_H) (c35 : Nat) => qc_wp g x (d + 12) c35 I_X1_take 107 [none, some (.ref a1), none, none, none, none, none, none] [] h34 (oV K))
  clear h
  have h := jz (by
    intro h34 c35 h
    refine qc_aload_n E_X1_take (by rfl) dX1_take_107 ?_
    refine qc_iconst E_X1_take 1 (by decide) dX1_take_108 ?_
    refine re_put E_X1_take rfl ck_X14 (by decide) 5 (by decide) q1297 rfl (qm_nb (Or.inr rfl)) (qm_fb (Or.inr rfl)) dX1_take_109 h ?_
    clear h
    intro h36 h
    refine qc_aload_n E_X1_take (by rfl) dX1_take_112 ?_
    obtain ⟨⟨fz, hb⟩, c38, k37, rfl, h⟩ := h
    refine qc_callV (c := c38) (k := k37) (As := []) (rest := []) hO E_X1_take rfl M_X14_filter rfl q1506 q1507 q1508 (ci := 13) rfl rfl hb rfl rfl (Nat.le_of_ble_eq_true rfl) dX1_take_113 (qc_S.mono ?_ (C_X14_filter (d := d + 4) hO hP a1 h36 k37 _ h))
    clear h
    clear hb
    rintro _ h39 ⟨rfl, h⟩
    refine K1_v ?_
    exact qc_vret E_X1_take rfl dX1_take_116 (⟨rfl, h⟩))
  clear jz
  refine re_ifnullO E_X1_take 52 dX1_take_23 (by decide) (fun c5 => ?_) (fun y4 c5 => ?_)
  · replace h := h.1 c5
    subst c5
    refine re_aloadO E_X1_take (by rfl) dX1_take_52 ?_
    refine re_ifnullO E_X1_take 98 dX1_take_54 (by decide) (fun c7 => ?_) (fun y6 c7 => ?_)
    · replace h := h.1 c7
      subst c7
      refine qc_aload_n E_X1_take (by rfl) dX1_take_98 ?_
      refine qc_aload_n E_X1_take (by rfl) dX1_take_99 ?_
      refine qc_iload E_X1_take (by rfl) dX1_take_100 ?_
      refine qc_iload E_X1_take (by rfl) dX1_take_102 ?_
      obtain ⟨⟨fz, hb⟩, c9, k8, rfl, h⟩ := h
      refine qc_callVX (c := c9) (k := k8) (As := [.ref a1, .int a4, .int a5]) (rest := []) hO E_X1_take rfl M_X1_scan rfl q1476 q1478 qs23 (ci := 0) rfl rfl hb rfl rfl (Nat.le_of_ble_eq_true rfl) dX1_take_104 (qc_S.mono ?_ (C_X1_scan (d := d) hO hP a0 a1 a4 a5 h3 k8 _ h))
      clear h
      clear hb
      rintro _ h10 ⟨rfl, h⟩
      refine K1_v ?_
      refine qc_drop 0 ?_
      refine qc_drop 2 ?_
      refine qc_drop 3 ?_
      refine qc_drop 4 ?_
      refine qc_drop 5 ?_
      refine qc_drop 6 ?_
      refine qc_drop 7 ?_
      exact h
    · replace h := h.2 y6 c7
      subst c7
      refine qc_aload_n E_X1_take (by rfl) dX1_take_57 ?_
      refine qc_aload_n E_X1_take (by rfl) dX1_take_58 ?_
      refine qc_aload_n E_X1_take (by rfl) dX1_take_59 ?_
      refine qc_aload E_X1_take (by rfl) dX1_take_60 ?_
      refine re_getI E_X1_take rfl ck_X11 (by decide) 0 (by decide) q1170 dX1_take_62 h ?_
      clear h
      intro v11 h
      refine qc_aload_n E_X1_take (by rfl) dX1_take_65 ?_
      refine re_getI E_X1_take rfl ck_X14 (by decide) 0 (by decide) q1289 dX1_take_66 h ?_
      clear h
      intro v12 h
      have jz := h (fun (x17 : Int32) => qc_wp g x (d + 12) c I_X1_take 85 [some (.ref a0), some (.ref a1), none, none, some (.int a4), some (.int a5), none, some (.ref y6)] [.int x17, .ref a2, .ref a1, .ref a0] h3 (oV K))
      clear h
      have h := jz (by
        intro x17 h
        refine re_aald 7 (fun _ => rfl) E_X1_take dX1_take_85 h ?_
        clear h
        intro v18 h
        refine qc_aload E_X1_take (by rfl) dX1_take_86 ?_
        refine qc_iload E_X1_take (by rfl) dX1_take_88 ?_
        refine qc_iload E_X1_take (by rfl) dX1_take_90 ?_
        obtain ⟨⟨fz, hb⟩, c20, k19, rfl, h⟩ := h
        refine qc_callVX (c := c20) (k := k19) (As := [.ref a1, .ref v18, .ref y6, .int a4, .int a5]) (rest := []) hO E_X1_take rfl M_X1_bind rfl q1358 q1360 qs19 (ci := 0) rfl rfl hb rfl rfl (Nat.le_of_ble_eq_true rfl) dX1_take_92 (qc_S.mono ?_ (C_X1_bind (d := d) hO hP a0 a1 v18 y6 a4 a5 h3 k19 _ h))
        clear h
        clear hb
        rintro _ h23 ⟨r21, rfl, z22, h⟩
        refine K1_i ?_
        refine qc_if_ne E_X1_take 107 dX1_take_95 (by decide) (fun (c24 : ¬ r21 = 0) => ?_) (fun (c24 : r21 = 0) => ?_)
        · replace h := h.1 c24
          refine qc_drop 0 ?_
          refine qc_drop 4 ?_
          refine qc_drop 5 ?_
          refine qc_drop 7 ?_
          exact h
        · replace h := h.2 c24
          refine qc_aload_n E_X1_take (by rfl) dX1_take_98 ?_
          refine qc_aload_n E_X1_take (by rfl) dX1_take_99 ?_
          refine qc_iload E_X1_take (by rfl) dX1_take_100 ?_
          refine qc_iload E_X1_take (by rfl) dX1_take_102 ?_
          obtain ⟨⟨fz, hb⟩, c26, k25, rfl, h⟩ := h
          refine qc_callVX (c := c26) (k := k25) (As := [.ref a1, .int a4, .int a5]) (rest := []) hO E_X1_take rfl M_X1_scan rfl q1476 q1478 qs23 (ci := 0) rfl rfl hb rfl rfl (Nat.le_of_ble_eq_true rfl) dX1_take_104 (qc_S.mono ?_ (C_X1_scan (d := d) hO hP a0 a1 a4 a5 h23 k25 _ h))
          clear h
          clear hb
          rintro _ h27 ⟨rfl, h⟩
          refine K1_v ?_
          refine qc_drop 0 ?_
          refine qc_drop 4 ?_
          refine qc_drop 5 ?_
          refine qc_drop 7 ?_
          exact h)
      clear jz
      refine qc_icmp_ne E_X1_take 80 dX1_take_69 (by decide) (fun (c13 : ¬ v11 = v12) => ?_) (fun (c13 : v11 = v12) => ?_)
      · replace h := h.1 c13
        refine qc_aload E_X1_take (by rfl) dX1_take_80 ?_
        refine re_getI E_X1_take rfl ck_X11 (by decide) 0 (by decide) q1170 dX1_take_82 h ?_
        clear h
        intro v14 h
        refine qc_drop 2 ?_
        refine qc_drop 3 ?_
        refine qc_drop 6 ?_
        exact h
      · replace h := h.2 c13
        refine qc_aload E_X1_take (by rfl) dX1_take_72 ?_
        refine re_getI E_X1_take rfl ck_X11 (by decide) 2 (by decide) q1173 dX1_take_74 h ?_
        clear h
        intro v15 h
        refine qc_goto E_X1_take 85 dX1_take_77 (by decide) ?_
        refine qc_drop 2 ?_
        refine qc_drop 3 ?_
        refine qc_drop 6 ?_
        exact h
  · replace h := h.2 y4 c5
    subst c5
    refine qc_aload_n E_X1_take (by rfl) dX1_take_26 ?_
    refine qc_iconst E_X1_take 0 (by decide) dX1_take_27 ?_
    refine re_put E_X1_take rfl ck_X14 (by decide) 7 (by decide) q1299 rfl rfl rfl dX1_take_28 h ?_
    clear h
    intro h28 h
    refine qc_aload_n E_X1_take (by rfl) dX1_take_31 ?_
    refine qc_aload E_X1_take (by rfl) dX1_take_32 ?_
    refine re_getR E_X1_take rfl ck_X17 (by decide) 2 (by decide) q1490 dX1_take_34 h ?_
    clear h
    intro v29 h
    refine re_put E_X1_take rfl ck_X14 (by decide) 4 (by decide) q1296 rfl rfl rfl dX1_take_37 h ?_
    clear h
    intro h30 h
    refine qc_aload_n E_X1_take (by rfl) dX1_take_40 ?_
    refine qc_aload E_X1_take (by rfl) dX1_take_41 ?_
    refine re_getI E_X1_take rfl ck_X17 (by decide) 4 (by decide) q1494 dX1_take_43 h ?_
    clear h
    intro v31 h
    refine re_put E_X1_take rfl ck_X14 (by decide) 8 (by decide) q1300 rfl rfl rfl dX1_take_46 h ?_
    clear h
    intro h32 h
    refine qc_goto E_X1_take 107 dX1_take_49 (by decide) ?_
    refine qc_drop 0 ?_
    refine qc_drop 2 ?_
    refine qc_drop 3 ?_
    refine qc_drop 4 ?_
    refine qc_drop 5 ?_
    refine qc_drop 6 ?_
    refine qc_drop 7 ?_
    exact h
def I_X7_since : qh_I := (yX7_since, cX7_since, 4, (Option.some Jvm.ClassFile.FieldType.int), [])
theorem E_X7_since : I_X7_since.2.1 = cX7_since := rfl
theorem M_X7_since : qh_M I_X7_since 1 := ⟨by decide, by decide, by decide +kernel, q94, q1515, by decide⟩
def T_X7_since (g : qh_G) (a0 : Nat) (a1 : Int32) (hp : qc_H) (K : Int32 → Prop) : Prop := ∀ X1 : Int32 → Int32 → Prop, (∀ (x2 : Int32) (x3 : Int32), (eR hp a0 6 3 (fun v4 => eSz hp v4 (fun n5 => (n5 ≤ x3 → K x2) ∧ (¬ n5 ≤ x3 → eR hp a0 6 3 (fun v7 => eGt hp v7 x3 (fun p8 => eC hp p8 17 (eB hp p8 (fun v9 => ∀ J14 : Int32 → Prop, (∀ (x15 : Int32), (X1 x15 (x3 + 1)) → J14 x15) → (a1 < v9 → J14 x2) ∧ (¬ a1 < v9 → eR hp a0 6 3 (fun v11 => eGt hp v11 x3 (fun p12 => eC hp p12 17 (eB hp p12 (fun v13 => J14 v13))))))))))))) → X1 x2 x3) → X1 0 0
set_option maxHeartbeats 8000000 in
theorem C_X7_since {g : qh_G} {x : qc_X} {d : Nat} {sd : String → Nat → Nat} (hO : qc_O g x) (hP : qc_P g qp_ts sd) (a0 : Nat) (a1 : Int32) (hp : qc_H) (K : Int32 → Prop) (hz : T_X7_since g a0 a1 hp K) : qc_S g x (d + 6) 0 I_X7_since [.ref a0, .int a1] hp (oI (fun v t => hp = t ∧ K v)) := by
  refine qc_S.of (by decide) rfl (ls := [some (.ref a0), some (.int a1), none, none]) rfl (Nat.le_of_ble_eq_true rfl) (ct_c rfl (ct_c rfl ct_n)) ?_
  unfold T_X7_since at hz
  have h := hz
  clear hz
  refine qc_iconst E_X7_since 0 (by decide) dX7_since_0 ?_
  refine qc_istore_n E_X7_since (by decide) dX7_since_1 ?_
  refine qc_iconst E_X7_since 0 (by decide) dX7_since_2 ?_
  refine qc_istore_n E_X7_since (by decide) dX7_since_3 ?_
  refine h (fun (x2 : Int32) (x3 : Int32) => qc_wp g x (d + 6) 0 I_X7_since 4 [some (.ref a0), some (.int a1), some (.int x2), some (.int x3)] [] hp (oI (fun v t => hp = t ∧ K v))) ?_
  clear h
  intro x2 x3 h
  refine qc_iload_n E_X7_since (by rfl) dX7_since_4 ?_
  refine qc_aload_n E_X7_since (by rfl) dX7_since_5 ?_
  refine re_getR E_X7_since rfl ck_X7 (by decide) 3 (by decide) q279 dX7_since_6 h ?_
  clear h
  intro v4 h
  refine re_size (d := d) hO E_X7_since rfl q578 (Nat.le_of_ble_eq_true rfl) dX7_since_9 h ?_
  clear h
  intro n5 h
  refine qc_icmp_ge E_X7_since 58 dX7_since_12 (by decide) (fun (c6 : n5 ≤ x3) => ?_) (fun (c6 : ¬ n5 ≤ x3) => ?_)
  · replace h := h.1 c6
    refine qc_iload_n E_X7_since (by rfl) dX7_since_58 ?_
    exact qc_iret E_X7_since rfl dX7_since_59 (⟨_, rfl, rfl, h⟩)
  · replace h := h.2 c6
    refine qc_aload_n E_X7_since (by rfl) dX7_since_15 ?_
    refine re_getR E_X7_since rfl ck_X7 (by decide) 3 (by decide) q279 dX7_since_16 h ?_
    clear h
    intro v7 h
    refine qc_iload_n E_X7_since (by rfl) dX7_since_19 ?_
    refine re_get (d := d) hO E_X7_since rfl q579 (Nat.le_of_ble_eq_true rfl) dX7_since_20 h ?_
    clear h
    intro p8 h
    refine re_castS (ci := 17) hO E_X7_since rfl rfl q1516 dX7_since_23 h ?_
    clear h
    intro h
    refine re_unbox (d := d) hO E_X7_since rfl q1517 (Nat.le_of_ble_eq_true rfl) dX7_since_26 h ?_
    clear h
    intro v9 h
    refine qc_iload_n E_X7_since (by rfl) dX7_since_29 ?_
    have jz := h (fun (x15 : Int32) => qc_wp g x (d + 6) 0 I_X7_since 51 [some (.ref a0), some (.int a1), none, some (.int x3)] [.int x15] hp (oI (fun v t => hp = t ∧ K v)))
    clear h
    have h := jz (by
      intro x15 h
      refine qc_istore_n E_X7_since (by decide) dX7_since_51 ?_
      refine qc_iinc E_X7_since 1 rfl (by decide) (by decide) dX7_since_52 ?_
      refine qc_goto E_X7_since 4 dX7_since_55 (by decide) ?_
      exact h)
    clear jz
    refine qc_icmp_gt E_X7_since 50 dX7_since_30 (by decide) (fun (c10 : a1 < v9) => ?_) (fun (c10 : ¬ a1 < v9) => ?_)
    · replace h := h.1 c10
      refine qc_iload_n E_X7_since (by rfl) dX7_since_50 ?_
      refine qc_drop 2 ?_
      exact h
    · replace h := h.2 c10
      refine qc_aload_n E_X7_since (by rfl) dX7_since_33 ?_
      refine re_getR E_X7_since rfl ck_X7 (by decide) 3 (by decide) q279 dX7_since_34 h ?_
      clear h
      intro v11 h
      refine qc_iload_n E_X7_since (by rfl) dX7_since_37 ?_
      refine re_get (d := d) hO E_X7_since rfl q579 (Nat.le_of_ble_eq_true rfl) dX7_since_38 h ?_
      clear h
      intro p12 h
      refine re_castS (ci := 17) hO E_X7_since rfl rfl q1516 dX7_since_41 h ?_
      clear h
      intro h
      refine re_unbox (d := d) hO E_X7_since rfl q1517 (Nat.le_of_ble_eq_true rfl) dX7_since_44 h ?_
      clear h
      intro v13 h
      refine qc_goto E_X7_since 51 dX7_since_47 (by decide) ?_
      refine qc_drop 2 ?_
      exact h
def I_X7_until : qh_I := (yX7_until, cX7_until, 5, (Option.some Jvm.ClassFile.FieldType.int), [])
theorem E_X7_until : I_X7_until.2.1 = cX7_until := rfl
theorem M_X7_until : qh_M I_X7_until 2 := ⟨by decide, by decide, by decide +kernel, q94, q1522, by decide⟩
def T_X7_until (g : qh_G) (a0 : Nat) (a1 : Int32) (a2 : Int32) (hp : qc_H) (K : Int32 → Prop) : Prop := eR hp a0 6 3 (fun v1 => eSz hp v1 (fun n2 => ∀ X3 : Int32 → Int32 → Prop, (∀ (x4 : Int32) (x5 : Int32), ((x5 < 0 → K x4) ∧ (¬ x5 < 0 → eR hp a0 6 3 (fun v7 => eGt hp v7 x5 (fun p8 => eC hp p8 17 (eB hp p8 (fun v9 => ∀ J14 : Int32 → Prop, (∀ (x15 : Int32), (X3 x15 (x5 + (-1))) → J14 x15) → (v9 ≤ a1 → J14 x4) ∧ (¬ v9 ≤ a1 → eR hp a0 6 3 (fun v11 => eGt hp v11 x5 (fun p12 => eC hp p12 17 (eB hp p12 (fun v13 => J14 (v13 - 1)))))))))))) → X3 x4 x5) → X3 a2 (n2 - 1)))
set_option maxHeartbeats 8000000 in
theorem C_X7_until {g : qh_G} {x : qc_X} {d : Nat} {sd : String → Nat → Nat} (hO : qc_O g x) (hP : qc_P g qp_ts sd) (a0 : Nat) (a1 : Int32) (a2 : Int32) (hp : qc_H) (K : Int32 → Prop) (hz : T_X7_until g a0 a1 a2 hp K) : qc_S g x (d + 6) 0 I_X7_until [.ref a0, .int a1, .int a2] hp (oI (fun v t => hp = t ∧ K v)) := by
  refine qc_S.of (by decide) rfl (ls := [some (.ref a0), some (.int a1), some (.int a2), none, none]) rfl (Nat.le_of_ble_eq_true rfl) (ct_c rfl (ct_c rfl (ct_c rfl ct_n))) ?_
  unfold T_X7_until at hz
  have h := hz
  clear hz
  refine qc_iload_n E_X7_until (by rfl) dX7_until_0 ?_
  refine qc_istore_n E_X7_until (by decide) dX7_until_1 ?_
  refine qc_aload_n E_X7_until (by rfl) dX7_until_2 ?_
  refine re_getR E_X7_until rfl ck_X7 (by decide) 3 (by decide) q279 dX7_until_3 h ?_
  clear h
  intro v1 h
  refine re_size (d := d) hO E_X7_until rfl q578 (Nat.le_of_ble_eq_true rfl) dX7_until_6 h ?_
  clear h
  intro n2 h
  refine qc_iconst E_X7_until 1 (by decide) dX7_until_9 ?_
  refine qc_isub E_X7_until dX7_until_10 ?_
  refine qc_istore E_X7_until (by decide) dX7_until_11 ?_
  refine qc_drop 2 ?_
  refine h (fun (x4 : Int32) (x5 : Int32) => qc_wp g x (d + 6) 0 I_X7_until 13 [some (.ref a0), some (.int a1), none, some (.int x4), some (.int x5)] [] hp (oI (fun v t => hp = t ∧ K v))) ?_
  clear h
  intro x4 x5 h
  refine qc_iload E_X7_until (by rfl) dX7_until_13 ?_
  refine qc_if_lt E_X7_until 65 dX7_until_15 (by decide) (fun (c6 : x5 < 0) => ?_) (fun (c6 : ¬ x5 < 0) => ?_)
  · replace h := h.1 c6
    refine qc_iload_n E_X7_until (by rfl) dX7_until_65 ?_
    exact qc_iret E_X7_until rfl dX7_until_66 (⟨_, rfl, rfl, h⟩)
  · replace h := h.2 c6
    refine qc_aload_n E_X7_until (by rfl) dX7_until_18 ?_
    refine re_getR E_X7_until rfl ck_X7 (by decide) 3 (by decide) q279 dX7_until_19 h ?_
    clear h
    intro v7 h
    refine qc_iload E_X7_until (by rfl) dX7_until_22 ?_
    refine re_get (d := d) hO E_X7_until rfl q579 (Nat.le_of_ble_eq_true rfl) dX7_until_24 h ?_
    clear h
    intro p8 h
    refine re_castS (ci := 17) hO E_X7_until rfl rfl q1516 dX7_until_27 h ?_
    clear h
    intro h
    refine re_unbox (d := d) hO E_X7_until rfl q1517 (Nat.le_of_ble_eq_true rfl) dX7_until_30 h ?_
    clear h
    intro v9 h
    refine qc_iload_n E_X7_until (by rfl) dX7_until_33 ?_
    have jz := h (fun (x15 : Int32) => qc_wp g x (d + 6) 0 I_X7_until 58 [some (.ref a0), some (.int a1), none, none, some (.int x5)] [.int x15] hp (oI (fun v t => hp = t ∧ K v)))
    clear h
    have h := jz (by
      intro x15 h
      refine qc_istore_n E_X7_until (by decide) dX7_until_58 ?_
      refine qc_iinc E_X7_until (-1) rfl (by decide) (by decide) dX7_until_59 ?_
      refine qc_goto E_X7_until 13 dX7_until_62 (by decide) ?_
      exact h)
    clear jz
    refine qc_icmp_le E_X7_until 57 dX7_until_34 (by decide) (fun (c10 : v9 ≤ a1) => ?_) (fun (c10 : ¬ v9 ≤ a1) => ?_)
    · replace h := h.1 c10
      refine qc_iload_n E_X7_until (by rfl) dX7_until_57 ?_
      refine qc_drop 3 ?_
      exact h
    · replace h := h.2 c10
      refine qc_aload_n E_X7_until (by rfl) dX7_until_37 ?_
      refine re_getR E_X7_until rfl ck_X7 (by decide) 3 (by decide) q279 dX7_until_38 h ?_
      clear h
      intro v11 h
      refine qc_iload E_X7_until (by rfl) dX7_until_41 ?_
      refine re_get (d := d) hO E_X7_until rfl q579 (Nat.le_of_ble_eq_true rfl) dX7_until_43 h ?_
      clear h
      intro p12 h
      refine re_castS (ci := 17) hO E_X7_until rfl rfl q1516 dX7_until_46 h ?_
      clear h
      intro h
      refine re_unbox (d := d) hO E_X7_until rfl q1517 (Nat.le_of_ble_eq_true rfl) dX7_until_49 h ?_
      clear h
      intro v13 h
      refine qc_iconst E_X7_until 1 (by decide) dX7_until_52 ?_
      refine qc_isub E_X7_until dX7_until_53 ?_
      refine qc_goto E_X7_until 58 dX7_until_54 (by decide) ?_
      refine qc_drop 3 ?_
      exact h
def I_X1_rank : qh_I := (yX1_rank, cX1_rank, 1, (Option.some Jvm.ClassFile.FieldType.int), [])
theorem E_X1_rank : I_X1_rank.2.1 = cX1_rank := rfl
theorem M_X1_rank : qh_M I_X1_rank 1 := ⟨by decide, by decide, by decide +kernel, q85, q1539, by decide⟩
def T_X1_rank (g : qh_G) (a1 : Int32) (hp : qc_H) (K : Int32 → Prop) : Prop := (¬ a1 = 5001 → (¬ a1 = 5000 → K a1) ∧ (a1 = 5000 → K ((-1000)))) ∧ (a1 = 5001 → K ((-1001)))
set_option maxHeartbeats 8000000 in
theorem C_X1_rank {g : qh_G} {x : qc_X} {d : Nat} {sd : String → Nat → Nat} (hO : qc_O g x) (hP : qc_P g qp_ts sd) (a1 : Int32) (hp : qc_H) (K : Int32 → Prop) (hz : T_X1_rank g a1 hp K) : qc_S g x (d + 0) 0 I_X1_rank [.int a1] hp (oI (fun v t => hp = t ∧ K v)) := by
  refine qc_S.of (by decide) rfl (ls := [some (.int a1)]) rfl (Nat.le_of_ble_eq_true rfl) (ct_c rfl ct_n) ?_
  unfold T_X1_rank at hz
  have h := hz
  clear hz
  refine qc_iload_n E_X1_rank (by rfl) dX1_rank_0 ?_
  refine qc_sipush E_X1_rank 5001 (by decide) dX1_rank_1 ?_
  refine qc_icmp_ne E_X1_rank 13 dX1_rank_4 (by decide) (fun (c1 : ¬ a1 = 5001) => ?_) (fun (c1 : a1 = 5001) => ?_)
  · replace h := h.1 c1
    refine qc_iload_n E_X1_rank (by rfl) dX1_rank_13 ?_
    refine qc_sipush E_X1_rank 5000 (by decide) dX1_rank_14 ?_
    refine qc_icmp_ne E_X1_rank 26 dX1_rank_17 (by decide) (fun (c2 : ¬ a1 = 5000) => ?_) (fun (c2 : a1 = 5000) => ?_)
    · replace h := h.1 c2
      refine qc_iload_n E_X1_rank (by rfl) dX1_rank_26 ?_
      exact qc_iret E_X1_rank rfl dX1_rank_27 (⟨_, rfl, rfl, h⟩)
    · replace h := h.2 c2
      refine qc_sipush E_X1_rank (-1000) (by decide) dX1_rank_20 ?_
      refine qc_goto E_X1_rank 27 dX1_rank_23 (by decide) ?_
      exact qc_iret E_X1_rank rfl dX1_rank_27 (⟨_, rfl, rfl, h⟩)
  · replace h := h.2 c1
    refine qc_sipush E_X1_rank (-1001) (by decide) dX1_rank_7 ?_
    refine qc_goto E_X1_rank 27 dX1_rank_10 (by decide) ?_
    exact qc_iret E_X1_rank rfl dX1_rank_27 (⟨_, rfl, rfl, h⟩)
