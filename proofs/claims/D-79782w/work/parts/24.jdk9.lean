/-! JDK 9: clear, Integer.valueOf and intValue over level 1 -/
set_option maxRecDepth 100000
section
variable {g : qh_G} {x : qc_X} {d : Nat} {τ : qh_H} {Q : qh_R → qh_H → Prop}
theorem j0_valueOf {v : Int32} (hO : qc_O g x) (hq1 : (∀ a e, τ a = some e → g.2.2.1 a) → ∀ k, k < 256 → v = vb_c k → Q (.inl (some (.ref (x.2.2.2 k)))) τ) (hq2 : ∀ a, τ a = none → g.2.2.1 a → Q (.inl (some (.ref a))) (qh_upd τ a (.inr (17, [.int v])))) : qh_S g (d + 3) 2 I_J21_valueOf [.int v] τ Q := by
  refine qh_S.of (by decide) rfl (ls := [some (.int v)]) rfl (Nat.le_of_ble_eq_true rfl) (qm_ct rfl) ?_
  have big : qh_wp g (d + 3) 2 I_J21_valueOf 23 [some (.int v)] [] τ Q := by
    refine qh_new (c := 0) (N := 1) (fs := [.int 0]) E_J21_valueOf rfl qj_ckI q969 q970 q116 (fun j hj => by cases j with | zero => rfl | succ j => exact absurd hj (by omega)) dJ21_valueOf_23 (fun a ha hA => ?_)
    refine qh_dup E_J21_valueOf rfl dJ21_valueOf_26 ?_
    refine qh_iload_n E_J21_valueOf (by rfl) dJ21_valueOf_27 ?_
    refine qh_callI (c := 0) (k := 0) (As := [.int v]) (rest := [.ref a]) E_J21_valueOf rfl M_J21_init rfl rfl rfl q971 q972 rfl rfl (Nat.le_of_ble_eq_true rfl) dJ21_valueOf_28 ?_
    refine j0_initI (w := .int 0) qh_upd_s ?_
    refine qh_aret E_J21_valueOf rfl (Or.inl ⟨_, rfl⟩) (Or.inr ⟨_, rfl⟩) dJ21_valueOf_31 ?_
    rw [qh_uu]
    exact hq2 a ha hA
  refine qh_iload_n E_J21_valueOf (by rfl) dJ21_valueOf_0 ?_
  refine qh_bipush E_J21_valueOf (-128) (by decide) dJ21_valueOf_1 ?_
  refine qh_icmp_lt E_J21_valueOf 23 dJ21_valueOf_3 (by decide) (fun _ => big) (fun c1 => ?_)
  refine qh_iload_n E_J21_valueOf (by rfl) dJ21_valueOf_6 ?_
  refine qh_gets E_J21_valueOf rfl hO.2.2.2.2.2.2.1 q965 dJ21_valueOf_7 ?_
  refine qh_icmp_gt E_J21_valueOf 23 dJ21_valueOf_10 (by decide) (fun _ => big) (fun c2 => ?_)
  obtain ⟨k, hk, e1, e2⟩ := bx_small c1 c2
  refine qh_gets E_J21_valueOf rfl hO.2.2.2.2.1 q967 dJ21_valueOf_13 ?_
  refine qh_iload_n E_J21_valueOf (by rfl) dJ21_valueOf_16 ?_
  refine qh_sipush E_J21_valueOf 128 (by decide) dJ21_valueOf_17 ?_
  refine qh_iadd E_J21_valueOf dJ21_valueOf_20 ?_
  rw [e1]
  refine qh_tq E_J21_valueOf hO.2.2.2.2.2.1 (vp_in_nI (n := k) (by omega) (by omega)) dJ21_valueOf_21 ?_
  rw [nI_clamp (by omega)]
  refine qh_dom (fun hd => ?_)
  exact qh_aret E_J21_valueOf rfl (Or.inl ⟨_, rfl⟩) (Or.inr ⟨_, rfl⟩) dJ21_valueOf_22 (hq1 hd k hk e2)
theorem j0_intValue {a : Nat} {v : Int32} (ha : τ a = some (.inr (17, [.int v]))) (hq : Q (.inl (some (.int v))) τ) : qh_S g d 0 I_J21_intValue [.ref a] τ Q := by
  refine qh_S.of (by decide) rfl (ls := [some (.ref a)]) rfl (Nat.le_of_ble_eq_true rfl) (qm_ct rfl) ?_
  refine qh_aload_n E_J21_intValue (by rfl) dJ21_intValue_0 ?_
  refine qh_getf E_J21_intValue rfl qj_ckI 0 (by decide) q978 ha rfl dJ21_intValue_1 ?_
  exact qh_iret E_J21_intValue rfl dJ21_intValue_4 hq
theorem j0_intValueX {k : Nat} (hO : qc_O g x) (hk : k < 256) (hq : Q (.inl (some (.int (vb_c k)))) τ) : qh_S g d 0 I_J21_intValue [.ref (x.2.2.2 k)] τ Q := by
  refine qh_S.of (by decide) rfl (ls := [some (.ref (x.2.2.2 k))]) rfl (Nat.le_of_ble_eq_true rfl) (qm_ct rfl) ?_
  refine qh_aload_n E_J21_intValue (by rfl) dJ21_intValue_0 ?_
  refine qh_getb E_J21_intValue rfl hO.2.2.2.2.2.2.2.1 hk q978 dJ21_intValue_1 ?_
  exact qh_iret E_J21_intValue rfl dJ21_intValue_4 hq
/-- a box of the cache comes into sight -/
theorem qc_R.box {h : qc_H} {k : Nat} (hO : qc_O g x) (hR : qc_R g x h τ) (hd : ∀ a e, τ a = some e → g.2.2.1 a) (hk : k < 256) : (h (x.2.2.2 k) = none ∨ h (x.2.2.2 k) = some (.inl (.inr (17, [.int (vb_c k)])))) ∧ qc_R g x (qc_up h (x.2.2.2 k) (.inl (.inr (17, [.int (vb_c k)])))) τ := by
  have hn : τ (x.2.2.2 k) = none := by
    cases hz : τ (x.2.2.2 k) with
    | none => rfl
    | some e => exact absurd (hd _ _ hz) (hO.1 k hk)
  obtain ⟨ow, r1, r2, r3⟩ := hR
  have how : ow (x.2.2.2 k) = none := by
    cases hz : ow (x.2.2.2 k) with
    | none => rfl
    | some p => exact absurd hn (r3 _ p hz)
  have hold : h (x.2.2.2 k) = none ∨ h (x.2.2.2 k) = some (.inl (.inr (17, [.int (vb_c k)]))) := by
    cases hz : h (x.2.2.2 k) with
    | none => exact Or.inl rfl
    | some e0 =>
      cases e0 with
      | inl e1 =>
        rcases (r1 _ e1 hz).2 with q | ⟨-, j, hj, e2, e3⟩
        · rw [hn] at q
          cases q
        · have := hO.2.2.2.2.2.2.2.2.2.2 k j hk hj e2
          subst this
          rw [e3]
          exact Or.inr rfl
      | inr xs =>
        obtain ⟨-, -, m, ea, s3, -⟩ := r2 _ xs hz
        rw [hn] at s3
        cases s3
  refine ⟨hold, ow, fun b eb hb => ?_, fun p xs hp => ?_, r3⟩
  · by_cases n : b = x.2.2.2 k
    · subst n
      rw [qc_up_s] at hb
      cases hb
      exact ⟨how, Or.inr ⟨hn, k, hk, rfl, rfl⟩⟩
    · rw [qc_up_n n] at hb
      exact r1 b eb hb
  · have n : p ≠ x.2.2.2 k := fun z => by
      rw [z, qc_up_s] at hp
      cases hp
    rw [qc_up_n n] at hp
    obtain ⟨s1, s2, s3⟩ := r2 p xs hp
    refine ⟨s1, fun y hy => ?_, s3⟩
    obtain ⟨ey, h1, h2⟩ := s2 y hy
    by_cases ny : y = x.2.2.2 k
    · subst ny
      exact ⟨_, qc_up_s, Or.inr (Or.inr (Or.inr (Or.inr (Or.inr (Or.inr (Or.inr rfl))))))⟩
    · exact ⟨ey, by rw [qc_up_n ny]; exact h1, h2⟩
end
section
variable {g : qh_G} {x : qc_X} {d : Nat} {h : qc_H} {Q : qh_R → qc_H → Prop}
theorem L_valueOf {v : Int32} (hO : qc_O g x) (hq : ∀ a, (h a = none ∨ h a = some (.inl (.inr (17, [.int v])))) → Q (.inl (some (.ref a))) (qc_up h a (.inl (.inr (17, [.int v]))))) : qc_S g x (d + 3) 2 I_J21_valueOf [.int v] h Q := fun τ hR => by
  refine j0_valueOf hO (fun hd k hk e => ?_) (fun a ha hA => ?_)
  · have hb := hR.box hO hd hk
    rw [← e] at hb
    exact ⟨_, hb.2, hq _ hb.1⟩
  · have hb := hR.new (e := .inr (17, [.int v])) hO ha hA
    exact ⟨_, hb.2, hq a (Or.inl hb.1)⟩
theorem L_intValue {a : Nat} {v : Int32} (hO : qc_O g x) (ha : h a = some (.inl (.inr (17, [.int v])))) (hq : Q (.inl (some (.int v))) h) : qc_S g x d 0 I_J21_intValue [.ref a] h Q := fun τ hR => by
  have hR0 := hR
  obtain ⟨ow, r1, -, -⟩ := hR
  rcases (r1 a _ ha).2 with q | ⟨-, k, hk, e2, e3⟩
  · exact j0_intValue q ⟨h, hR0, hq⟩
  · cases e3
    subst e2
    exact j0_intValueX hO hk ⟨h, hR0, hq⟩
theorem L_clear {p : Nat} {xs : List Nat} (hO : qc_O g x) (hl : xs.length < 65536) (hp : h p = some (.inr xs)) (hq : Q (.inl none) (qc_up h p (.inr []))) : qc_S g x d 0 I_J2_clear [.ref p] h Q := fun τ hR => by
  obtain ⟨m, ea, cap, f, h1, h2, h3, h4, h5, h6⟩ := hR.opn hO hp
  rcases h2 with ⟨e1, e2⟩ | ⟨h2, c1, c2, c3⟩
  · rw [e1] at h1
    exact j0_clearE h1 ⟨_, h6 (m + 1) (List.eq_nil_of_length_eq_zero e1) e2, hq⟩
  · exact j0_clear h1 h2 c2 c3 (fun f' => ⟨_, h5 [] _ (m + 1) f' (fun w hw => absurd hw List.not_mem_nil) (fun j hj => absurd hj (Nat.not_lt_zero j)) ⟨ea, cap, f', Or.inl ⟨rfl, h2⟩, rfl, c1, Nat.zero_le _, c3, fun _ _ => rfl⟩, hq⟩)
end
