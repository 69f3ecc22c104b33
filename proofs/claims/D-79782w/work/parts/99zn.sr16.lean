/-! SR 16 (printed by mk_loop.py): the law's loop -/
set_option maxRecDepth 100000
theorem lg_stop {Ls n : Nat} (hL : Ls ≤ 448) (hn : n ≤ 64) (h : ¬ (Int32.ofNat Ls - 7) < nI (7 * n)) : 7 * n + 7 ≤ Ls := by
  have e : (nI Ls - nI 7).toInt = (Ls : Int) - 7 := pk_sub_toInt (by omega) (by omega)
  have e2 : (nI (7 * n)).toInt = ((7 * n : Nat) : Int) := nI_toInt (by omega)
  have h' : ¬ (nI Ls - nI 7) < nI (7 * n) := h
  rw [Int32.lt_iff_toInt_lt, e, e2] at h'
  omega
theorem lg_at {Ls n : Nat} {xs : Nat → Int32} {K : Int32 → Prop} (hL : Ls ≤ 448) (hb : 7 * n + 7 ≤ Ls) (j : Nat) (hj : j < 7) (hk : K (xs (7 * n + j))) : eSx Ls xs (nI (7 * n) + nI j) K := by
  rw [nI_add]
  refine ⟨pk_in (7 * n + j) Ls (by omega), ?_⟩
  rw [nI_clamp (by omega)]
  exact hk
theorem lg_a0 {Ls n : Nat} {xs : Nat → Int32} {K : Int32 → Prop} (hL : Ls ≤ 448) (hb : 7 * n + 7 ≤ Ls) (hk : K (xs (7 * n))) : eSx Ls xs (nI (7 * n)) K := by
  refine ⟨pk_in (7 * n) Ls (by omega), ?_⟩
  rw [nI_clamp (by omega)]
  exact hk
theorem lg_b {v : Int32} {P J : Int32 → Prop} (hp : P (if v = 0 then 0 else 1)) (hJ : ∀ x, P x → J x) : (v = 0 → J 0) ∧ (¬ v = 0 → J 1) := by
  refine ⟨fun z => ?_, fun z => ?_⟩
  · rw [if_pos z] at hp
    exact hJ _ hp
  · rw [if_neg z] at hp
    exact hJ _ hp
theorem lg_01 {v : Int32} : (if v = 0 then (0 : Int32) else 1) = 0 ∨ (if v = 0 then (0 : Int32) else 1) = 1 := by
  split
  · exact Or.inl rfl
  · exact Or.inr rfl
theorem lZ.up {g : qh_G} {L : Nat → Nat} {m o : Nat} {fa : Nat → Nat} {n : Nat} {h : qc_H} (hZ : lZ g L m o fa n h) : lZ g L m o fa (n + 1) h := by
  obtain ⟨A, v, S, C, hC, hI, hW⟩ := hZ
  exact ⟨A, v, S, C, hC, hI.le (by omega) (by omega), wb_le hW (by omega)⟩
set_option maxHeartbeats 8000000 in
theorem law_T {g : qh_G} {L : Nat → Nat} {m o : Nat} {fa : Nat → Nat} {Ls : Nat} {xs : Nat → Int32} {hp : qc_H} {c : Nat} {K : Int32 → qc_H → Prop} {KX : String → qc_H → Prop} (G : lG L m o fa) (hL : Ls ≤ 448) (hZ : lZ g L m o fa 0 hp) (hc : 17600 * 64 ≤ c) (hK : ∀ h, K 1 h) : T_L_law g Ls xs (L 0) m o hp c K KX := by
  unfold T_L_law
  intro X1 hX1
  have key : ∀ f n h c, n + f = 64 → lZ g L m o fa n h → 17600 * f ≤ c → X1 (nI (7 * n)) h c := by
    intro f
    induction f with
    | zero =>
      intro n h c hn hZ hc
      exact hX1 _ _ _ ⟨fun _ => hK _, fun z => absurd (lg_stop hL (by omega) z) (by omega)⟩
    | succ f ih =>
      intro n h c hn hZ hc
      refine hX1 _ _ _ ⟨fun _ => hK _, fun z => ?_⟩
      have hb := lg_stop hL (by omega) z
      have e7 : nI (7 * n) + 7 = nI (7 * (n + 1)) := nI_add (7 * n) 7
      have hX : ∀ h2, lZ g L m o fa (n + 1) h2 → X1 (nI (7 * n) + 7) h2 (c - 17600) := fun h2 hZ2 => by rw [e7]; exact ih (n + 1) h2 _ (by omega) hZ2 (by omega)
      have hX4 : ∀ h2, lZ g L m o fa (n + 1) h2 → X1 (nI (7 * n) + 7) h2 c := fun h2 hZ2 => by rw [e7]; exact ih (n + 1) h2 _ (by omega) hZ2 (by omega)
      refine lg_a0 hL hb ?_
      refine ⟨?_, ?_, ?_, ?_, ?_, ?_, ?_, ?_, ?_, ?_, ?_, ?_, ?_, ?_, ?_, ?_, ?_, ?_, ?_, ?_, ?_, ?_, ?_, ?_, ?_, ?_, ?_, ?_, ?_, ?_, ?_, ?_, ?_, ?_, ?_, ?_⟩
      · exact fun _ => lg_at hL hb 1 (by decide) (lg_at hL hb 2 (by decide) (lg_at hL hb 3 (by decide) (lg_at hL hb 4 (by decide) (lg_at hL hb 5 (by decide) (ek 17600 (by omega) (cs_add G hZ (by omega) (by omega) fun r15 h16 hT => lg_at hL hb 1 (by decide) (lg_at hL hb 2 (by decide) (lg_at hL hb 3 (by decide) (lg_at hL hb 4 (by decide) (lg_at hL hb 5 (by decide) (hT (fun h2 => X1 (nI (7 * n) + 7) h2 (c - 17600)) (K 0) hX)))))))))))
      · exact fun _ => lg_at hL hb 1 (by decide) (lg_at hL hb 2 (by decide) (lg_at hL hb 3 (by decide) (lg_at hL hb 4 (by decide) (ek 17600 (by omega) (cs_change G hZ (by omega) (by omega) fun r15 h16 hT => lg_at hL hb 1 (by decide) (lg_at hL hb 2 (by decide) (lg_at hL hb 3 (by decide) (lg_at hL hb 4 (by decide) (hT (fun h2 => X1 (nI (7 * n) + 7) h2 (c - 17600)) (K 0) hX)))))))))
      · exact fun _ => lg_at hL hb 1 (by decide) (lg_at hL hb 2 (by decide) (ek 17600 (by omega) (cs_remove G hZ (by omega) (by omega) fun r15 h16 hT => lg_at hL hb 1 (by decide) (lg_at hL hb 2 (by decide) (hT (fun h2 => X1 (nI (7 * n) + 7) h2 (c - 17600)) (K 0) hX)))))
      · exact fun _ => lg_at hL hb 1 (by decide) (ek 17600 (by omega) (cs_count G hZ (by omega) (by omega) fun r15 h16 hT => lg_at hL hb 1 (by decide) (hT (fun h2 => X1 (nI (7 * n) + 7) h2 (c - 17600)) (K 0) hX)))
      · exact fun _ => lg_at hL hb 1 (by decide) (lg_at hL hb 2 (by decide) (lg_at hL hb 3 (by decide) (ek 17600 (by omega) (cs_cell G hZ (by omega) (by omega) fun r15 h16 hT => lg_at hL hb 1 (by decide) (lg_at hL hb 2 (by decide) (lg_at hL hb 3 (by decide) (hT (fun h2 => X1 (nI (7 * n) + 7) h2 (c - 17600)) (K 0) hX)))))))
      · exact fun _ => cs_losses (XX := fun h2 => X1 (nI (7 * n) + 7) h2 c) (K0 := K 0) G hZ (by omega) hX4
      · exact fun _ => cs_moment (XX := fun h2 => X1 (nI (7 * n) + 7) h2 c) (K0 := K 0) G hZ (by omega) hX4
      · exact fun _ => lg_at hL hb 1 (by decide) (lg_at hL hb 2 (by decide) (lg_at hL hb 3 (by decide) (ek 17600 (by omega) (cs_setPace G hZ (by omega) (by omega) fun r15 h16 hT => lg_at hL hb 1 (by decide) (lg_at hL hb 2 (by decide) (lg_at hL hb 3 (by decide) (hT (fun h2 => X1 (nI (7 * n) + 7) h2 (c - 17600)) (K 0) hX)))))))
      · exact fun _ => lg_at hL hb 1 (by decide) (lg_at hL hb 2 (by decide) (lg_at hL hb 3 (by decide) (ek 17600 (by omega) (cs_setBounds G hZ (by omega) (by omega) fun r15 h16 hT => lg_at hL hb 1 (by decide) (lg_at hL hb 2 (by decide) (lg_at hL hb 3 (by decide) (hT (fun h2 => X1 (nI (7 * n) + 7) h2 (c - 17600)) (K 0) hX)))))))
      · exact fun _ => lg_at hL hb 1 (by decide) (lg_at hL hb 2 (by decide) (ek 17600 (by omega) (cs_setLease G hZ (by omega) (by omega) fun r15 h16 hT => lg_at hL hb 1 (by decide) (lg_at hL hb 2 (by decide) (hT (fun h2 => X1 (nI (7 * n) + 7) h2 (c - 17600)) (K 0) hX)))))
      · exact fun _ => lg_at hL hb 1 (by decide) (lg_at hL hb 2 (by decide) (lg_at hL hb 3 (by decide) (fun J1 hJ1 => lg_b (by exact ek 17600 (by omega) (cs_fail G hZ (by omega) lg_01 (by omega) fun r15 h16 hT => lg_at hL hb 1 (by decide) (lg_at hL hb 2 (by decide) (lg_at hL hb 3 (by decide) (fun J2 hJ2 => lg_b (by exact hT (fun h2 => X1 (nI (7 * n) + 7) h2 (c - 17600)) (K 0) hX) hJ2))))) hJ1)))
      · exact fun _ => lg_at hL hb 1 (by decide) (lg_at hL hb 2 (by decide) (lg_at hL hb 3 (by decide) (fun J1 hJ1 => lg_b (by exact ek 17600 (by omega) (cs_forbid G hZ (by omega) lg_01 (by omega) fun r15 h16 hT => lg_at hL hb 1 (by decide) (lg_at hL hb 2 (by decide) (lg_at hL hb 3 (by decide) (fun J2 hJ2 => lg_b (by exact hT (fun h2 => X1 (nI (7 * n) + 7) h2 (c - 17600)) (K 0) hX) hJ2))))) hJ1)))
      · exact fun _ => lg_at hL hb 1 (by decide) (ek 17600 (by omega) (cs_pass G hZ (by omega) (by omega) fun r15 h16 hT => lg_at hL hb 1 (by decide) (hT (fun h2 => X1 (nI (7 * n) + 7) h2 (c - 17600)) (K 0) hX)))
      · exact fun _ => cs_now (XX := fun h2 => X1 (nI (7 * n) + 7) h2 c) (K0 := K 0) G hZ (by omega) hX4
      · exact fun _ => lg_at hL hb 1 (by decide) (ek 17600 (by omega) (cs_seat G hZ (by omega) (by omega) fun r15 h16 hT => lg_at hL hb 1 (by decide) (hT (fun h2 => X1 (nI (7 * n) + 7) h2 (c - 17600)) (K 0) hX)))
      · exact fun _ => lg_at hL hb 1 (by decide) (lg_at hL hb 2 (by decide) (lg_at hL hb 3 (by decide) (lg_at hL hb 4 (by decide) (ek 17600 (by omega) (cs_link G hZ (by omega) (by omega) fun r15 h16 hT => lg_at hL hb 1 (by decide) (lg_at hL hb 2 (by decide) (lg_at hL hb 3 (by decide) (lg_at hL hb 4 (by decide) (hT (fun h2 => X1 (nI (7 * n) + 7) h2 (c - 17600)) (K 0) hX)))))))))
      · exact fun _ => lg_at hL hb 1 (by decide) (lg_at hL hb 2 (by decide) (lg_at hL hb 3 (by decide) (lg_at hL hb 4 (by decide) (ek 17600 (by omega) (cs_where G hZ (by omega) (by omega) fun r15 h16 hT => lg_at hL hb 1 (by decide) (lg_at hL hb 2 (by decide) (lg_at hL hb 3 (by decide) (lg_at hL hb 4 (by decide) (hT (fun h2 => X1 (nI (7 * n) + 7) h2 (c - 17600)) (K 0) hX)))))))))
      · exact fun _ => lg_at hL hb 1 (by decide) (lg_at hL hb 2 (by decide) (ek 17600 (by omega) (cs_out G hZ (by omega) (by omega) fun r15 h16 hT => lg_at hL hb 1 (by decide) (lg_at hL hb 2 (by decide) (hT (fun h2 => X1 (nI (7 * n) + 7) h2 (c - 17600)) (K 0) hX)))))
      · exact fun _ => lg_at hL hb 1 (by decide) (lg_at hL hb 2 (by decide) (fun J1 hJ1 => lg_b (by exact ek 17600 (by omega) (cs_shape G hZ (by omega) lg_01 (by omega) fun r15 h16 hT => lg_at hL hb 1 (by decide) (lg_at hL hb 2 (by decide) (fun J2 hJ2 => lg_b (by exact hT (fun h2 => X1 (nI (7 * n) + 7) h2 (c - 17600)) (K 0) hX) hJ2)))) hJ1))
      · exact fun _ => cs_clear (XX := fun h2 => X1 (nI (7 * n) + 7) h2 c) (K0 := K 0) G hZ (by omega) hX4
      · exact fun _ => lg_at hL hb 1 (by decide) (lg_at hL hb 2 (by decide) (ek 17600 (by omega) (cs_ask G hZ (by omega) (by omega) fun r15 h16 hT => lg_at hL hb 1 (by decide) (lg_at hL hb 2 (by decide) (hT (fun h2 => X1 (nI (7 * n) + 7) h2 (c - 17600)) (K 0) hX)))))
      · exact fun _ => cs_answers (XX := fun h2 => X1 (nI (7 * n) + 7) h2 c) (K0 := K 0) G hZ (by omega) hX4
      · exact fun _ => lg_at hL hb 1 (by decide) (lg_at hL hb 2 (by decide) (ek 17600 (by omega) (cs_answer G hZ (by omega) (by omega) fun r15 h16 hT => lg_at hL hb 1 (by decide) (lg_at hL hb 2 (by decide) (hT (fun h2 => X1 (nI (7 * n) + 7) h2 (c - 17600)) (K 0) hX)))))
      · exact fun _ => cs_missing (XX := fun h2 => X1 (nI (7 * n) + 7) h2 c) (K0 := K 0) G hZ (by omega) hX4
      · exact fun _ => cs_claims (XX := fun h2 => X1 (nI (7 * n) + 7) h2 c) (K0 := K 0) G hZ (by omega) hX4
      · exact fun _ => cs_cost (XX := fun h2 => X1 (nI (7 * n) + 7) h2 c) (K0 := K 0) G hZ (by omega) hX4
      · exact fun _ => cs_attempts (XX := fun h2 => X1 (nI (7 * n) + 7) h2 c) (K0 := K 0) G hZ (by omega) hX4
      · exact fun _ => cs_shipped (XX := fun h2 => X1 (nI (7 * n) + 7) h2 c) (K0 := K 0) G hZ (by omega) hX4
      · exact fun _ => lg_at hL hb 1 (by decide) (ek 17600 (by omega) (cs_taken G hZ (by omega) (by omega) fun r15 h16 hT => lg_at hL hb 1 (by decide) (hT (fun h2 => X1 (nI (7 * n) + 7) h2 (c - 17600)) (K 0) hX)))
      · exact fun _ => lg_at hL hb 1 (by decide) (ek 17600 (by omega) (cs_size G hZ (by omega) (by omega) fun r15 h16 hT => lg_at hL hb 1 (by decide) (hT (fun h2 => X1 (nI (7 * n) + 7) h2 (c - 17600)) (K 0) hX)))
      · exact fun _ => cs_entries (XX := fun h2 => X1 (nI (7 * n) + 7) h2 c) (K0 := K 0) G hZ (by omega) hX4
      · exact fun _ => ek 17600 (by omega) (cs_answersAnew G hZ (by omega) (by omega) fun r15 h16 hT => hT (fun h2 => X1 (nI (7 * n) + 7) h2 (c - 17600)) (K 0) hX)
      · exact fun _ => lg_at hL hb 1 (by decide) (lg_at hL hb 2 (by decide) (ek 17600 (by omega) (cs_answerAnew G hZ (by omega) (by omega) fun r15 h16 hT => lg_at hL hb 1 (by decide) (lg_at hL hb 2 (by decide) (hT (fun h2 => X1 (nI (7 * n) + 7) h2 (c - 17600)) (K 0) hX)))))
      · exact fun _ => lg_at hL hb 1 (by decide) (lg_at hL hb 2 (by decide) (lg_at hL hb 3 (by decide) (lg_at hL hb 4 (by decide) (lg_at hL hb 5 (by decide) (lg_at hL hb 6 (by decide) (ek 17600 (by omega) (cs_step G hZ (by omega) (by omega) fun r15 h16 hT => lg_at hL hb 1 (by decide) (lg_at hL hb 2 (by decide) (lg_at hL hb 3 (by decide) (lg_at hL hb 4 (by decide) (lg_at hL hb 5 (by decide) (lg_at hL hb 6 (by decide) (hT (fun h2 => X1 (nI (7 * n) + 7) h2 (c - 17600)) (K 0) hX)))))))))))))
      · exact fun _ => ek 17600 (by omega) (cs_run G hZ (by omega) (by omega) fun r15 h16 hT => hT (fun h2 => X1 (nI (7 * n) + 7) h2 (c - 17600)) (K 0) hX)
      · intros
        exact hX4 _ hZ.up
  exact key 64 0 hp c rfl hZ hc
