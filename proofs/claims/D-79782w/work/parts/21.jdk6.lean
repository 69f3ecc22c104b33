/-! JDK 6: <init>, set, remove over level 1; Integer.valueOf, intValue -/
set_option maxRecDepth 100000
theorem qj_ckI : qh_K 17 RJ21 TJ21 1 tyJ21 := ⟨rfl, in_J21, tyJ21_ok, nmJ21⟩
theorem qj_id {t : qh_H} {p : Nat} {P : va_E} (h : t p = some P) : qh_upd t p P = t := by
  funext b
  by_cases n : b = p
  · rw [n, qh_upd_s, h]
  · rw [qh_upd_n n]
/-- an object of ArrayList becomes a list -/
theorem qc_R.born {g : qh_G} {x : qc_X} {h : qc_H} {τ : qh_H} {p : Nat} {fs : List Value} (hR : qc_R g x h τ) (hp : h p = some (.inl (.inr (16, fs)))) : qc_R g x (qc_up h p (.inr [])) (qh_upd τ p (qj_o 0 x.1 (nI 0))) := by
  have hpt : τ p = some (.inr (16, fs)) := hR.obj hp (by decide)
  obtain ⟨ow, r1, r2, r3⟩ := hR
  have owp : ow p = none := (r1 p _ hp).1
  refine ⟨ow, fun a e ha => ?_, fun q ys hq => ?_, fun a q hq => ?_⟩
  · have n : a ≠ p := fun z => by
      rw [z, qc_up_s] at ha
      cases ha
    rw [qc_up_n n] at ha
    rw [qh_upd_n n]
    exact r1 a e ha
  · have dom : ∀ y e, h y = some e → qc_ok g e → ∃ e', qc_up h p (.inr []) y = some e' ∧ qc_ok g e' := fun y e h1 h2 => by
      by_cases n : y = p
      · subst n
        exact ⟨_, qc_up_s, trivial⟩
      · exact ⟨e, by rw [qc_up_n n]; exact h1, h2⟩
    by_cases n : q = p
    · subst n
      rw [qc_up_s] at hq
      cases hq
      exact ⟨owp, fun y hy => absurd hy List.not_mem_nil, 0, x.1, qh_upd_s, Or.inl ⟨rfl, rfl⟩⟩
    · rw [qc_up_n n] at hq
      obtain ⟨u1, u2, mq, eq, u3, u4⟩ := r2 q ys hq
      refine ⟨u1, fun y hy => by obtain ⟨e, h1, h2⟩ := u2 y hy; exact dom y e h1 h2, mq, eq, by rw [qh_upd_n n]; exact u3, ?_⟩
      rcases u4 with u4 | ⟨cap, f, o1, o2, o3⟩
      · exact Or.inl u4
      · have ne : eq ≠ p := fun z => by rw [z, owp] at o1; cases o1
        exact Or.inr ⟨cap, f, o1, by rw [qh_upd_n ne]; exact o2, o3⟩
  · by_cases n : a = p
    · subst n
      rw [qh_upd_s]
      intro z; cases z
    · rw [qh_upd_n n]
      exact r3 a q hq
section
variable {g : qh_G} {x : qc_X} {d : Nat} {τ : qh_H} {Q : qh_R → qh_H → Prop}
theorem j0_fastRemove {p ea n cap i : Nat} {m : Int32} {f : Nat → Option Nat} (hO : qc_O g x) (hp : τ p = some (qj_o m ea (nI n))) (he : τ ea = some (qj_a g cap f)) (hi : i < n) (h1 : n ≤ cap) (h2 : cap ≤ 65536) (hel : ∀ j, j < n → ∀ y, f j = some y → qj_E g x τ y) (hq : Q (.inl none) (qh_upd (qh_upd τ ea (qj_a g cap (va_up (if i < n - 1 then va_cpy f f (i + 1) i (n - 1 - i) else f) (n - 1) none))) p (qj_o (m + 1) ea (nI (n - 1))))) : qh_S g d 0 I_J2_fastRemove [.ref p, .ref ea, .int (nI i)] τ Q := by
  have ne : p ≠ ea := fun z => by rw [z, he] at hp; cases hp
  refine qh_S.of (by decide) rfl (ls := [some (.ref p), some (.ref ea), some (.int (nI i)), none]) rfl (Nat.le_of_ble_eq_true rfl) (qm_ct rfl) ?_
  refine qh_aload_n E_J2_fastRemove (by rfl) dJ2_fastRemove_0 ?_
  refine qh_dup E_J2_fastRemove rfl dJ2_fastRemove_1 ?_
  refine qh_getfS E_J2_fastRemove rfl qj_ck 0 (by decide) q221 q222 hp rfl dJ2_fastRemove_2 ?_
  refine qh_iconst E_J2_fastRemove 1 (by decide) dJ2_fastRemove_5 ?_
  refine qh_iadd E_J2_fastRemove dJ2_fastRemove_6 ?_
  refine qh_putfS E_J2_fastRemove rfl qj_ck 0 (by decide) q221 q222 rfl rfl rfl hp (Nat.le_of_ble_eq_true rfl) dJ2_fastRemove_7 ?_
  have hp1 : qh_upd τ p (qj_o (m + 1) ea (nI n)) p = some (qj_o (m + 1) ea (nI n)) := qh_upd_s
  have he1 : qh_upd τ p (qj_o (m + 1) ea (nI n)) ea = some (qj_a g cap f) := by rw [qh_upd_n ne.symm]; exact he
  refine qh_aload_n E_J2_fastRemove (by rfl) dJ2_fastRemove_10 ?_
  refine qh_getf E_J2_fastRemove rfl qj_ck 2 (by decide) q219 hp1 rfl dJ2_fastRemove_11 ?_
  refine qh_iconst E_J2_fastRemove 1 (by decide) dJ2_fastRemove_14 ?_
  refine qh_isub E_J2_fastRemove dJ2_fastRemove_15 ?_
  rw [show nI n - 1 = nI (n - 1) from pk_sub (b := 1) (by omega)]
  refine qh_dup E_J2_fastRemove rfl dJ2_fastRemove_16 ?_
  refine qh_istore_n E_J2_fastRemove (by decide) dJ2_fastRemove_17 ?_
  refine qh_iload_n E_J2_fastRemove (by rfl) dJ2_fastRemove_18 ?_
  have fin : ∀ f', (f' = if i < n - 1 then va_cpy f f (i + 1) i (n - 1 - i) else f) → qh_wp g d 0 I_J2_fastRemove 34 [some (.ref p), some (.ref ea), some (.int (nI i)), some (.int (nI (n - 1)))] [] (qh_upd (qh_upd τ p (qj_o (m + 1) ea (nI n))) ea (qj_a g cap f')) Q := by
    intro f' hf'
    have hp2 : qh_upd (qh_upd τ p (qj_o (m + 1) ea (nI n))) ea (qj_a g cap f') p = some (qj_o (m + 1) ea (nI n)) := by rw [qh_upd_n ne, qh_upd_s]
    refine qh_aload_n E_J2_fastRemove (by rfl) dJ2_fastRemove_34 ?_
    refine qh_aload_n E_J2_fastRemove (by rfl) dJ2_fastRemove_35 ?_
    refine qh_iload_n E_J2_fastRemove (by rfl) dJ2_fastRemove_36 ?_
    refine qh_dup_x1 E_J2_fastRemove rfl rfl dJ2_fastRemove_37 ?_
    refine qh_putf E_J2_fastRemove rfl qj_ck 2 (by decide) q219 rfl rfl rfl hp2 (Nat.le_of_ble_eq_true rfl) dJ2_fastRemove_38 ?_
    refine qh_null E_J2_fastRemove dJ2_fastRemove_41 ?_
    refine qh_aastN 3 (fun _ => rfl) E_J2_fastRemove (n := cap) (f := f') (by rw [qh_upd_n ne.symm, qh_upd_s]) (vp_in_nI (n := n - 1) (by omega) (by omega)) dJ2_fastRemove_42 ?_
    rw [nI_clamp (by omega)]
    refine qh_vret E_J2_fastRemove rfl dJ2_fastRemove_43 ?_
    rw [← hf'] at hq
    have e1 : qh_upd (qh_upd (qh_upd (qh_upd τ p (qj_o (m + 1) ea (nI n))) ea (qj_a g cap f')) p (qj_o (m + 1) ea (nI (n - 1)))) ea (qj_a g cap (va_up f' (n - 1) none)) = qh_upd (qh_upd τ ea (qj_a g cap (va_up f' (n - 1) none))) p (qj_o (m + 1) ea (nI (n - 1))) := by
      rw [qj_sw ne, qh_uu, qj_n2]
    show Q (.inl none) (qh_upd (qh_upd (qh_upd (qh_upd τ p (qj_o (m + 1) ea (nI n))) ea (qj_a g cap f')) p (qj_o (m + 1) ea (nI (n - 1)))) ea (qj_a g cap (va_up f' (n - 1) none)))
    rw [e1]
    exact hq
  refine qh_icmp_le E_J2_fastRemove 34 dJ2_fastRemove_19 (by decide) (fun c1 => ?_) (fun c1 => ?_)
  · have hge : ¬ i < n - 1 := fun z => absurd c1 (nI_ge z (by omega))
    have := fin f (by rw [if_neg hge])
    rw [qj_id he1] at this
    exact this
  · have hlt : i < n - 1 := by
      rcases Nat.lt_or_ge i (n - 1) with z | z
      · exact z
      · exact absurd (nI_le z (by omega)) c1
    refine qh_aload_n E_J2_fastRemove (by rfl) dJ2_fastRemove_22 ?_
    refine qh_iload_n E_J2_fastRemove (by rfl) dJ2_fastRemove_23 ?_
    refine qh_iconst E_J2_fastRemove 1 (by decide) dJ2_fastRemove_24 ?_
    refine qh_iadd E_J2_fastRemove dJ2_fastRemove_25 ?_
    refine qh_aload_n E_J2_fastRemove (by rfl) dJ2_fastRemove_26 ?_
    refine qh_iload_n E_J2_fastRemove (by rfl) dJ2_fastRemove_27 ?_
    refine qh_iload_n E_J2_fastRemove (by rfl) dJ2_fastRemove_28 ?_
    refine qh_iload_n E_J2_fastRemove (by rfl) dJ2_fastRemove_29 ?_
    refine qh_isub E_J2_fastRemove dJ2_fastRemove_30 ?_
    rw [show nI i + 1 = nI (i + 1) from nI_1 i, show nI (n - 1) - nI i = nI (n - 1 - i) from pk_sub (by omega)]
    refine qh_copyO E_J2_fastRemove rfl q957 q742 q741 q113 he1 he1 (nI_pos (by omega)) (nI_pos (by omega)) (nI_pos (by omega)) (by rw [nI_clamp (by omega), nI_clamp (by omega)]; omega) (by rw [nI_clamp (by omega), nI_clamp (by omega)]; omega) (fun j hj y hy => ?_) (Nat.le_of_ble_eq_true rfl) dJ2_fastRemove_31 ?_
    · rw [nI_clamp (by omega)] at hj
      rw [nI_clamp (by omega)] at hy
      exact ((hel _ (by omega) y hy).up hp).A hO
    rw [nI_clamp (by omega), nI_clamp (by omega), nI_clamp (by omega)]
    exact fin _ (by rw [if_pos hlt])
theorem j0_remove {p ea n cap i a : Nat} {m : Int32} {f : Nat → Option Nat} (hO : qc_O g x) (hp : τ p = some (qj_o m ea (nI n))) (he : τ ea = some (qj_a g cap f)) (hi : i < n) (h1 : n ≤ cap) (h2 : cap ≤ 65536) (hel : ∀ j, j < n → ∀ y, f j = some y → qj_E g x τ y) (hf : f i = some a) (hq : Q (.inl (some (.ref a))) (qh_upd (qh_upd τ ea (qj_a g cap (va_up (if i < n - 1 then va_cpy f f (i + 1) i (n - 1 - i) else f) (n - 1) none))) p (qj_o (m + 1) ea (nI (n - 1))))) : qh_S g (d + 2) 0 I_J2_remove [.ref p, .int (nI i)] τ Q := by
  refine qh_S.of (by decide) rfl (ls := [some (.ref p), some (.int (nI i)), none, none]) rfl (Nat.le_of_ble_eq_true rfl) (qm_ct rfl) ?_
  refine qh_iload_n E_J2_remove (by rfl) dJ2_remove_0 ?_
  refine qh_aload_n E_J2_remove (by rfl) dJ2_remove_1 ?_
  refine qh_getf E_J2_remove rfl qj_ck 2 (by decide) q219 hp rfl dJ2_remove_2 ?_
  refine qh_callS (c := 0) (k := 0) (As := [.int (nI i), .int (nI n)]) (rest := []) E_J2_remove rfl M_J10_checkIndex rfl q583 q584 rfl rfl (Nat.le_of_ble_eq_true rfl) dJ2_remove_5 ?_
  refine j0_checkIndex (nI_pos (by omega)) (nI_lt hi (by omega)) ?_
  refine qh_pop E_J2_remove rfl dJ2_remove_8 ?_
  refine qh_aload_n E_J2_remove (by rfl) dJ2_remove_9 ?_
  refine qh_getf E_J2_remove rfl qj_ck 1 (by decide) q218 hp rfl dJ2_remove_10 ?_
  refine qh_astore_n E_J2_remove (by decide) dJ2_remove_13 ?_
  refine qh_aload_n E_J2_remove (by rfl) dJ2_remove_14 ?_
  refine qh_iload_n E_J2_remove (by rfl) dJ2_remove_15 ?_
  refine qh_aald 3 (fun _ => rfl) E_J2_remove he (vp_in_nI (by omega) (by omega)) dJ2_remove_16 ?_
  rw [nI_clamp (by omega), hf]
  refine qh_astore_n (x := a) E_J2_remove (by decide) dJ2_remove_17 ?_
  refine qh_aload_n E_J2_remove (by rfl) dJ2_remove_18 ?_
  refine qh_aload_n E_J2_remove (by rfl) dJ2_remove_19 ?_
  refine qh_iload_n E_J2_remove (by rfl) dJ2_remove_20 ?_
  refine qh_callV (c := 0) (k := 0) (As := [.ref ea, .int (nI i)]) (rest := []) E_J2_remove rfl M_J2_fastRemove rfl q1018 q1020 qs9 rfl rfl hp rfl rfl (Nat.le_of_ble_eq_true rfl) dJ2_remove_21 ?_
  refine j0_fastRemove (d := d + 1) hO hp he hi h1 h2 hel ?_
  refine qh_aload_n E_J2_remove (by rfl) dJ2_remove_24 ?_
  exact qh_aret E_J2_remove rfl (Or.inl ⟨_, rfl⟩) (Or.inr ⟨_, rfl⟩) dJ2_remove_25 hq
end
section
variable {g : qh_G} {x : qc_X} {d : Nat} {h : qc_H} {Q : qh_R → qc_H → Prop}
theorem L_init {p : Nat} {m b : Value} (hO : qc_O g x) (hp : h p = some (.inl (.inr (16, [m, b, .int 0])))) (hq : Q (.inl none) (qc_up h p (.inr []))) : qc_S g x (d + 2) 0 I_J2_init [.ref p] h Q := fun τ hR => by
  exact j0_init hO (hR.obj hp (by decide)) ⟨_, hR.born hp, hq⟩
theorem L_set {p i y z : Nat} {e : qc_E} {xs : List Nat} (hO : qc_O g x) (hl : xs.length < 65536) (hp : h p = some (.inr xs)) (hi : xs[i]? = some z) (hy : h y = some e) (ho : qc_ok g e) (hq : Q (.inl (some (.ref z))) (qc_up h p (.inr (xs.set i y)))) : qc_S g x (d + 2) 0 I_J2_set [.ref p, .int (nI i), .ref y] h Q := fun τ hR => by
  have hil : i < xs.length := (List.getElem?_eq_some_iff.mp hi).1
  have hxs : ∀ z ∈ xs, ∃ e, h z = some e ∧ qc_ok g e := by
    obtain ⟨ow, r1, r2, r3⟩ := hR
    exact (r2 p xs hp).2.1
  obtain ⟨m, ea, cap, f, h1, h2, h3, h4, h5, -⟩ := hR.opn hO hp
  rcases h2 with ⟨e1, -⟩ | ⟨h2, c1, c2, c3⟩
  · omega
  have ne : p ≠ ea := fun z => by rw [z, h2] at h1; cases h1
  refine j0_set hO h1 h2 (nI_pos (by omega)) (nI_lt hil (by omega)) (vp_in_nI (by omega) (by omega)) (a := z) (by rw [nI_clamp (by omega), h3 i hil]; exact hi) (hR.E hy ho) ⟨_, h5 (xs.set i y) _ m (va_up f i (some y)) (fun w hw => ?_) (fun j hj => ?_) ⟨ea, cap, va_up f i (some y), Or.inl ⟨rfl, h2⟩, ?_, c1, by rw [List.length_set]; exact c2, c3, fun _ _ => rfl⟩, hq⟩
  · rcases List.mem_or_eq_of_mem_set hw with q | q
    · exact hxs w q
    · subst q
      exact ⟨e, hy, ho⟩
  · rw [List.length_set] at hj
    unfold va_up
    by_cases n : j = i
    · subst n
      rw [if_pos rfl, List.getElem?_set_self hj]
    · rw [if_neg n, List.getElem?_set_ne (fun q => n q.symm)]
      exact h3 j hj
  · rw [nI_clamp (by omega), List.length_set]
    exact (qj_id (by rw [qh_upd_n ne]; exact h1)).symm
theorem L_remove {p i z : Nat} {xs : List Nat} (hO : qc_O g x) (hl : xs.length < 65536) (hp : h p = some (.inr xs)) (hi : xs[i]? = some z) (hq : Q (.inl (some (.ref z))) (qc_up h p (.inr (xs.eraseIdx i)))) : qc_S g x (d + 2) 0 I_J2_remove [.ref p, .int (nI i)] h Q := fun τ hR => by
  have hil : i < xs.length := (List.getElem?_eq_some_iff.mp hi).1
  have hxs : ∀ z ∈ xs, ∃ e, h z = some e ∧ qc_ok g e := by
    obtain ⟨ow, r1, r2, r3⟩ := hR
    exact (r2 p xs hp).2.1
  obtain ⟨m, ea, cap, f, h1, h2, h3, h4, h5, -⟩ := hR.opn hO hp
  rcases h2 with ⟨e1, -⟩ | ⟨h2, c1, c2, c3⟩
  · omega
  have hlen : (xs.eraseIdx i).length = xs.length - 1 := List.length_eraseIdx_of_lt hil
  refine j0_remove hO h1 h2 hil c2 c3 (fun j hj y hy => ?_) ((h3 i hil).trans hi) ⟨_, h5 (xs.eraseIdx i) _ (m + 1) (va_up (if i < xs.length - 1 then va_cpy f f (i + 1) i (xs.length - 1 - i) else f) (xs.length - 1) none) (fun w hw => hxs w (List.mem_of_mem_eraseIdx hw)) (fun j hj => ?_) ⟨ea, cap, _, Or.inl ⟨rfl, h2⟩, by rw [hlen], c1, by rw [hlen]; omega, c3, fun _ _ => rfl⟩, hq⟩
  · rw [h3 j hj] at hy
    exact h4 y (List.mem_of_getElem? hy)
  · rw [hlen] at hj
    rw [List.getElem?_eraseIdx]
    unfold va_up
    rw [if_neg (by omega)]
    by_cases n : i < xs.length - 1
    · rw [if_pos n]
      unfold va_cpy
      by_cases n2 : j < i
      · rw [if_neg (by omega), if_pos n2]
        exact h3 j (by omega)
      · rw [if_pos (by omega), if_neg n2, show i + 1 + (j - i) = j + 1 by omega]
        exact h3 (j + 1) (by omega)
    · rw [if_neg n, if_pos (by omega)]
      exact h3 j (by omega)
end
