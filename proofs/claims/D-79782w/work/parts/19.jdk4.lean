/-! JDK 4: ArrayList.add(E), over level 0 and over level 1 -/
set_option maxRecDepth 100000
theorem sb_cpy0' {f h : Nat → Option Nat} {n j : Nat} (hj : j < n) : va_cpy f h 0 0 n j = f j := by
  unfold va_cpy
  rw [if_pos ⟨Nat.zero_le _, by omega⟩]
  congr 1
  omega
theorem qj_n1 {τ : qh_H} {a p : Nat} {A A' P P' : va_E} : qh_upd (qh_upd (qh_upd (qh_upd τ a A) p P) a A') p P' = qh_upd (qh_upd τ a A') p P' := by
  funext b
  by_cases h : b = p
  · rw [h, qh_upd_s, qh_upd_s]
  · rw [qh_upd_n h, qh_upd_n h]
    by_cases h2 : b = a
    · rw [h2, qh_upd_s, qh_upd_s]
    · rw [qh_upd_n h2, qh_upd_n h, qh_upd_n h2, qh_upd_n h2]
theorem qj_n2 {τ : qh_H} {a p : Nat} {A P P' : va_E} : qh_upd (qh_upd (qh_upd τ p P) a A) p P' = qh_upd (qh_upd τ a A) p P' := by
  funext b
  by_cases h : b = p
  · rw [h, qh_upd_s, qh_upd_s]
  · rw [qh_upd_n h, qh_upd_n h]
    by_cases h2 : b = a
    · rw [h2, qh_upd_s, qh_upd_s]
    · rw [qh_upd_n h2, qh_upd_n h, qh_upd_n h2]
theorem qj_sw {τ : qh_H} {a p : Nat} {A P : va_E} (n : p ≠ a) : qh_upd (qh_upd τ p P) a A = qh_upd (qh_upd τ a A) p P := by
  funext b
  by_cases h : b = p
  · rw [h, qh_upd_s, qh_upd_n n, qh_upd_s]
  · rw [qh_upd_n h]
    by_cases h2 : b = a
    · rw [h2, qh_upd_s, qh_upd_s]
    · rw [qh_upd_n h2, qh_upd_n h, qh_upd_n h2]
section
variable {g : qh_G} {x : qc_X} {d : Nat} {τ : qh_H} {Q : qh_R → qh_H → Prop}
/-- add(e, elementData, s): there is room -/
theorem j0_add3R {p ea n cap y : Nat} {m : Int32} {f : Nat → Option Nat} (hO : qc_O g x) (hp : τ p = some (qj_o m ea (nI n))) (he : τ ea = some (qj_a g cap f)) (h1 : n < cap) (h2 : cap ≤ 65536) (hy : qj_E g x τ y) (hq : Q (.inl none) (qh_upd (qh_upd τ ea (qj_a g cap (va_up f n (some y)))) p (qj_o m ea (nI (n + 1))))) : qh_S g (d + 4) 0 I_J2_add_3 [.ref p, .ref y, .ref ea, .int (nI n)] τ Q := by
  have hn : (nI n).toNatClampNeg = n := nI_clamp (by omega)
  have ne : p ≠ ea := fun z => by rw [z, he] at hp; cases hp
  refine qh_S.of (by decide) rfl (ls := [some (.ref p), some (.ref y), some (.ref ea), some (.int (nI n))]) rfl (Nat.le_of_ble_eq_true rfl) (qm_ct rfl) ?_
  refine qh_iload_n E_J2_add_3 (by rfl) dJ2_add_3_0 ?_
  refine qh_aload_n E_J2_add_3 (by rfl) dJ2_add_3_1 ?_
  refine qh_alen (t := 0) E_J2_add_3 3 (fun _ => rfl) he dJ2_add_3_2 ?_
  refine qh_icmp_ne E_J2_add_3 11 dJ2_add_3_3 (by decide) (fun _ => ?_) (fun q => absurd ((nI_eq (by omega) (by omega)).mp q) (by omega))
  refine qh_aload_n E_J2_add_3 (by rfl) dJ2_add_3_11 ?_
  refine qh_iload_n E_J2_add_3 (by rfl) dJ2_add_3_12 ?_
  refine qh_aload_n E_J2_add_3 (by rfl) dJ2_add_3_13 ?_
  refine qh_aastO E_J2_add_3 he (hy.A hO) (vp_in_nI h1 (by omega)) dJ2_add_3_14 ?_
  rw [hn]
  refine qh_aload_n E_J2_add_3 (by rfl) dJ2_add_3_15 ?_
  refine qh_iload_n E_J2_add_3 (by rfl) dJ2_add_3_16 ?_
  refine qh_iconst E_J2_add_3 1 (by decide) dJ2_add_3_17 ?_
  refine qh_iadd E_J2_add_3 dJ2_add_3_18 ?_
  refine qh_putf E_J2_add_3 rfl qj_ck 2 (by decide) q219 rfl rfl rfl (by rw [qh_upd_n ne]; exact hp) (Nat.le_of_ble_eq_true rfl) dJ2_add_3_19 ?_
  exact qh_vret E_J2_add_3 rfl dJ2_add_3_22 (by rw [show nI n + 1 = nI (n + 1) from nI_1 n]; exact hq)
/-- the first element -/
theorem j0_add3E {p y : Nat} {m : Int32} (hO : qc_O g x) (hp : τ p = some (qj_o m x.1 (nI 0))) (hy : qj_E g x τ y) (hq : ∀ a, τ a = none → g.2.2.1 a → Q (.inl none) (qh_upd (qh_upd τ a (qj_a g 10 (va_up (fun _ => none) 0 (some y)))) p (qj_o m a (nI 1)))) : qh_S g (d + 4) 11 I_J2_add_3 [.ref p, .ref y, .ref x.1, .int (nI 0)] τ Q := by
  refine qh_S.of (by decide) rfl (ls := [some (.ref p), some (.ref y), some (.ref x.1), some (.int (nI 0))]) rfl (Nat.le_of_ble_eq_true rfl) (qm_ct rfl) ?_
  refine qh_iload_n E_J2_add_3 (by rfl) dJ2_add_3_0 ?_
  refine qh_aload_n E_J2_add_3 (by rfl) dJ2_add_3_1 ?_
  refine qh_tlen E_J2_add_3 hO.2.2.2.1 dJ2_add_3_2 ?_
  refine qh_icmp_ne E_J2_add_3 11 dJ2_add_3_3 (by decide) (fun q => absurd rfl q) (fun _ => ?_)
  refine qh_aload_n E_J2_add_3 (by rfl) dJ2_add_3_6 ?_
  refine qh_wp.cost (c' := 0 + 11) (by omega) ?_
  refine qh_callV (c := 0) (k := 11) (As := []) (rest := []) E_J2_add_3 rfl M_J2_grow rfl q907 q909 qs4 rfl rfl hp rfl rfl (Nat.le_of_ble_eq_true rfl) dJ2_add_3_7 ?_
  refine j0_growE hO hp (fun a ha hA => ?_)
  have ne : a ≠ p := fun z => by rw [← z, ha] at hp; cases hp
  have he : qh_upd (qh_upd τ a (qj_a g 10 (fun _ => none))) p (qj_o m a (nI 0)) a = some (qj_a g 10 (fun _ => none)) := by rw [qh_upd_n ne, qh_upd_s]
  refine qh_astore_n E_J2_add_3 (by decide) dJ2_add_3_10 ?_
  refine qh_aload_n E_J2_add_3 (by rfl) dJ2_add_3_11 ?_
  refine qh_iload_n E_J2_add_3 (by rfl) dJ2_add_3_12 ?_
  refine qh_aload_n E_J2_add_3 (by rfl) dJ2_add_3_13 ?_
  refine qh_aastO E_J2_add_3 he (((hy.new ha).up (a := p) (by rw [qh_upd_n ne.symm]; exact hp)).A hO) (vp_in_nI (n := 0) (N := 10) (by omega) (by omega)) dJ2_add_3_14 ?_
  refine qh_aload_n E_J2_add_3 (by rfl) dJ2_add_3_15 ?_
  refine qh_iload_n E_J2_add_3 (by rfl) dJ2_add_3_16 ?_
  refine qh_iconst E_J2_add_3 1 (by decide) dJ2_add_3_17 ?_
  refine qh_iadd E_J2_add_3 dJ2_add_3_18 ?_
  refine qh_putf E_J2_add_3 rfl qj_ck 2 (by decide) q219 rfl rfl rfl (by rw [qh_upd_n ne.symm, qh_upd_s]) (Nat.le_of_ble_eq_true rfl) dJ2_add_3_19 ?_
  exact qh_vret E_J2_add_3 rfl dJ2_add_3_22 (by
    have := hq a ha hA
    rw [← qj_n1 (A := qj_a g 10 (fun _ => none)) (P := qj_o m a (nI 0))] at this
    exact this)
/-- a full array -/
theorem j0_add3F {p ea n y : Nat} {m : Int32} {f : Nat → Option Nat} (hO : qc_O g x) (hp : τ p = some (qj_o m ea (nI n))) (he : τ ea = some (qj_a g n f)) (hel : ∀ i, i < n → ∀ y, f i = some y → qj_E g x τ y) (h1 : 10 ≤ n) (h2 : n ≤ 40000) (hy : qj_E g x τ y) (hq : ∀ a, τ a = none → g.2.2.1 a → Q (.inl none) (qh_upd (qh_upd τ a (qj_a g (n + n / 2) (va_up (va_cpy f (fun _ => none) 0 0 n) n (some y)))) p (qj_o m a (nI (n + 1))))) : qh_S g (d + 4) (n + n / 2 + 1) I_J2_add_3 [.ref p, .ref y, .ref ea, .int (nI n)] τ Q := by
  have hn : (nI n).toNatClampNeg = n := nI_clamp (by omega)
  refine qh_S.of (by decide) rfl (ls := [some (.ref p), some (.ref y), some (.ref ea), some (.int (nI n))]) rfl (Nat.le_of_ble_eq_true rfl) (qm_ct rfl) ?_
  refine qh_iload_n E_J2_add_3 (by rfl) dJ2_add_3_0 ?_
  refine qh_aload_n E_J2_add_3 (by rfl) dJ2_add_3_1 ?_
  refine qh_alen (t := 0) E_J2_add_3 3 (fun _ => rfl) he dJ2_add_3_2 ?_
  refine qh_icmp_ne E_J2_add_3 11 dJ2_add_3_3 (by decide) (fun q => absurd rfl q) (fun _ => ?_)
  refine qh_aload_n E_J2_add_3 (by rfl) dJ2_add_3_6 ?_
  refine qh_wp.cost (c' := 0 + (n + n / 2 + 1)) (by omega) ?_
  refine qh_callV (c := 0) (k := (n+n/2+1)) (As := []) (rest := []) E_J2_add_3 rfl M_J2_grow rfl q907 q909 qs4 rfl rfl hp rfl rfl (Nat.le_of_ble_eq_true rfl) dJ2_add_3_7 ?_
  refine j0_growF hO hp he hel h1 h2 (fun a ha hA => ?_)
  have ne : a ≠ p := fun z => by rw [← z, ha] at hp; cases hp
  have he1 : qh_upd (qh_upd τ a (qj_a g (n + n / 2) (va_cpy f (fun _ => none) 0 0 n))) p (qj_o m a (nI n)) a = some (qj_a g (n + n / 2) (va_cpy f (fun _ => none) 0 0 n)) := by rw [qh_upd_n ne, qh_upd_s]
  refine qh_astore_n E_J2_add_3 (by decide) dJ2_add_3_10 ?_
  refine qh_aload_n E_J2_add_3 (by rfl) dJ2_add_3_11 ?_
  refine qh_iload_n E_J2_add_3 (by rfl) dJ2_add_3_12 ?_
  refine qh_aload_n E_J2_add_3 (by rfl) dJ2_add_3_13 ?_
  refine qh_aastO E_J2_add_3 he1 (((hy.new ha).up (a := p) (by rw [qh_upd_n ne.symm]; exact hp)).A hO) (vp_in_nI (n := n) (N := n + n / 2) (by omega) (by omega)) dJ2_add_3_14 ?_
  rw [hn]
  refine qh_aload_n E_J2_add_3 (by rfl) dJ2_add_3_15 ?_
  refine qh_iload_n E_J2_add_3 (by rfl) dJ2_add_3_16 ?_
  refine qh_iconst E_J2_add_3 1 (by decide) dJ2_add_3_17 ?_
  refine qh_iadd E_J2_add_3 dJ2_add_3_18 ?_
  refine qh_putf E_J2_add_3 rfl qj_ck 2 (by decide) q219 rfl rfl rfl (by rw [qh_upd_n ne.symm, qh_upd_s]) (Nat.le_of_ble_eq_true rfl) dJ2_add_3_19 ?_
  exact qh_vret E_J2_add_3 rfl dJ2_add_3_22 (by
    have := hq a ha hA
    rw [← qj_n1 (A := qj_a g (n + n / 2) (va_cpy f (fun _ => none) 0 0 n)) (P := qj_o m a (nI n)), ← nI_1 n] at this
    exact this)
/-- what an add leaves: the same array or a new one -/
def qj_Z (g : qh_G) (x : qc_X) (τ : qh_H) (p ea n cap : Nat) (f : Nat → Option Nat) (m' : Int32) (f1 : Nat → Option Nat) (k : Nat) (t : qh_H) : Prop := ∃ (ea' cap' : Nat) (f' : Nat → Option Nat), ((ea' = ea ∧ τ ea = some (qj_a g cap f)) ∨ (τ ea' = none ∧ g.2.2.1 ea')) ∧ t = qh_upd (qh_upd τ ea' (qj_a g cap' f')) p (qj_o m' ea' (nI k)) ∧ 10 ≤ cap' ∧ k ≤ cap' ∧ cap' ≤ 65536 ∧ ∀ i, i < k → f' i = f1 i
theorem j0_add2 {p ea n cap y : Nat} {m : Int32} {f : Nat → Option Nat} (hO : qc_O g x) (hp : τ p = some (qj_o m ea (nI n))) (he : (n = 0 ∧ ea = x.1) ∨ (τ ea = some (qj_a g cap f) ∧ 10 ≤ cap ∧ n ≤ cap ∧ cap ≤ 65536)) (hel : ∀ i, i < n → ∀ y, f i = some y → qj_E g x τ y) (h2 : n ≤ 40000) (hy : qj_E g x τ y) (hq : ∀ t, qj_Z g x τ p ea n cap f (m + 1) (va_up f n (some y)) (n + 1) t → Q (.inl (some (.int 1))) t) : qh_S g (d + 5) (n + n / 2 + 11) I_J2_add_2 [.ref p, .ref y] τ Q := by
  refine qh_S.of (by decide) rfl (ls := [some (.ref p), some (.ref y)]) rfl (Nat.le_of_ble_eq_true rfl) (qm_ct rfl) ?_
  refine qh_aload_n E_J2_add_2 (by rfl) dJ2_add_2_0 ?_
  refine qh_dup E_J2_add_2 rfl dJ2_add_2_1 ?_
  refine qh_getfS E_J2_add_2 rfl qj_ck 0 (by decide) q221 q222 hp rfl dJ2_add_2_2 ?_
  refine qh_iconst E_J2_add_2 1 (by decide) dJ2_add_2_5 ?_
  refine qh_iadd E_J2_add_2 dJ2_add_2_6 ?_
  refine qh_putfS E_J2_add_2 rfl qj_ck 0 (by decide) q221 q222 rfl rfl rfl hp (Nat.le_of_ble_eq_true rfl) dJ2_add_2_7 ?_
  have hp1 : qh_upd τ p (qj_o (m + 1) ea (nI n)) p = some (qj_o (m + 1) ea (nI n)) := qh_upd_s
  refine qh_aload_n E_J2_add_2 (by rfl) dJ2_add_2_10 ?_
  refine qh_aload_n E_J2_add_2 (by rfl) dJ2_add_2_11 ?_
  refine qh_aload_n E_J2_add_2 (by rfl) dJ2_add_2_12 ?_
  refine qh_getf E_J2_add_2 rfl qj_ck 1 (by decide) q218 hp1 rfl dJ2_add_2_13 ?_
  refine qh_aload_n E_J2_add_2 (by rfl) dJ2_add_2_16 ?_
  refine qh_getf E_J2_add_2 rfl qj_ck 2 (by decide) q219 hp1 rfl dJ2_add_2_17 ?_
  rcases he with ⟨rfl, rfl⟩ | ⟨he, c1, c2, c3⟩
  · refine qh_wp.cost (c' := 0 + 11) (by omega) ?_
    refine qh_callV (c := 0) (k := 11) (As := [.ref y, .ref x.1, .int (nI 0)]) (rest := []) E_J2_add_2 rfl M_J2_add_3 rfl q986 q988 qs7 rfl rfl hp1 rfl rfl (Nat.le_of_ble_eq_true rfl) dJ2_add_2_20 ?_
    refine j0_add3E hO hp1 (hy.up hp) (fun a ha hA => ?_)
    refine qh_iconst E_J2_add_2 1 (by decide) dJ2_add_2_23 ?_
    refine qh_zret E_J2_add_2 rfl rfl dJ2_add_2_24 (hq _ ?_)
    have na : p ≠ a := fun z => by rw [← z, qh_upd_s] at ha; cases ha
    rw [qh_upd_n na.symm] at ha
    exact ⟨a, 10, _, Or.inr ⟨ha, hA⟩, qj_n2, by omega, by omega, by omega, fun i hi => by
      have : i = 0 := by omega
      subst this
      simp [va_up]⟩
  · have ne : p ≠ ea := fun z => by rw [z, he] at hp; cases hp
    have he1 : qh_upd τ p (qj_o (m + 1) ea (nI n)) ea = some (qj_a g cap f) := by rw [qh_upd_n ne.symm]; exact he
    rcases Nat.lt_or_ge n cap with hlt | hge
    · refine qh_wp.cost (c' := 0 + 0) (by omega) ?_
      refine qh_callV (c := 0) (k := 0) (As := [.ref y, .ref ea, .int (nI n)]) (rest := []) E_J2_add_2 rfl M_J2_add_3 rfl q986 q988 qs7 rfl rfl hp1 rfl rfl (Nat.le_of_ble_eq_true rfl) dJ2_add_2_20 ?_
      refine j0_add3R hO hp1 he1 hlt c3 (hy.up hp) ?_
      refine qh_iconst E_J2_add_2 1 (by decide) dJ2_add_2_23 ?_
      refine qh_zret E_J2_add_2 rfl rfl dJ2_add_2_24 (hq _ ?_)
      exact ⟨ea, cap, _, Or.inl ⟨rfl, he⟩, qj_n2, c1, by omega, c3, fun i hi => rfl⟩
    · have hcap : cap = n := by omega
      subst hcap
      refine qh_wp.cost (c' := 0 + (cap + cap / 2 + 1)) (by omega) ?_
      refine qh_callV (c := 0) (k := (cap+cap/2+1)) (As := [.ref y, .ref ea, .int (nI cap)]) (rest := []) E_J2_add_2 rfl M_J2_add_3 rfl q986 q988 qs7 rfl rfl hp1 rfl rfl (Nat.le_of_ble_eq_true rfl) dJ2_add_2_20 ?_
      refine j0_add3F hO hp1 he1 (fun i hi z hz => (hel i hi z hz).up hp) c1 h2 (hy.up hp) (fun a ha hA => ?_)
      refine qh_iconst E_J2_add_2 1 (by decide) dJ2_add_2_23 ?_
      refine qh_zret E_J2_add_2 rfl rfl dJ2_add_2_24 (hq _ ?_)
      have na : p ≠ a := fun z => by rw [← z, qh_upd_s] at ha; cases ha
      rw [qh_upd_n na.symm] at ha
      refine ⟨a, cap + cap / 2, _, Or.inr ⟨ha, hA⟩, qj_n2, by omega, by omega, by omega, fun i hi => ?_⟩
      unfold va_up
      by_cases hi2 : i = cap
      · rw [if_pos hi2, if_pos hi2]
      · rw [if_neg hi2, if_neg hi2]
        exact sb_cpy0' (by omega)
end
