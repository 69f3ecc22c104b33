/-! JDK 7: add(int, E), clear over level 1; Integer.valueOf, intValue -/
set_option maxRecDepth 100000
def I_J20_init : qh_I := (yJ20_init, cJ20_init, 1, (Option.none : Option Jvm.ClassFile.FieldType), [])
theorem E_J20_init : I_J20_init.2.1 = cJ20_init := rfl
theorem M_J20_init : qh_M I_J20_init 0 := ⟨by decide, by decide, by decide +kernel, q115, q976, by decide⟩
def I_J21_init : qh_I := (yJ21_init, cJ21_init, 2, (Option.none : Option Jvm.ClassFile.FieldType), [])
theorem E_J21_init : I_J21_init.2.1 = cJ21_init := rfl
theorem M_J21_init : qh_M I_J21_init 1 := ⟨by decide, by decide, by decide +kernel, q116, q973, by decide⟩
def I_J21_valueOf : qh_I := (yJ21_valueOf, cJ21_valueOf, 1, (Option.some (Jvm.ClassFile.FieldType.object "java/lang/Integer")), [])
theorem E_J21_valueOf : I_J21_valueOf.2.1 = cJ21_valueOf := rfl
theorem M_J21_valueOf : qh_M I_J21_valueOf 1 := ⟨by decide, by decide, by decide +kernel, q116, q964, by decide⟩
def I_J21_intValue : qh_I := (yJ21_intValue, cJ21_intValue, 1, (Option.some Jvm.ClassFile.FieldType.int), [])
theorem E_J21_intValue : I_J21_intValue.2.1 = cJ21_intValue := rfl
theorem M_J21_intValue : qh_M I_J21_intValue 0 := ⟨by decide, by decide, by decide +kernel, q116, q1162, by decide⟩
theorem qh_dom {g : qh_G} {d c : Nat} {I : qh_I} {pc : Nat} {ls : List (Option Value)} {st : List Value} {τ : qh_H} {Q : qh_R → qh_H → Prop} (k : (∀ a e, τ a = some e → g.2.2.1 a) → qh_wp g d c I pc ls st τ Q) : qh_wp g d c I pc ls st τ Q := by
  intro p e0 s m args below meth cd lsA ws H locs cells slots mc C hl hc hT hP hD hS h1 h2
  exact k (fun a e ha => by obtain ⟨j, hj⟩ := hT a e ha; exact hD.2 j _ hj) p e0 s m args below meth cd lsA ws H locs cells slots mc C hl hc hT hP hD hS h1 h2
section
variable {g : qh_G} {x : qc_X} {d : Nat} {τ : qh_H} {Q : qh_R → qh_H → Prop}
theorem j0_rangeAdd {p : Nat} {a b : Value} {n i : Int32} (hp : τ p = some (.inr (16, [a, b, .int n]))) (h1 : i ≤ n) (h2 : 0 ≤ i) (hq : Q (.inl none) τ) : qh_S g d 0 I_J2_rangeCheckForAdd [.ref p, .int i] τ Q := by
  refine qh_S.of (by decide) rfl (ls := [some (.ref p), some (.int i)]) rfl (Nat.le_of_ble_eq_true rfl) (qm_ct rfl) ?_
  refine qh_iload_n E_J2_rangeCheckForAdd (by rfl) dJ2_rangeCheckForAdd_0 ?_
  refine qh_aload_n E_J2_rangeCheckForAdd (by rfl) dJ2_rangeCheckForAdd_1 ?_
  refine qh_getf E_J2_rangeCheckForAdd rfl qj_ck 2 (by decide) q219 hp rfl dJ2_rangeCheckForAdd_2 ?_
  refine qh_icmp_gt E_J2_rangeCheckForAdd 12 dJ2_rangeCheckForAdd_5 (by decide) (fun q => absurd h1 (Int32.not_le.mpr q)) (fun _ => ?_)
  refine qh_iload_n E_J2_rangeCheckForAdd (by rfl) dJ2_rangeCheckForAdd_8 ?_
  refine qh_if_ge E_J2_rangeCheckForAdd 25 dJ2_rangeCheckForAdd_9 (by decide) (fun _ => ?_) (fun q => absurd h2 q)
  exact qh_vret E_J2_rangeCheckForAdd rfl dJ2_rangeCheckForAdd_25 hq
theorem j0_addT {p ea n cap i y : Nat} {m : Int32} {f : Nat → Option Nat} (hO : qc_O g x) (hp : τ p = some (qj_o m ea (nI n))) (he : τ ea = some (qj_a g cap f)) (hi : i ≤ n) (h1 : n < cap) (h2 : cap ≤ 65536) (hel : ∀ j, j < n → ∀ z, f j = some z → qj_E g x τ z) (hy : qj_E g x τ y) (hq : Q (.inl none) (qh_upd (qh_upd τ ea (qj_a g cap (va_up (va_cpy f f i (i + 1) (n - i)) i (some y)))) p (qj_o m ea (nI (n + 1))))) : qh_wp g d 0 I_J2_add 38 [some (.ref p), some (.int (nI i)), some (.ref y), some (.int (nI n)), some (.ref ea)] [] τ Q := by
  have ne : p ≠ ea := fun z => by rw [z, he] at hp; cases hp
  refine qh_aload E_J2_add (by rfl) dJ2_add_38 ?_
  refine qh_iload_n E_J2_add (by rfl) dJ2_add_40 ?_
  refine qh_aload E_J2_add (by rfl) dJ2_add_41 ?_
  refine qh_iload_n E_J2_add (by rfl) dJ2_add_43 ?_
  refine qh_iconst E_J2_add 1 (by decide) dJ2_add_44 ?_
  refine qh_iadd E_J2_add dJ2_add_45 ?_
  refine qh_iload_n E_J2_add (by rfl) dJ2_add_46 ?_
  refine qh_iload_n E_J2_add (by rfl) dJ2_add_47 ?_
  refine qh_isub E_J2_add dJ2_add_48 ?_
  rw [show nI i + 1 = nI (i + 1) from nI_1 i, show nI n - nI i = nI (n - i) from pk_sub hi]
  refine qh_copyO E_J2_add rfl q957 q742 q741 q113 he he (nI_pos (by omega)) (nI_pos (by omega)) (nI_pos (by omega)) (by rw [nI_clamp (by omega), nI_clamp (by omega)]; omega) (by rw [nI_clamp (by omega), nI_clamp (by omega)]; omega) (fun j hj z hz => ?_) (Nat.le_of_ble_eq_true rfl) dJ2_add_49 ?_
  · rw [nI_clamp (by omega)] at hj
    rw [nI_clamp (by omega)] at hz
    exact (hel _ (by omega) z hz).A hO
  rw [nI_clamp (by omega), nI_clamp (by omega), nI_clamp (by omega)]
  have hy1 : qj_E g x (qh_upd τ ea (qj_a g cap (va_cpy f f i (i + 1) (n - i)))) y := by
    rcases hy with ⟨c2, f2, h, hc⟩ | ⟨z, h⟩ | h
    · refine Or.inl ⟨c2, f2, ?_, hc⟩
      rw [qh_upd_n (fun z => by rw [z, he] at h; cases h)]
      exact h
    · by_cases n9 : y = ea
      · subst n9
        rw [he] at h
        have h8 := (Prod.mk.inj (Sum.inl.inj (Option.some.inj h))).1
        refine Or.inr (Or.inl ⟨(cap, .inr (.inr (.inr (.inr (va_cpy f f i (i + 1) (n - i)))))), ?_⟩)
        rw [qh_upd_s]
        show some (Sum.inl (g.2.2.2.1 3, _)) = _
        rw [h8]
      · exact Or.inr (Or.inl ⟨z, by rw [qh_upd_n n9]; exact h⟩)
    · exact Or.inr (Or.inr h)
  refine qh_aload E_J2_add (by rfl) dJ2_add_52 ?_
  refine qh_iload_n E_J2_add (by rfl) dJ2_add_54 ?_
  refine qh_aload_n E_J2_add (by rfl) dJ2_add_55 ?_
  refine qh_aastO E_J2_add (n := cap) (f := va_cpy f f i (i + 1) (n - i)) qh_upd_s (hy1.A hO) (vp_in_nI (by omega) (by omega)) dJ2_add_56 ?_
  rw [nI_clamp (by omega), qh_uu]
  refine qh_aload_n E_J2_add (by rfl) dJ2_add_57 ?_
  refine qh_iload_n E_J2_add (by rfl) dJ2_add_58 ?_
  refine qh_iconst E_J2_add 1 (by decide) dJ2_add_59 ?_
  refine qh_iadd E_J2_add dJ2_add_60 ?_
  refine qh_putf E_J2_add rfl qj_ck 2 (by decide) q219 rfl rfl rfl (by rw [qh_upd_n ne]; exact hp) (Nat.le_of_ble_eq_true rfl) dJ2_add_61 ?_
  exact qh_vret E_J2_add rfl dJ2_add_64 (by rw [show nI n + 1 = nI (n + 1) from nI_1 n]; exact hq)
theorem j0_addI {p ea n cap i y : Nat} {m : Int32} {f : Nat → Option Nat} (hO : qc_O g x) (hp : τ p = some (qj_o m ea (nI n))) (he : (n = 0 ∧ ea = x.1) ∨ (τ ea = some (qj_a g cap f) ∧ 10 ≤ cap ∧ n ≤ cap ∧ cap ≤ 65536)) (hel : ∀ i, i < n → ∀ y, f i = some y → qj_E g x τ y) (h2 : n ≤ 40000) (hi : i ≤ n) (hy : qj_E g x τ y) (hq : ∀ t, qj_Z g x τ p ea n cap f (m + 1) (va_up (va_cpy f f i (i + 1) (n - i)) i (some y)) (n + 1) t → Q (.inl none) t) : qh_S g (d + 5) (n + n / 2 + 11) I_J2_add [.ref p, .int (nI i), .ref y] τ Q := by
  refine qh_S.of (by decide) rfl (ls := [some (.ref p), some (.int (nI i)), some (.ref y), none, none]) rfl (Nat.le_of_ble_eq_true rfl) (qm_ct rfl) ?_
  refine qh_aload_n E_J2_add (by rfl) dJ2_add_0 ?_
  refine qh_iload_n E_J2_add (by rfl) dJ2_add_1 ?_
  refine qh_callV (c := (n+n/2+11)) (k := 0) (As := [.int (nI i)]) (rest := []) E_J2_add rfl M_J2_rangeCheckForAdd rfl q660 q662 qs2 rfl rfl hp rfl rfl (Nat.le_of_ble_eq_true rfl) dJ2_add_2 ?_
  refine j0_rangeAdd (d := d + 4) hp (nI_le hi (by omega)) (nI_pos' (by omega)) ?_
  refine qh_aload_n E_J2_add (by rfl) dJ2_add_5 ?_
  refine qh_dup E_J2_add rfl dJ2_add_6 ?_
  refine qh_getfS E_J2_add rfl qj_ck 0 (by decide) q221 q222 hp rfl dJ2_add_7 ?_
  refine qh_iconst E_J2_add 1 (by decide) dJ2_add_10 ?_
  refine qh_iadd E_J2_add dJ2_add_11 ?_
  refine qh_putfS E_J2_add rfl qj_ck 0 (by decide) q221 q222 rfl rfl rfl hp (Nat.le_of_ble_eq_true rfl) dJ2_add_12 ?_
  have hp1 : qh_upd τ p (qj_o (m + 1) ea (nI n)) p = some (qj_o (m + 1) ea (nI n)) := qh_upd_s
  refine qh_aload_n E_J2_add (by rfl) dJ2_add_15 ?_
  refine qh_getf E_J2_add rfl qj_ck 2 (by decide) q219 hp1 rfl dJ2_add_16 ?_
  refine qh_dup E_J2_add rfl dJ2_add_19 ?_
  refine qh_istore_n E_J2_add (by decide) dJ2_add_20 ?_
  refine qh_aload_n E_J2_add (by rfl) dJ2_add_21 ?_
  refine qh_getf E_J2_add rfl qj_ck 1 (by decide) q218 hp1 rfl dJ2_add_22 ?_
  refine qh_dup E_J2_add rfl dJ2_add_25 ?_
  refine qh_astore E_J2_add (by decide) dJ2_add_26 ?_
  rcases he with ⟨rfl, rfl⟩ | ⟨he, c1, c2, c3⟩
  · refine qh_tlen E_J2_add hO.2.2.2.1 dJ2_add_28 ?_
    refine qh_icmp_ne E_J2_add 38 dJ2_add_29 (by decide) (fun q => absurd rfl q) (fun _ => ?_)
    refine qh_aload_n E_J2_add (by rfl) dJ2_add_32 ?_
    refine qh_wp.cost (c' := 0 + 11) (by omega) ?_
    refine qh_callV (c := 0) (k := 11) (As := []) (rest := []) E_J2_add rfl M_J2_grow rfl q907 q909 qs4 rfl rfl hp1 rfl rfl (Nat.le_of_ble_eq_true rfl) dJ2_add_33 ?_
    refine j0_growE (d := d + 1) hO hp1 (fun a ha hA => ?_)
    have na : p ≠ a := fun z => by rw [← z, qh_upd_s] at ha; cases ha
    refine qh_astore (x := a) E_J2_add (by decide) dJ2_add_36 ?_
    have hi0 : i = 0 := by omega
    subst hi0
    have hτ : qh_upd (qh_upd (qh_upd τ p (qj_o (m + 1) x.1 (nI 0))) a (qj_a g 10 (fun _ => none))) p (qj_o (m + 1) a (nI 0)) a = some (qj_a g 10 (fun _ => none)) := by rw [qh_upd_n na.symm, qh_upd_s]
    refine j0_addT (n := 0) (i := 0) (cap := 10) hO qh_upd_s hτ (by omega) (by omega) (by omega) (fun j hj => absurd hj (Nat.not_lt_zero _)) (((hy.up hp).new ha).up (a := p) (by rw [qh_upd_n na, qh_upd_s])) (hq _ ?_)
    rw [qh_upd_n na.symm] at ha
    refine ⟨a, 10, va_up (va_cpy (fun _ => none) (fun _ => none) 0 (0 + 1) (0 - 0)) 0 (some y), Or.inr ⟨ha, hA⟩, ?_, by omega, by omega, by omega, fun j hj => ?_⟩
    · rw [qj_n1, qj_n2]
    · have : j = 0 := by omega
      subst this
      simp [va_up]
  · have ne : p ≠ ea := fun z => by rw [z, he] at hp; cases hp
    have he1 : qh_upd τ p (qj_o (m + 1) ea (nI n)) ea = some (qj_a g cap f) := by rw [qh_upd_n ne.symm]; exact he
    refine qh_alen (t := 0) E_J2_add 3 (fun _ => rfl) he1 dJ2_add_28 ?_
    rcases Nat.lt_or_ge n cap with hlt | hge
    · refine qh_icmp_ne E_J2_add 38 dJ2_add_29 (by decide) (fun _ => ?_) (fun q => absurd ((nI_eq (by omega) (by omega)).mp q) (by omega))
      refine qh_wp.cost (c' := 0) (by omega) ?_
      refine j0_addT hO hp1 he1 hi hlt c3 (fun j hj z hz => (hel j hj z hz).up hp) (hy.up hp) (hq _ ?_)
      exact ⟨ea, cap, _, Or.inl ⟨rfl, he⟩, qj_n2, c1, by omega, c3, fun _ _ => rfl⟩
    · have hcap : cap = n := by omega
      subst hcap
      refine qh_icmp_ne E_J2_add 38 dJ2_add_29 (by decide) (fun q => absurd rfl q) (fun _ => ?_)
      refine qh_aload_n E_J2_add (by rfl) dJ2_add_32 ?_
      refine qh_wp.cost (c' := 0 + (cap + cap / 2 + 1)) (by omega) ?_
      refine qh_callV (c := 0) (k := (cap+cap/2+1)) (As := []) (rest := []) E_J2_add rfl M_J2_grow rfl q907 q909 qs4 rfl rfl hp1 rfl rfl (Nat.le_of_ble_eq_true rfl) dJ2_add_33 ?_
      refine j0_growF (d := d + 1) hO hp1 he1 (fun j hj z hz => (hel j hj z hz).up hp) c1 h2 (fun a ha hA => ?_)
      have na : p ≠ a := fun z => by rw [← z, qh_upd_s] at ha; cases ha
      refine qh_astore (x := a) E_J2_add (by decide) dJ2_add_36 ?_
      have hτ : qh_upd (qh_upd (qh_upd τ p (qj_o (m + 1) ea (nI cap))) a (qj_a g (cap + cap / 2) (va_cpy f (fun _ => none) 0 0 cap))) p (qj_o (m + 1) a (nI cap)) a = some (qj_a g (cap + cap / 2) (va_cpy f (fun _ => none) 0 0 cap)) := by rw [qh_upd_n na.symm, qh_upd_s]
      have tr : ∀ {z : Nat}, qj_E g x τ z → qj_E g x (qh_upd (qh_upd (qh_upd τ p (qj_o (m + 1) ea (nI cap))) a (qj_a g (cap + cap / 2) (va_cpy f (fun _ => none) 0 0 cap))) p (qj_o (m + 1) a (nI cap))) z := fun hz => ((hz.up hp).new ha).up (a := p) (by rw [qh_upd_n na, qh_upd_s])
      refine j0_addT hO qh_upd_s hτ hi (by omega) (by omega) (fun j hj z hz => ?_) (tr hy) (hq _ ?_)
      · rw [sb_cpy0' hj] at hz
        exact tr (hel j hj z hz)
      rw [qh_upd_n na.symm] at ha
      refine ⟨a, cap + cap / 2, va_up (va_cpy (va_cpy f (fun _ => none) 0 0 cap) (va_cpy f (fun _ => none) 0 0 cap) i (i + 1) (cap - i)) i (some y), Or.inr ⟨ha, hA⟩, ?_, by omega, by omega, by omega, fun j hj => ?_⟩
      · rw [qj_n1, qj_n2]
      · unfold va_up
        by_cases n1 : j = i
        · rw [if_pos n1, if_pos n1]
        · rw [if_neg n1, if_neg n1]
          unfold va_cpy
          by_cases n2 : i + 1 ≤ j ∧ j < i + 1 + (cap - i)
          · rw [if_pos n2, if_pos n2, if_pos (by omega)]
            congr 1
            omega
          · rw [if_neg n2, if_neg n2, if_pos (by omega)]
            congr 1
            omega
end
section
variable {g : qh_G} {x : qc_X} {d : Nat} {h : qc_H} {Q : qh_R → qc_H → Prop}
theorem L_addI {p i y : Nat} {e : qc_E} {xs : List Nat} (hO : qc_O g x) (hl : xs.length ≤ 40000) (hp : h p = some (.inr xs)) (hi : i ≤ xs.length) (hy : h y = some e) (ho : qc_ok g e) (hq : Q (.inl none) (qc_up h p (.inr (xs.take i ++ y :: xs.drop i)))) : qc_S g x (d + 5) (xs.length + xs.length / 2 + 11) I_J2_add [.ref p, .int (nI i), .ref y] h Q := fun τ hR => by
  have hxs : ∀ z ∈ xs, ∃ e, h z = some e ∧ qc_ok g e := by
    obtain ⟨ow, r1, r2, r3⟩ := hR
    exact (r2 p xs hp).2.1
  obtain ⟨m, ea, cap, f, h1, h2, h3, h4, h5, -⟩ := hR.opn hO hp
  have hlen : (xs.take i ++ y :: xs.drop i).length = xs.length + 1 := by
    simp only [List.length_append, List.length_cons, List.length_take, List.length_drop]
    omega
  refine j0_addI hO h1 h2 (fun j hj z hz => ?_) hl hi (hR.E hy ho) (fun t ht => ?_)
  · rw [h3 j hj] at hz
    exact h4 z (List.mem_of_getElem? hz)
  · refine ⟨_, h5 (xs.take i ++ y :: xs.drop i) t (m + 1) (va_up (va_cpy f f i (i + 1) (xs.length - i)) i (some y)) (fun z hz => ?_) (fun j hj => ?_) (by rw [hlen]; exact ht), hq⟩
    · rcases List.mem_append.mp hz with q | q
      · exact hxs z (List.mem_of_mem_take q)
      · rcases List.mem_cons.mp q with q | q
        · subst q
          exact ⟨e, hy, ho⟩
        · exact hxs z (List.mem_of_mem_drop q)
    · rw [hlen] at hj
      have htl : (xs.take i).length = i := by rw [List.length_take]; omega
      unfold va_up
      by_cases n1 : j = i
      · rw [if_pos n1, List.getElem?_append_right (by omega), htl, n1]
        simp
      · rw [if_neg n1]
        unfold va_cpy
        by_cases n2 : j < i
        · rw [if_neg (by omega), List.getElem?_append_left (by omega), List.getElem?_take, if_pos n2]
          exact h3 j (by omega)
        · rw [if_pos (by omega), List.getElem?_append_right (by omega), htl, show j - i = (j - i - 1) + 1 by omega, List.getElem?_cons_succ, List.getElem?_drop, show i + (j - (i + 1)) = j - 1 by omega, show i + (j - i - 1) = j - 1 by omega]
          exact h3 (j - 1) (by omega)
end
