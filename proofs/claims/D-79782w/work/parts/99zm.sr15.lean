/-! SR 15: the law's cases ask, answersAnew, answerAnew, run -/
set_option maxRecDepth 100000
section
variable {g : qh_G} {L : Nat → Nat} {m o : Nat} {fa : Nat → Nat} {h : qc_H} {n k : Nat} {K : Int32 → qc_H → Prop} {KX : String → qc_H → Prop}
/-- what ask wants of the draft -/
theorem qkI.lk {T M : Nat} {A : qkA} (h : qkI T M A) : ∀ l ∈ aLink A, qkLk l := fun l hl => by
  obtain ⟨⟨a, b, h1, h2, h3, h4⟩, h5, h6⟩ := h.2.2.2.1.2.1.2 l hl
  exact ⟨⟨a, b, h1, Nat.lt_of_lt_of_le h2 h.2.2.2.1.1.1, h3, h4⟩, h5, h6⟩
theorem qkI.li {T M : Nat} {A : qkA} (h : qkI T M A) : ∃ lim, aQ A 10 = nI lim ∧ lim ≤ 40 := by
  obtain ⟨x, _, h2, h3⟩ := h.2.2.2.1.2.2.2.2.1
  exact ⟨x, h3, h2⟩
/-- the guests' cells, behind a call of the component -/
theorem lC.fr2 {J : qc_H} {A : qkA} {v : qkAns} {S : qm_S} {f : Nat → Int64} {h' : qc_H} (G : lG L m o fa) (t : tw g m fa h S) (ho : h o = some (.inl (.inl (g.2.2.2.1 2, 1, .inr (.inl f))))) (hF : qkFr L h h') : tw g m fa h' S ∧ h' o = some (.inl (.inl (g.2.2.2.1 2, 1, .inr (.inl f)))) := by
  obtain ⟨_, hE⟩ := (G.gk t ho).fr G.2.2.2.2.1 hF
  refine ⟨⟨?_, fun k hk => ?_, t.2.2⟩, ?_⟩
  · have := hE 41 (by decide) (by decide)
    rw [G.1] at this
    rw [this]
    exact t.1
  · have := hE (43 + k) (by omega) (by have := ar_94 k hk; omega)
    rw [G.2.2.1 k hk] at this
    rw [this]
    exact t.2.1 k hk
  · have := hE 42 (by decide) (by decide)
    rw [G.2.1] at this
    rw [this]
    exact ho
theorem cs_ask {a1 a2 : Int32} (G : lG L m o fa) (hZ : lZ g L m o fa n h) (hn : n < 64) (hk : 17500 ≤ k) (hK : ∀ r15 h16, tC g L m o fa n (T8_ask g m a1 a2) r15 h16 → K r15 h16) : T_X0_ask g (L 0) a1 a2 o h k K KX := by
  obtain ⟨A, v, S, ⟨J, f, R, V, t, ho, _⟩, hC, hI, hW⟩ := hZ
  obtain ⟨lim, hlim, hl⟩ := hI.li
  have hD := hI.2.2.2.1
  have bad : ∀ e : Nat, kf_askc A a1 a2 = e → ¬ e = 0 → e ≤ 60 → tC g L m o fa n (T8_ask g m a1 a2) (nI e) h := by
    intro e he he0 heb XX K0 hX
    refine ⟨⟨_, t.1⟩, fa, S, t, km_ask hC hI ⟨by omega, by omega⟩ (fun _ S' e0 hC' h2 t2 f2 => ?_) (fun z => absurd (he.symm.trans z) he0)⟩
    have C1 : lC g L m o fa h A v S (nI e) 0 := ⟨J, f, R, V, t, ho, fun z => absurd (nI_eq60 (b := 0) heb (by omega) z) he0⟩
    rw [he] at e0
    exact tl_ok G (C1.twin G t2 f2) e0 (fun _ => rfl) fun h3 c3 => hX h3 ⟨_, _, _, c3.weak, hC', hI.le (by omega) (by omega), wb_le hW (by omega)⟩
  unfold T_X0_ask
  refine ⟨⟨_, R.x⟩, ek 15000 (by omega) (kt_ask R hI.gd hI.sd hD.1.1 hD.2.2.1.1 (fun cd hcd => (hD.2.2.1.2 cd hcd).2.1) hI.lk hD.2.2.2.1.2 hD.2.2.2.1.1 hlim hl (Nat.le_refl _) (fun e => Or.inl ⟨rfl, fun _ => hK 1 h (bad 1 e (by decide) (by decide))⟩) (fun e => Or.inr ⟨rfl, fun _ => hK 2 h (bad 2 e (by decide) (by decide))⟩) ?_)⟩
  intro e0 J' h' an arl atl j1 R1 hla tk hgd hanF harF hatF ha hv ht n1 n2 n3 F1
  obtain ⟨t1, ho1⟩ := lC.fr2 (J := J) (A := A) (v := v) G t ho F1
  have V1 : lat g L J' h' (aLa (kf_askt (sLa A an) a1 a2).1) (kf_ans (sLa A an) a1 a2) := by
    rw [hla]
    exact lat.new (G.gk t ho).ne ha hv ht hanF harF hatF (fun r hr => walk_3 (A := (kf_askt (sLa A an) a1 a2).1) (by rw [tk.2.2.2.2.2.2.2.2.1]; exact hD.2.2.2.1.1) r (List.mem_of_mem_take hr))
  refine lC.put G R1 V1 t1 ho1 fun h2 c2 => hK 0 h2 fun XX K0 hX => ?_
  have c3 := c2
  obtain ⟨J2, f2, R2, V2, t2, ho2, hx2⟩ := c3
  exact ⟨⟨_, t2.1⟩, fa, S, t2, km_ask (A := sLa A an) (v := v) (show cC (sLa A an) v S from hC) (show qkI _ _ (sLa A an) from hI) ⟨by omega, by omega⟩ (fun z => absurd e0 z) (fun _ S' e0' hC' hI' h3 t3 f3 => tl_ok G (c2.twin G t3 f3) e0' (fun _ => rfl) fun h4 c4 => hX h4 ⟨_, _, _, c4.weak, hC', hI'.le (by omega) (by omega), wb_le (wb_askt (A := sLa A an) (show qkWb (8 * n) (sLa A an) from hW)) (by omega)⟩)⟩
theorem cs_answersAnew (G : lG L m o fa) (hZ : lZ g L m o fa n h) (hn : n < 64) (hk : 17500 ≤ k) (hK : ∀ r15 h16, tC g L m o fa n (T8_answersAnew g m) r15 h16 → K r15 h16) : T_X0_answersAnew g (L 0) o h k K KX := by
  obtain ⟨A, v, S, ⟨J, f, R, V, t, ho, _⟩, hC, hI, hW⟩ := hZ
  obtain ⟨lim, hlim, hl⟩ := hI.li
  have hD := hI.2.2.2.1
  unfold T_X0_answersAnew
  refine ⟨⟨_, R.x⟩, ek 5500 (by omega) (kt_answersAnew R hI.gd hI.sd hD.1.1 hD.2.2.1.1 (fun cd hcd => (hD.2.2.1.2 cd hcd).2.1) hI.lk hD.2.2.2.1.2 hD.2.2.2.1.1 hlim hl (Nat.le_refl _) (fun e => ⟨rfl, fun _ => hK 1 h fun XX K0 hX => ?_⟩) (fun e J' h' j1 R1 F1 => ?_))⟩
  · have C1 : lC g L m o fa h A v S 1 0 := ⟨J, f, R, V, t, ho, fun z => absurd z (by decide)⟩
    exact ⟨⟨_, t.1⟩, fa, S, t, km_answersAnew hC hI (fun _ S' e0 hC' h2 t2 f2 => tl_ok G (C1.twin G t2 f2) e0 (fun _ => rfl) fun h3 c3 => hX h3 ⟨_, _, _, c3.weak, hC', hI.le (by omega) (by omega), wb_le hW (by omega)⟩) (fun z => absurd e z)⟩
  · obtain ⟨V1, t1, ho1⟩ := lC.fr G V t ho j1.1 F1 R1 rfl
    refine lC.put G R1 V1 t1 ho1 fun h2 c2 => hK 0 h2 fun XX K0 hX => ?_
    have c3 := c2
    obtain ⟨J2, f2, R2, V2, t2, ho2, hx2⟩ := c3
    exact ⟨⟨_, t2.1⟩, fa, S, t2, km_answersAnew hC hI (fun z => absurd z e) (fun _ S' e0 hC' h3 t3 f3 => tl_ok G (c2.twin G t3 f3) e0 (fun _ => rfl) fun h4 c4 => hX h4 ⟨_, _, _, c4.weak, hC', hI.le (by omega) (by omega), wb_le hW (by omega)⟩)⟩
theorem cs_answerAnew {a1 a2 : Int32} (G : lG L m o fa) (hZ : lZ g L m o fa n h) (hn : n < 64) (hk : 17500 ≤ k) (hK : ∀ r15 h16, tC g L m o fa n (T8_answerAnew g m a1 a2) r15 h16 → K r15 h16) : T_X0_answerAnew g (L 0) a1 a2 o h k K KX := by
  obtain ⟨A, v, S, ⟨J, f, R, V, t, ho, _⟩, hC, hI, hW⟩ := hZ
  obtain ⟨lim, hlim, hl⟩ := hI.li
  have hD := hI.2.2.2.1
  unfold T_X0_answerAnew
  refine ⟨⟨_, R.x⟩, ek 5514 (by omega) (kt_answerAnew R hI.gd hI.sd hD.1.1 hD.2.2.1.1 (fun cd hcd => (hD.2.2.1.2 cd hcd).2.1) hI.lk hD.2.2.2.1.2 hD.2.2.2.1.1 hlim hl (Nat.le_refl _) (fun e => Or.inr ⟨rfl, fun _ => hK 1 h fun XX K0 hX => ?_⟩) (fun e J' h' j1 R1 F1 => ?_))⟩
  · have C1 : lC g L m o fa h A v S 1 0 := ⟨J, f, R, V, t, ho, fun z => absurd z (by decide)⟩
    exact ⟨⟨_, t.1⟩, fa, S, t, km_answerAnew hC hI (fun _ S' e0 hC' h2 t2 f2 => tl_ok G (C1.twin G t2 f2) e0 (fun _ => rfl) fun h3 c3 => hX h3 ⟨_, _, _, c3.weak, hC', hI.le (by omega) (by omega), wb_le hW (by omega)⟩) (fun z => absurd e z) (fun z => absurd e z)⟩
  · obtain ⟨V1, t1, ho1⟩ := lC.fr G V t ho j1.1 F1 R1 rfl
    refine ⟨fun q0 => lC.put G R1 V1 t1 ho1 fun h2 c2 => hK 0 h2 fun XX K0 hX => ?_, fun i E hE ei => ?_⟩
    · have c3 := c2
      obtain ⟨J2, f2, R2, V2, t2, ho2, hx2⟩ := c3
      exact ⟨⟨_, t2.1⟩, fa, S, t2, km_answerAnew hC hI (fun z => absurd z e) (fun _ z => absurd (q0.symm.trans z) (by decide)) (fun _ _ S' e0 hC' h3 t3 f3 => tl_ok G (c2.twin G t3 f3) e0 (fun _ => rfl) fun h4 c4 => hX h4 ⟨_, _, _, c4.weak, hC', hI.le (by omega) (by omega), wb_le hW (by omega)⟩)⟩
    · match i, hE with
      | 0, hE =>
        cases hE
        refine Or.inl ⟨rfl, fun _ => hK 2 h' fun XX K0 hX => ?_⟩
        have C1 : lC g L m o fa h' A v S 2 0 := ⟨J', f, R1, V1, t1, ho1, fun z => absurd z (by decide)⟩
        exact ⟨⟨_, t1.1⟩, fa, S, t1, km_answerAnew hC hI (fun z => absurd z e) (fun _ _ S' e0 hC' h2 t2 f2 => tl_ok G (C1.twin G t2 f2) e0 (fun _ => rfl) fun h3 c3 => hX h3 ⟨_, _, _, c3.weak, hC', hI.le (by omega) (by omega), wb_le hW (by omega)⟩) (fun _ z => absurd (ei.symm.trans z) (by decide))⟩
      | i + 1, hE => cases hE
theorem cs_run (G : lG L m o fa) (hZ : lZ g L m o fa n h) (hn : n < 64) (hk : 17500 ≤ k) (hK : ∀ r15 h16, tC g L m o fa n (T8_run g m) r15 h16 → K r15 h16) : T_X0_run g (L 0) o h k K KX := by
  obtain ⟨A, v, S, ⟨J, f, R, V, t, ho, _⟩, hC, hI, hW⟩ := hZ
  have hB := hI.2.2.2.2.1
  have hI' : qkI (2000 * (n + 1)) (8 * (n + 1)) (kf_runB A).2.2 := (ki_run hI (by omega) (by omega)).le (by omega) (by omega)
  have hW' : qkWb (8 * (n + 1)) (kf_runB A).2.2 := wb_le (wb_run hI (by omega) (by omega) hW) (by omega)
  unfold T_X0_run
  refine ⟨⟨_, R.x⟩, ek 17500 (by omega) (kt_run R hB.1 (fun f hf => (hB.2 f hf).1) hW (by omega) (Nat.le_refl _) (run_pre hI (by omega) (by omega)) (fun e => ⟨rfl, fun _ => hK 1 h fun XX K0 hX => ?_⟩) (fun e J' h' j1 R1 F1 => ?_))⟩
  · have ek1 : kf_runB A = (1, 0, A) := by
      unfold kf_runB
      rw [if_pos e]
    have C1 : lC g L m o fa h (kf_runB A).2.2 v S (kf_runB A).1 (kf_runB A).2.1 := by
      rw [ek1]
      exact ⟨J, f, R, V, t, ho, fun z => absurd (show (1 : Int32) = 0 from z) (by decide)⟩
    have := cl_M (XX := XX) (K0 := K0) G C1 hI' hW' hX
    have e1 : (kf_runB A).1 = 1 := by rw [ek1]
    rw [e1] at this
    exact ⟨⟨_, t.1⟩, fa, S, t, km_run hC hI (by omega) (by omega) this⟩
  · obtain ⟨V1, t1, ho1⟩ := lC.fr G V t ho j1.1 F1 R1 la_run
    refine lC.put G R1 V1 t1 ho1 fun h2 c2 => hK 0 h2 fun XX K0 hX => ?_
    have c3 := c2
    obtain ⟨J2, f2, R2, V2, t2, ho2, hx2⟩ := c3
    have e1 : (kf_runB A).1 = 0 := by
      unfold kf_runB
      rw [if_neg e]
    have c4 : lC g L m o fa h2 (kf_runB A).2.2 v S (kf_runB A).1 (kf_runB A).2.1 := by rw [e1]; exact c2
    have := cl_M (XX := XX) (K0 := K0) G c4 hI' hW' hX
    rw [e1] at this
    exact ⟨⟨_, t2.1⟩, fa, S, t2, km_run hC hI (by omega) (by omega) this⟩
end
