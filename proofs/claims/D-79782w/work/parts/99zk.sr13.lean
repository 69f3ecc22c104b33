/-! SR 13: the law's cases clear, forbid, shape -/
set_option maxRecDepth 100000
section
variable {g : qh_G} {L : Nat → Nat} {m o : Nat} {fa : Nat → Nat} {h : qc_H} {n : Nat} {XX K0 : qc_H → Prop}
theorem cs_clear (G : lG L m o fa) (hZ : lZ g L m o fa n h) (hn : n < 64) (hX : ∀ h2, lZ g L m o fa (n + 1) h2 → XX h2) : eC h (L 0) 0 (T_X1_clear g (L 0) h (fun r h1 => eC h1 m 7 (T8_clear g m h1 (sC r XX K0)))) := by
  obtain ⟨A, v, S, C, hC, hI, hW⟩ := hZ
  have C2 := C
  obtain ⟨J, f, R, V, t, ho, _⟩ := C2
  refine ⟨⟨_, R.x⟩, kt_clear R fun h1 R1 F1 => ?_⟩
  obtain ⟨V1, t1, ho1⟩ := lC.fr G V t ho qkJ.rf F1 R1 rfl
  have C1 : lC g L m o fa h1 (kf_clear A) v S 1 0 := ⟨J, f, R1, V1, t1, ho1, fun z => absurd z (by decide)⟩
  refine ⟨⟨_, t1.1⟩, fa, S, t1, km_clear hC fun S' e0 hC' h2 t2 f2 => ⟨fun _ => hX h2 ⟨_, _, _, C1.twin G t2 f2, hC', (ki_clear hI).le (by omega) (by omega), wb_le (show qkWb (8 * n) (kf_clear A) from hW) (by omega)⟩, fun z => absurd rfl z⟩⟩
/-- the law's look at both, nothing told -/
def sK (g : qh_G) (m : Nat) (r15 : Int32) (XX K0 : qc_H → Prop) (h24 : qc_H) : Prop := eC h24 m 7 (T8_thrown g m h24 (fun r25 h26 => (r25 = r15 → XX h26) ∧ (¬ r25 = r15 → K0 h26)))
theorem cs_shape {a1 a2 : Int32} {k : Nat} {K : Int32 → qc_H → Prop} {KX : String → qc_H → Prop} (G : lG L m o fa) (hZ : lZ g L m o fa n h) (hn : n < 64) (hd : a2 = 0 ∨ a2 = 1) (hk : 2000 ≤ k) (hK : ∀ r15 h16, (∀ XX K0 : qc_H → Prop, (∀ h2, lZ g L m o fa (n + 1) h2 → XX h2) → eC h16 m 7 (T8_shape g m a1 a2 h16 (sK g m r15 XX K0))) → K r15 h16) : T_X0_shape g (L 0) a1 a2 h k K KX := by
  obtain ⟨A, v, S, C, hC, hI, hW⟩ := hZ
  have C2 := C
  obtain ⟨J, f, R, V, t, ho, _⟩ := C2
  have hW' : qkWb (8 * (n + 1)) (kf_shape A a1 a2).2 := by
    unfold kf_shape
    split
    · exact wb_le hW (by omega)
    · exact wb_le (show qkWb (8 * n) _ from hW) (by omega)
  have hla : aLa (kf_shape A a1 a2).2 = aLa A := by
    unfold kf_shape
    split <;> rfl
  have tw8 : ∀ h1, lC g L m o fa h1 (kf_shape A a1 a2).2 v S 1 0 → ∀ XX K0 : qc_H → Prop, (∀ h2, lZ g L m o fa (n + 1) h2 → XX h2) → eC h1 m 7 (T8_shape g m a1 a2 h1 (sK g m (kf_shape A a1 a2).1 XX K0)) := by
    intro h1 C1 XX K0 hX
    have C3 := C1
    obtain ⟨J1, f1, R1, V1, t1, ho1, _⟩ := C3
    refine ⟨⟨_, t1.1⟩, fa, S, t1, km_shape hd hC fun S' e0 hC' h2 t2 f2 => ⟨⟨_, t2.1⟩, fa, S', t2, fun h3 t3 f3 => ?_⟩⟩
    have e : f_X8_thrown S' = (kf_shape A a1 a2).1 := e0
    rw [e]
    exact ⟨fun _ => hX h3 ⟨_, _, _, (C1.twin G t2 f2).twin G t3 f3, hC', (ki_shape hd hI).le (by omega) (by omega), hW'⟩, fun z => absurd rfl z⟩
  unfold T_X0_shape
  refine ⟨⟨_, R.x⟩, ek 2000 hk (kt_shape R hd (by omega) (fun h1 e R1 F1 => ?_) (fun e R1 => ⟨rfl, fun _ => ?_⟩))⟩
  · obtain ⟨V1, t1, ho1⟩ := lC.fr G V t ho qkJ.rf F1 R1 hla
    have := tw8 h1 ⟨J, f, R1, V1, t1, ho1, fun z => absurd z (by decide)⟩
    rw [e] at this
    exact hK 0 h1 this
  · have := tw8 h ⟨J, f, R1, by rw [hla]; exact V, t, ho, fun z => absurd z (by decide)⟩
    rw [e] at this
    exact hK 1 h this
end
