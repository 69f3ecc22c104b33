/-! SR 10: between two calls of the law -/
set_option maxRecDepth 100000
/-- what holds ahead of the law's call n -/
def lZ (g : qh_G) (L : Nat → Nat) (m o : Nat) (fa : Nat → Nat) (n : Nat) (h : qc_H) : Prop := ∃ (A : qkA) (v : qkAns) (S : qm_S), lC g L m o fa h A v S 1 0 ∧ cC A v S ∧ qkI (2000 * n) (8 * n) A ∧ qkWb (8 * n) A
section
variable {g : qh_G} {L : Nat → Nat} {m o : Nat} {fa : Nat → Nat} {h h' : qc_H} {A : qkA} {v : qkAns} {S : qm_S} {n : Nat}
theorem lC.weak {e x : Int32} (C : lC g L m o fa h A v S e x) : lC g L m o fa h A v S 1 0 := by
  obtain ⟨J, f, R, V, t, ho, _⟩ := C
  exact ⟨J, f, R, V, t, ho, fun z => absurd z (by decide)⟩
theorem cl_M {r : Int32 × Int32 × qkA} {XX K0 : qc_H → Prop} (G : lG L m o fa) (C : lC g L m o fa h' r.2.2 v S r.1 r.2.1) (hI : qkI (2000 * (n + 1)) (8 * (n + 1)) r.2.2) (hW : qkWb (8 * (n + 1)) r.2.2) (hX : ∀ h2, lZ g L m o fa (n + 1) h2 → XX h2) : kM r v (fun r0 S' => ∀ h2, tw g m fa h2 S' → twF m fa h' h2 → tlK g m o r.1 XX K0 r0 h2) := fun b S' e0 eb hC' h2 t2 f2 => tl_ok G (C.twin G t2 f2) e0 eb fun h3 c3 => hX h3 ⟨_, _, _, c3.weak, hC', hI, hW⟩
theorem cl_N {r : Int32 × Int32} {XX K0 : qc_H → Prop} (G : lG L m o fa) (C : lC g L m o fa h' A v S r.1 r.2) (hI : qkI (2000 * n) (8 * n) A) (hW : qkWb (8 * n) A) (hX : ∀ h2, lZ g L m o fa (n + 1) h2 → XX h2) : kN A r v (fun r0 S' => ∀ h2, tw g m fa h2 S' → twF m fa h' h2 → tlK g m o r.1 XX K0 r0 h2) := fun b S' e0 eb hC' h2 t2 f2 => tl_ok G (C.twin G t2 f2) e0 eb fun h3 c3 => hX h3 ⟨_, _, _, c3.weak, hC', hI.le (by omega) (by omega), wb_le hW (by omega)⟩
/-- the reference's call behind a wrapper's: the twin side of a case -/
def tC (g : qh_G) (L : Nat → Nat) (m o : Nat) (fa : Nat → Nat) (n : Nat) (T8 : qc_H → (Int32 → qc_H → Prop) → Prop) (r15 : Int32) (h16 : qc_H) : Prop := ∀ XX K0 : qc_H → Prop, (∀ h2, lZ g L m o fa (n + 1) h2 → XX h2) → eC h16 m 7 (T8 h16 (tlK g m o r15 XX K0))
theorem cs_add {a1 a2 a3 a4 a5 : Int32} {k : Nat} {K : Int32 → qc_H → Prop} {KX : String → qc_H → Prop} (G : lG L m o fa) (hZ : lZ g L m o fa n h) (hn : n < 64) (hk : 2000 ≤ k) (hK : ∀ r15 h16, tC g L m o fa n (T8_add g m a1 a2 a3 a4 a5) r15 h16 → K r15 h16) : T_X0_add g (L 0) a1 a2 a3 a4 a5 o h k K KX := by
  obtain ⟨A, v, S, ⟨J, f, R, V, t, ho, _⟩, hC, hI, hW⟩ := hZ
  refine w_add G R V t ho (wb_le hW (by omega)) hk fun h1 c1 => hK _ _ fun XX K0 hX => ?_
  have c2 := c1
  obtain ⟨J1, f1, R1, V1, t1, ho1, hx1⟩ := c2
  exact ⟨⟨_, t1.1⟩, fa, S, t1, km_add hC hI (by omega) (cl_M G c1 ((ki_add hI (by omega)).le (by omega) (by omega)) (wb_le (wb_add hW) (by omega)) hX)⟩
end
