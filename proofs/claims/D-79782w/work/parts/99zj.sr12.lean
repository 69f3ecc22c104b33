/-! SR 12 (printed by mk_cs2.py): the law's cases without a wrapper -/
set_option maxRecDepth 100000
section
variable {g : qh_G} {L : Nat → Nat} {m o : Nat} {fa : Nat → Nat} {h : qc_H} {n : Nat} {XX K0 : qc_H → Prop}
/-- both told, compared -/
def sC (r : Int32) (XX K0 : qc_H → Prop) (r2 : Int32) (h' : qc_H) : Prop := (r = r2 → XX h') ∧ (¬ r = r2 → K0 h')
theorem cl_S {A : qkA} {v : qkAns} {S : qm_S} {r : Int32} (G : lG L m o fa) (C : lC g L m o fa h A v S 1 0) (hI : qkI (2000 * n) (8 * n) A) (hW : qkWb (8 * n) A) (hX : ∀ h2, lZ g L m o fa (n + 1) h2 → XX h2) : kN A (0, r) v (fun r0 S' => ∀ h2, tw g m fa h2 S' → twF m fa h h2 → sC r XX K0 r0 h2) := fun b S' e0 eb hC' h2 t2 f2 => ⟨fun _ => hX h2 ⟨_, _, _, C.twin G t2 f2, hC', hI.le (by omega) (by omega), wb_le hW (by omega)⟩, fun z => absurd (eb rfl).symm z⟩
theorem cs_losses (G : lG L m o fa) (hZ : lZ g L m o fa n h) (hn : n < 64) (hX : ∀ h2, lZ g L m o fa (n + 1) h2 → XX h2) : eC h (L 0) 0 (T_X1_losses g (L 0) h (fun r => eC h m 7 (T8_losses g m h (sC r XX K0)))) := by
  obtain ⟨A, v, S, C, hC, hI, hW⟩ := hZ
  have C2 := C
  obtain ⟨J, f, R, V, t, ho, _⟩ := C2
  exact ⟨⟨_, R.x⟩, kt_losses R ⟨⟨_, t.1⟩, fa, S, t, km_losses hC (cl_S G C hI hW hX)⟩⟩
theorem cs_moment (G : lG L m o fa) (hZ : lZ g L m o fa n h) (hn : n < 64) (hX : ∀ h2, lZ g L m o fa (n + 1) h2 → XX h2) : eC h (L 0) 0 (T_X1_moment g (L 0) h (fun r => eC h m 7 (T8_moment g m h (sC r XX K0)))) := by
  obtain ⟨A, v, S, C, hC, hI, hW⟩ := hZ
  have C2 := C
  obtain ⟨J, f, R, V, t, ho, _⟩ := C2
  exact ⟨⟨_, R.x⟩, kt_moment R ⟨⟨_, t.1⟩, fa, S, t, km_moment hC (cl_S G C hI hW hX)⟩⟩
theorem cs_now (G : lG L m o fa) (hZ : lZ g L m o fa n h) (hn : n < 64) (hX : ∀ h2, lZ g L m o fa (n + 1) h2 → XX h2) : eC h (L 0) 0 (T_X1_now g (L 0) h (fun r => eC h m 7 (T8_now g m h (sC r XX K0)))) := by
  obtain ⟨A, v, S, C, hC, hI, hW⟩ := hZ
  have C2 := C
  obtain ⟨J, f, R, V, t, ho, _⟩ := C2
  exact ⟨⟨_, R.x⟩, kt_now R ⟨⟨_, t.1⟩, fa, S, t, km_now hC (cl_S G C hI hW hX)⟩⟩
theorem cs_entries (G : lG L m o fa) (hZ : lZ g L m o fa n h) (hn : n < 64) (hX : ∀ h2, lZ g L m o fa (n + 1) h2 → XX h2) : eC h (L 0) 0 (T_X1_entries g (L 0) h (fun r => eC h m 7 (T8_entries g m h (sC r XX K0)))) := by
  obtain ⟨A, v, S, C, hC, hI, hW⟩ := hZ
  have C2 := C
  obtain ⟨J, f, R, V, t, ho, _⟩ := C2
  exact ⟨⟨_, R.x⟩, kt_entries R ⟨⟨_, t.1⟩, fa, S, t, km_entries hC (cl_S G C hI hW hX)⟩⟩
theorem cs_answers (G : lG L m o fa) (hZ : lZ g L m o fa n h) (hn : n < 64) (hX : ∀ h2, lZ g L m o fa (n + 1) h2 → XX h2) : eC h (L 0) 0 (T_X1_answers g (L 0) h (fun r => eC h m 7 (T8_answers g m h (sC r XX K0)))) := by
  obtain ⟨A, v, S, C, hC, hI, hW⟩ := hZ
  have C2 := C
  obtain ⟨J, f, R, V, t, ho, _⟩ := C2
  exact ⟨⟨_, R.x⟩, kt_answers R V.l ⟨⟨_, t.1⟩, fa, S, t, km_answers hC (cl_S G C hI hW hX)⟩⟩
theorem cs_missing (G : lG L m o fa) (hZ : lZ g L m o fa n h) (hn : n < 64) (hX : ∀ h2, lZ g L m o fa (n + 1) h2 → XX h2) : eC h (L 0) 0 (T_X1_missing g (L 0) h (fun r => eC h m 7 (T8_missing g m h (sC r XX K0)))) := by
  obtain ⟨A, v, S, C, hC, hI, hW⟩ := hZ
  have C2 := C
  obtain ⟨J, f, R, V, t, ho, _⟩ := C2
  exact ⟨⟨_, R.x⟩, kt_missing R V.l ⟨⟨_, t.1⟩, fa, S, t, km_missing hC (cl_S G C hI hW hX)⟩⟩
theorem cs_claims (G : lG L m o fa) (hZ : lZ g L m o fa n h) (hn : n < 64) (hX : ∀ h2, lZ g L m o fa (n + 1) h2 → XX h2) : eC h (L 0) 0 (T_X1_claims g (L 0) h (fun r => eC h m 7 (T8_claims g m h (sC r XX K0)))) := by
  obtain ⟨A, v, S, C, hC, hI, hW⟩ := hZ
  have C2 := C
  obtain ⟨J, f, R, V, t, ho, _⟩ := C2
  exact ⟨⟨_, R.x⟩, kt_claims R V.l ⟨⟨_, t.1⟩, fa, S, t, km_claims hC (cl_S G C hI hW hX)⟩⟩
theorem cs_cost (G : lG L m o fa) (hZ : lZ g L m o fa n h) (hn : n < 64) (hX : ∀ h2, lZ g L m o fa (n + 1) h2 → XX h2) : eC h (L 0) 0 (T_X1_cost g (L 0) h (fun r => eC h m 7 (T8_cost g m h (sC r XX K0)))) := by
  obtain ⟨A, v, S, C, hC, hI, hW⟩ := hZ
  have C2 := C
  obtain ⟨J, f, R, V, t, ho, _⟩ := C2
  exact ⟨⟨_, R.x⟩, kt_cost R V.l ⟨⟨_, t.1⟩, fa, S, t, km_cost hC (cl_S G C hI hW hX)⟩⟩
theorem cs_attempts (G : lG L m o fa) (hZ : lZ g L m o fa n h) (hn : n < 64) (hX : ∀ h2, lZ g L m o fa (n + 1) h2 → XX h2) : eC h (L 0) 0 (T_X1_attempts g (L 0) h (fun r => eC h m 7 (T8_attempts g m h (sC r XX K0)))) := by
  obtain ⟨A, v, S, C, hC, hI, hW⟩ := hZ
  have C2 := C
  obtain ⟨J, f, R, V, t, ho, _⟩ := C2
  exact ⟨⟨_, R.x⟩, kt_attempts R V.l ⟨⟨_, t.1⟩, fa, S, t, km_attempts hC (cl_S G C hI hW hX)⟩⟩
theorem cs_shipped (G : lG L m o fa) (hZ : lZ g L m o fa n h) (hn : n < 64) (hX : ∀ h2, lZ g L m o fa (n + 1) h2 → XX h2) : eC h (L 0) 0 (T_X1_shipped g (L 0) h (fun r => eC h m 7 (T8_shipped g m h (sC r XX K0)))) := by
  obtain ⟨A, v, S, C, hC, hI, hW⟩ := hZ
  have C2 := C
  obtain ⟨J, f, R, V, t, ho, _⟩ := C2
  exact ⟨⟨_, R.x⟩, kt_shipped R V.l ⟨⟨_, t.1⟩, fa, S, t, km_shipped hC (cl_S G C hI hW hX)⟩⟩
end
