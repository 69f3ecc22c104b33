/-! SR 9 (printed by mk_w.py): the law's wrappers, told by the component -/
set_option maxRecDepth 100000
section
variable {g : qh_G} {L : Nat → Nat} {m o : Nat} {fa : Nat → Nat} {J h : qc_H} {A : qkA} {v : qkAns} {S : qm_S} {c : Nat} {f : Nat → Int64} {K : Int32 → qc_H → Prop} {KX : String → qc_H → Prop}
theorem wr_P {r : Int32 × Int32} {xs : List String} {KX : String → Prop} (G : lG L m o fa) (R : qkRep g L J h A) (V : lat g L J h (aLa A) v) (t : tw g m fa h S) (ho : h o = some (.inl (.inl (g.2.2.2.1 2, 1, .inr (.inl f))))) (hxl : xs.length ≤ 3) (hK : ∀ h', lC g L m o fa h' A v S r.1 r.2 → K r.1 h') (hx : ∀ (i : Nat) (E : String), xs[i]? = some E → K (nI (i + 1)) h → KX E) : kP r xs (fun r3 => eLW g.2.2.2.1 h o 0 (Int32.toInt64 r3) (fun h9 => K 0 h9)) KX := by
  refine ⟨fun e0 => lC.put G R V t ho (fun h2 c2 => ?_), fun i E hE ei => hx i E hE ?_⟩
  · have := hK h2 (by rw [e0]; exact c2)
    rw [e0] at this
    exact this
  · have h1 := (List.getElem?_eq_some_iff.mp hE).1
    have hne : ¬ r.1 = 0 := fun z => by
      rw [ei] at z
      have := nI_eq60 (a := i + 1) (b := 0) (by omega) (by omega) z
      omega
    have := hK h ⟨J, f, R, V, t, ho, fun z => absurd z hne⟩
    rw [ei] at this
    exact this
theorem w_change {a1 a2 a3 a4 : Int32} (G : lG L m o fa) (R : qkRep g L J h A) (V : lat g L J h (aLa A) v) (t : tw g m fa h S) (ho : h o = some (.inl (.inl (g.2.2.2.1 2, 1, .inr (.inl f))))) (hw : qkWb 600 A) (hc : 2000 ≤ c) (hK : ∀ h', lC g L m o fa h' (kf_change A a1 a2 a3 a4).2.2 v S (kf_change A a1 a2 a3 a4).1 (kf_change A a1 a2 a3 a4).2.1 → K (kf_change A a1 a2 a3 a4).1 h') : T_X0_change g (L 0) a1 a2 a3 a4 o h c K KX := by
  unfold T_X0_change
  refine ⟨⟨_, R.x⟩, ek 2000 hc (kt_change (e0 := 1900) R hw.1 hw.2 (fun _ => rfl) (by omega) (wr_O G V t ho (by decide) la_change hK fun i E hE h' hk => ?_))⟩
  match i, hE with
  | 0, hE => cases hE; exact Or.inr (⟨rfl, fun _ => hk⟩)
  | 1, hE => cases hE; exact Or.inl ⟨rfl, fun _ => hk⟩
  | n + 2, hE => cases hE
theorem w_remove {a1 a2 : Int32} (G : lG L m o fa) (R : qkRep g L J h A) (V : lat g L J h (aLa A) v) (t : tw g m fa h S) (ho : h o = some (.inl (.inl (g.2.2.2.1 2, 1, .inr (.inl f))))) (hw : qkWb 600 A) (hc : 2000 ≤ c) (hK : ∀ h', lC g L m o fa h' (kf_remove A a1 a2).2.2 v S (kf_remove A a1 a2).1 (kf_remove A a1 a2).2.1 → K (kf_remove A a1 a2).1 h') : T_X0_remove g (L 0) a1 a2 o h c K KX := by
  unfold T_X0_remove
  refine ⟨⟨_, R.x⟩, ek 2000 hc (kt_remove (e0 := 1900) R hw.1 hw.2 (fun _ => rfl) (by omega) (wr_O G V t ho (by decide) la_remove hK fun i E hE h' hk => ?_))⟩
  match i, hE with
  | 0, hE => cases hE; exact ⟨rfl, fun _ => hk⟩
  | n + 1, hE => cases hE
theorem w_setPace {a1 a2 a3 : Int32} (G : lG L m o fa) (R : qkRep g L J h A) (V : lat g L J h (aLa A) v) (t : tw g m fa h S) (ho : h o = some (.inl (.inl (g.2.2.2.1 2, 1, .inr (.inl f))))) (hc : 2000 ≤ c) (hK : ∀ h', lC g L m o fa h' (kf_setPace A a1 a2 a3).2.2 v S (kf_setPace A a1 a2 a3).1 (kf_setPace A a1 a2 a3).2.1 → K (kf_setPace A a1 a2 a3).1 h') : T_X0_setPace g (L 0) a1 a2 a3 o h c K KX := by
  unfold T_X0_setPace
  refine ⟨⟨_, R.x⟩, ek 2000 hc (kt_setPace R (by omega) (wr_O G V t ho (by decide) la_setPace hK fun i E hE h' hk => ?_))⟩
  match i, hE with
  | 0, hE => cases hE; exact Or.inr (⟨rfl, fun _ => hk⟩)
  | 1, hE => cases hE; exact Or.inl ⟨rfl, fun _ => hk⟩
  | n + 2, hE => cases hE
theorem w_setBounds {a1 a2 a3 : Int32} (G : lG L m o fa) (R : qkRep g L J h A) (V : lat g L J h (aLa A) v) (t : tw g m fa h S) (ho : h o = some (.inl (.inl (g.2.2.2.1 2, 1, .inr (.inl f))))) (hc : 2000 ≤ c) (hK : ∀ h', lC g L m o fa h' (kf_setBounds A a1 a2 a3).2.2 v S (kf_setBounds A a1 a2 a3).1 (kf_setBounds A a1 a2 a3).2.1 → K (kf_setBounds A a1 a2 a3).1 h') : T_X0_setBounds g (L 0) a1 a2 a3 o h c K KX := by
  unfold T_X0_setBounds
  refine ⟨⟨_, R.x⟩, ek 2000 hc (kt_setBounds R (by omega) (wr_O G V t ho (by decide) la_setBounds hK fun i E hE h' hk => ?_))⟩
  match i, hE with
  | 0, hE => cases hE; exact Or.inr (⟨rfl, fun _ => hk⟩)
  | 1, hE => cases hE; exact Or.inl ⟨rfl, fun _ => hk⟩
  | n + 2, hE => cases hE
theorem w_setLease {a1 a2 : Int32} (G : lG L m o fa) (R : qkRep g L J h A) (V : lat g L J h (aLa A) v) (t : tw g m fa h S) (ho : h o = some (.inl (.inl (g.2.2.2.1 2, 1, .inr (.inl f))))) (hc : 2000 ≤ c) (hK : ∀ h', lC g L m o fa h' (kf_setLease A a1 a2).2.2 v S (kf_setLease A a1 a2).1 (kf_setLease A a1 a2).2.1 → K (kf_setLease A a1 a2).1 h') : T_X0_setLease g (L 0) a1 a2 o h c K KX := by
  unfold T_X0_setLease
  refine ⟨⟨_, R.x⟩, ek 2000 hc (kt_setLease R (by omega) (wr_O G V t ho (by decide) la_setLease hK fun i E hE h' hk => ?_))⟩
  match i, hE with
  | 0, hE => cases hE; exact Or.inr (⟨rfl, fun _ => hk⟩)
  | 1, hE => cases hE; exact Or.inl ⟨rfl, fun _ => hk⟩
  | n + 2, hE => cases hE
theorem w_fail {a1 a2 a3 : Int32} (G : lG L m o fa) (R : qkRep g L J h A) (V : lat g L J h (aLa A) v) (t : tw g m fa h S) (ho : h o = some (.inl (.inl (g.2.2.2.1 2, 1, .inr (.inl f))))) (hd : a3 = 0 ∨ a3 = 1) (hc : 2000 ≤ c) (hK : ∀ h', lC g L m o fa h' (kf_fail A a1 a2 a3).2.2 v S (kf_fail A a1 a2 a3).1 (kf_fail A a1 a2 a3).2.1 → K (kf_fail A a1 a2 a3).1 h') : T_X0_fail g (L 0) a1 a2 a3 o h c K KX := by
  unfold T_X0_fail
  refine ⟨⟨_, R.x⟩, ek 2000 hc (kt_fail R hd (by omega) (wr_O G V t ho (by decide) la_fail hK fun i E hE h' hk => ?_))⟩
  match i, hE with
  | 0, hE => cases hE; exact Or.inr (⟨rfl, fun _ => hk⟩)
  | 1, hE => cases hE; exact Or.inl ⟨rfl, fun _ => hk⟩
  | n + 2, hE => cases hE
theorem w_pass {a1 : Int32} (G : lG L m o fa) (R : qkRep g L J h A) (V : lat g L J h (aLa A) v) (t : tw g m fa h S) (ho : h o = some (.inl (.inl (g.2.2.2.1 2, 1, .inr (.inl f))))) (hc : 2000 ≤ c) (hK : ∀ h', lC g L m o fa h' (kf_pass A a1).2.2 v S (kf_pass A a1).1 (kf_pass A a1).2.1 → K (kf_pass A a1).1 h') : T_X0_pass g (L 0) a1 o h c K KX := by
  unfold T_X0_pass
  refine ⟨⟨_, R.x⟩, ek 2000 hc (kt_pass R (by omega) (wr_O G V t ho (by decide) la_pass hK fun i E hE h' hk => ?_))⟩
  match i, hE with
  | 0, hE => cases hE; exact ⟨rfl, fun _ => hk⟩
  | n + 1, hE => cases hE
theorem w_seat {a1 : Int32} (G : lG L m o fa) (R : qkRep g L J h A) (V : lat g L J h (aLa A) v) (t : tw g m fa h S) (ho : h o = some (.inl (.inl (g.2.2.2.1 2, 1, .inr (.inl f))))) (hc : 2000 ≤ c) (hK : ∀ h', lC g L m o fa h' (kf_seat A a1).2.2 v S (kf_seat A a1).1 (kf_seat A a1).2.1 → K (kf_seat A a1).1 h') : T_X0_seat g (L 0) a1 o h c K KX := by
  unfold T_X0_seat
  refine ⟨⟨_, R.x⟩, ek 2000 hc (kt_seat R (by omega) (wr_O G V t ho (by decide) la_seat hK fun i E hE h' hk => ?_))⟩
  match i, hE with
  | 0, hE => cases hE; exact Or.inl ⟨rfl, fun _ => hk⟩
  | 1, hE => cases hE; exact Or.inr (⟨rfl, fun _ => hk⟩)
  | n + 2, hE => cases hE
theorem w_link {a1 a2 a3 a4 : Int32} (G : lG L m o fa) (R : qkRep g L J h A) (V : lat g L J h (aLa A) v) (t : tw g m fa h S) (ho : h o = some (.inl (.inl (g.2.2.2.1 2, 1, .inr (.inl f))))) (hsrc : ∀ (n : Nat) (v : Int32), (aSeat A)[n]? = some v → ∃ s, s < 6 ∧ v = nI s) (hc : 2000 ≤ c) (hK : ∀ h', lC g L m o fa h' (kf_link A a1 a2 a3 a4).2.2 v S (kf_link A a1 a2 a3 a4).1 (kf_link A a1 a2 a3 a4).2.1 → K (kf_link A a1 a2 a3 a4).1 h') : T_X0_link g (L 0) a1 a2 a3 a4 o h c K KX := by
  unfold T_X0_link
  refine ⟨⟨_, R.x⟩, ek 2000 hc (kt_link R hsrc (by omega) (wr_O G V t ho (by decide) la_link hK fun i E hE h' hk => ?_))⟩
  match i, hE with
  | 0, hE => cases hE; exact Or.inr (Or.inl ⟨rfl, fun _ => hk⟩)
  | 1, hE => cases hE; exact Or.inl ⟨rfl, fun _ => hk⟩
  | 2, hE => cases hE; exact Or.inr (Or.inr (⟨rfl, fun _ => hk⟩))
  | n + 3, hE => cases hE
theorem w_where {a1 a2 a3 a4 : Int32} (G : lG L m o fa) (R : qkRep g L J h A) (V : lat g L J h (aLa A) v) (t : tw g m fa h S) (ho : h o = some (.inl (.inl (g.2.2.2.1 2, 1, .inr (.inl f))))) (hsrc : ∀ (n : Nat) (v : Int32), (aSeat A)[n]? = some v → ∃ s, s < 6 ∧ v = nI s) (hc : 2000 ≤ c) (hK : ∀ h', lC g L m o fa h' (kf_where A a1 a2 a3 a4).2.2 v S (kf_where A a1 a2 a3 a4).1 (kf_where A a1 a2 a3 a4).2.1 → K (kf_where A a1 a2 a3 a4).1 h') : T_X0_where g (L 0) a1 a2 a3 a4 o h c K KX := by
  unfold T_X0_where
  refine ⟨⟨_, R.x⟩, ek 2000 hc (kt_where R hsrc (by omega) (wr_O G V t ho (by decide) la_where hK fun i E hE h' hk => ?_))⟩
  match i, hE with
  | 0, hE => cases hE; exact Or.inr (Or.inl ⟨rfl, fun _ => hk⟩)
  | 1, hE => cases hE; exact Or.inl ⟨rfl, fun _ => hk⟩
  | 2, hE => cases hE; exact Or.inr (Or.inr (⟨rfl, fun _ => hk⟩))
  | n + 3, hE => cases hE
theorem w_out {a1 a2 : Int32} (G : lG L m o fa) (R : qkRep g L J h A) (V : lat g L J h (aLa A) v) (t : tw g m fa h S) (ho : h o = some (.inl (.inl (g.2.2.2.1 2, 1, .inr (.inl f))))) (hsrc : ∀ (n : Nat) (v : Int32), (aSeat A)[n]? = some v → ∃ s, s < 6 ∧ v = nI s) (hc : 2000 ≤ c) (hK : ∀ h', lC g L m o fa h' (kf_outp A a1 a2).2.2 v S (kf_outp A a1 a2).1 (kf_outp A a1 a2).2.1 → K (kf_outp A a1 a2).1 h') : T_X0_out g (L 0) a1 a2 o h c K KX := by
  unfold T_X0_out
  refine ⟨⟨_, R.x⟩, ek 2000 hc (kt_out R hsrc (by omega) (wr_O G V t ho (by decide) la_outp hK fun i E hE h' hk => ?_))⟩
  match i, hE with
  | 0, hE => cases hE; exact Or.inl ⟨rfl, fun _ => hk⟩
  | 1, hE => cases hE; exact Or.inr (⟨rfl, fun _ => hk⟩)
  | n + 2, hE => cases hE
theorem w_step {a1 a2 a3 a4 a5 a6 : Int32} (G : lG L m o fa) (R : qkRep g L J h A) (V : lat g L J h (aLa A) v) (t : tw g m fa h S) (ho : h o = some (.inl (.inl (g.2.2.2.1 2, 1, .inr (.inl f))))) (hc : 2000 ≤ c) (hK : ∀ h', lC g L m o fa h' (kf_step2 A a1 a2 a3 a4 a5 a6).2.2 v S (kf_step2 A a1 a2 a3 a4 a5 a6).1 (kf_step2 A a1 a2 a3 a4 a5 a6).2.1 → K (kf_step2 A a1 a2 a3 a4 a5 a6).1 h') : T_X0_step g (L 0) a1 a2 a3 a4 a5 a6 o h c K KX := by
  unfold T_X0_step
  refine ⟨⟨_, R.x⟩, ek 2000 hc (kt_step2 R (by omega) (wr_O G V t ho (by decide) la_step hK fun i E hE h' hk => ?_))⟩
  match i, hE with
  | 0, hE => cases hE; exact Or.inr (Or.inl ⟨rfl, fun _ => hk⟩)
  | 1, hE => cases hE; exact Or.inl ⟨rfl, fun _ => hk⟩
  | 2, hE => cases hE; exact Or.inr (Or.inr (⟨rfl, fun _ => hk⟩))
  | n + 3, hE => cases hE
theorem w_count {a1 : Int32} (G : lG L m o fa) (R : qkRep g L J h A) (V : lat g L J h (aLa A) v) (t : tw g m fa h S) (ho : h o = some (.inl (.inl (g.2.2.2.1 2, 1, .inr (.inl f))))) (hc : 2000 ≤ c) (hK : ∀ h', lC g L m o fa h' A v S (kf_count A a1).1 (kf_count A a1).2 → K (kf_count A a1).1 h') : T_X0_count g (L 0) a1 o h c K KX := by
  unfold T_X0_count
  refine ⟨⟨_, R.x⟩, ek 2000 hc (kt_count R (by omega) (wr_P G R V t ho (by decide) hK fun i E hE hk => ?_))⟩
  match i, hE with
  | 0, hE => cases hE; exact ⟨rfl, fun _ => hk⟩
  | n + 1, hE => cases hE
theorem w_cell {a1 a2 a3 : Int32} (G : lG L m o fa) (R : qkRep g L J h A) (V : lat g L J h (aLa A) v) (t : tw g m fa h S) (ho : h o = some (.inl (.inl (g.2.2.2.1 2, 1, .inr (.inl f))))) (hc : 2000 ≤ c) (hK : ∀ h', lC g L m o fa h' A v S (kf_cell A a1 a2 a3).1 (kf_cell A a1 a2 a3).2 → K (kf_cell A a1 a2 a3).1 h') : T_X0_cell g (L 0) a1 a2 a3 o h c K KX := by
  unfold T_X0_cell
  refine ⟨⟨_, R.x⟩, ek 2000 hc (kt_cell R (by omega) (wr_P G R V t ho (by decide) hK fun i E hE hk => ?_))⟩
  match i, hE with
  | 0, hE => cases hE; exact ⟨rfl, fun _ => hk⟩
  | n + 1, hE => cases hE
theorem w_answer {a1 a2 : Int32} (G : lG L m o fa) (R : qkRep g L J h A) (V : lat g L J h (aLa A) v) (t : tw g m fa h S) (ho : h o = some (.inl (.inl (g.2.2.2.1 2, 1, .inr (.inl f))))) (hc : 2000 ≤ c) (hK : ∀ h', lC g L m o fa h' A v S (kf_cellOf v.1 a1 a2).1 (kf_cellOf v.1 a1 a2).2 → K (kf_cellOf v.1 a1 a2).1 h') : T_X0_answer g (L 0) a1 a2 o h c K KX := by
  unfold T_X0_answer
  refine ⟨⟨_, R.x⟩, ek 2000 hc (kt_answer R V.l (by omega) (wr_P G R V t ho (by decide) hK fun i E hE hk => ?_))⟩
  match i, hE with
  | 0, hE => cases hE; exact ⟨rfl, fun _ => hk⟩
  | n + 1, hE => cases hE
theorem w_taken {a1 : Int32} (G : lG L m o fa) (R : qkRep g L J h A) (V : lat g L J h (aLa A) v) (t : tw g m fa h S) (ho : h o = some (.inl (.inl (g.2.2.2.1 2, 1, .inr (.inl f))))) (hc : 2000 ≤ c) (hK : ∀ h', lC g L m o fa h' A v S (kf_takenAt v.2.2 a1).1 (kf_takenAt v.2.2 a1).2 → K (kf_takenAt v.2.2 a1).1 h') : T_X0_taken g (L 0) a1 o h c K KX := by
  unfold T_X0_taken
  refine ⟨⟨_, R.x⟩, ek 2000 hc (kt_taken R V.l (by omega) (wr_P G R V t ho (by decide) hK fun i E hE hk => ?_))⟩
  match i, hE with
  | 0, hE => cases hE; exact ⟨rfl, fun _ => hk⟩
  | n + 1, hE => cases hE
theorem w_size {a1 : Int32} (G : lG L m o fa) (R : qkRep g L J h A) (V : lat g L J h (aLa A) v) (t : tw g m fa h S) (ho : h o = some (.inl (.inl (g.2.2.2.1 2, 1, .inr (.inl f))))) (hc : 2000 ≤ c) (hK : ∀ h', lC g L m o fa h' A v S (if a1 < 0 ∨ ¬ a1 < 6 then ((1, 0) : Int32 × Int32) else (0, aSr A a1.toNatClampNeg 5)).1 (if a1 < 0 ∨ ¬ a1 < 6 then ((1, 0) : Int32 × Int32) else (0, aSr A a1.toNatClampNeg 5)).2 → K (if a1 < 0 ∨ ¬ a1 < 6 then ((1, 0) : Int32 × Int32) else (0, aSr A a1.toNatClampNeg 5)).1 h') : T_X0_size g (L 0) a1 o h c K KX := by
  unfold T_X0_size
  refine ⟨⟨_, R.x⟩, ek 2000 hc (kt_size R (by omega) (wr_P G R V t ho (by decide) hK fun i E hE hk => ?_))⟩
  match i, hE with
  | 0, hE => cases hE; exact ⟨rfl, fun _ => hk⟩
  | n + 1, hE => cases hE
end
