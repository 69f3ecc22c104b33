/-! SR 8: the law's wrappers, told by the component -/
set_option maxRecDepth 100000
section
variable {A : qkA}
theorem la_add {a b c d e : Int32} : aLa (kf_add A a b c d e).2.2 = aLa A := by
  unfold kf_add
  repeat' split
  all_goals rfl
theorem la_change {a b c d : Int32} : aLa (kf_change A a b c d).2.2 = aLa A := by
  unfold kf_change
  repeat' split
  all_goals rfl
theorem la_remove {a b : Int32} : aLa (kf_remove A a b).2.2 = aLa A := by
  unfold kf_remove
  repeat' split
  all_goals rfl
theorem la_setPace {a b c : Int32} : aLa (kf_setPace A a b c).2.2 = aLa A := by
  unfold kf_setPace
  repeat' split
  all_goals rfl
theorem la_setBounds {a b c : Int32} : aLa (kf_setBounds A a b c).2.2 = aLa A := by
  unfold kf_setBounds
  repeat' split
  all_goals rfl
theorem la_setLease {a b : Int32} : aLa (kf_setLease A a b).2.2 = aLa A := by
  unfold kf_setLease
  repeat' split
  all_goals rfl
theorem la_fail {a b c : Int32} : aLa (kf_fail A a b c).2.2 = aLa A := by
  unfold kf_fail
  repeat' split
  all_goals rfl
theorem la_forbid {a b c : Int32} : aLa (kf_forbid A a b c).2.2 = aLa A := by
  unfold kf_forbid
  repeat' split
  all_goals rfl
theorem la_pass {a : Int32} : aLa (kf_pass A a).2.2 = aLa A := by
  unfold kf_pass
  repeat' split
  all_goals rfl
theorem la_seat {a : Int32} : aLa (kf_seat A a).2.2 = aLa A := by
  unfold kf_seat
  repeat' split
  all_goals rfl
theorem la_link {a b c d : Int32} : aLa (kf_link A a b c d).2.2 = aLa A := by
  unfold kf_link
  repeat' split
  all_goals rfl
theorem la_where {a b c d : Int32} : aLa (kf_where A a b c d).2.2 = aLa A := by
  unfold kf_where
  repeat' split
  all_goals rfl
theorem la_outp {a b : Int32} : aLa (kf_outp A a b).2.2 = aLa A := by
  unfold kf_outp
  repeat' split
  all_goals rfl
theorem la_step {k s a b c d : Int32} : aLa (kf_step2 A k s a b c d).2.2 = aLa A := by
  unfold kf_step2
  repeat' split
  all_goals rfl
end
section
variable {g : qh_G} {L : Nat → Nat} {m o : Nat} {fa : Nat → Nat} {J h : qc_H} {A : qkA} {v : qkAns} {S : qm_S} {c : Nat} {f : Nat → Int64} {K : Int32 → qc_H → Prop} {KX : String → qc_H → Prop}
theorem w_add {a1 a2 a3 a4 a5 : Int32} (G : lG L m o fa) (R : qkRep g L J h A) (V : lat g L J h (aLa A) v) (t : tw g m fa h S) (ho : h o = some (.inl (.inl (g.2.2.2.1 2, 1, .inr (.inl f))))) (hw : qkWb 600 A) (hc : 2000 ≤ c) (hK : ∀ h', lC g L m o fa h' (kf_add A a1 a2 a3 a4 a5).2.2 v S (kf_add A a1 a2 a3 a4 a5).1 (kf_add A a1 a2 a3 a4 a5).2.1 → K (kf_add A a1 a2 a3 a4 a5).1 h') : T_X0_add g (L 0) a1 a2 a3 a4 a5 o h c K KX := by
  unfold T_X0_add
  refine ⟨⟨_, R.x⟩, ek 2000 hc (kt_add (e0 := 1900) R hw.1 hw.2 (fun _ => rfl) (by omega) (wr_O G V t ho (by decide) la_add hK fun i E hE h' hk => ?_))⟩
  match i, hE with
  | 0, hE => cases hE; exact Or.inr (Or.inl ⟨rfl, fun _ => hk⟩)
  | 1, hE => cases hE; exact Or.inl ⟨rfl, fun _ => hk⟩
  | 2, hE => cases hE; exact Or.inr (Or.inr ⟨rfl, fun _ => hk⟩)
  | n + 3, hE => cases hE
end
