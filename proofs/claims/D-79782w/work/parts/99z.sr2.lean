/-! SR 2 (printed by gen3.py): the reference's public methods over the heap of level 1 -/
set_option maxRecDepth 100000
def T8_add (g : qh_G) (b : Nat) (a1 : Int32) (a2 : Int32) (a3 : Int32) (a4 : Int32) (a5 : Int32) (hp : qc_H) (K : Int32 → qc_H → Prop) : Prop := ∃ (fa : Nat → Nat) (S : qm_S), tw g b fa hp S ∧ T_X8_add a1 a2 a3 a4 a5 S (fun r S' => ∀ h', tw g b fa h' S' → twF b fa hp h' → K r h')
theorem C8_add {g : qh_G} {x : qc_X} {d : Nat} {sd : String → Nat → Nat} (_ : qc_O g x) (_ : qc_P g qp_ts sd) (b : Nat) (a1 : Int32) (a2 : Int32) (a3 : Int32) (a4 : Int32) (a5 : Int32) (hp : qc_H) (K : Int32 → qc_H → Prop) (hz : T8_add g b a1 a2 a3 a4 a5 hp K) : qc_S g x (d + 5) 0 I_X8_add [.ref b, .int a1, .int a2, .int a3, .int a4, .int a5] hp (oI K) := by
  obtain ⟨fa, S, ht, hz⟩ := hz
  refine qc_S.mono ?_ (tw_C ht (fun τ => C_X8_add (M := (g, τ, b, fa)) a1 a2 a3 a4 a5 S _ hz))
  rintro r h' ⟨v, S', rfl, ⟨r0, rfl, hk⟩, h1, h2⟩
  exact ⟨r0, rfl, hk h' h1 h2⟩
def T8_change (g : qh_G) (b : Nat) (a1 : Int32) (a2 : Int32) (a3 : Int32) (a4 : Int32) (hp : qc_H) (K : Int32 → qc_H → Prop) : Prop := ∃ (fa : Nat → Nat) (S : qm_S), tw g b fa hp S ∧ T_X8_change a1 a2 a3 a4 S (fun r S' => ∀ h', tw g b fa h' S' → twF b fa hp h' → K r h')
theorem C8_change {g : qh_G} {x : qc_X} {d : Nat} {sd : String → Nat → Nat} (_ : qc_O g x) (_ : qc_P g qp_ts sd) (b : Nat) (a1 : Int32) (a2 : Int32) (a3 : Int32) (a4 : Int32) (hp : qc_H) (K : Int32 → qc_H → Prop) (hz : T8_change g b a1 a2 a3 a4 hp K) : qc_S g x (d + 4) 0 I_X8_change [.ref b, .int a1, .int a2, .int a3, .int a4] hp (oI K) := by
  obtain ⟨fa, S, ht, hz⟩ := hz
  refine qc_S.mono ?_ (tw_C ht (fun τ => C_X8_change (M := (g, τ, b, fa)) a1 a2 a3 a4 S _ hz))
  rintro r h' ⟨v, S', rfl, ⟨r0, rfl, hk⟩, h1, h2⟩
  exact ⟨r0, rfl, hk h' h1 h2⟩
def T8_remove (g : qh_G) (b : Nat) (a1 : Int32) (a2 : Int32) (hp : qc_H) (K : Int32 → qc_H → Prop) : Prop := ∃ (fa : Nat → Nat) (S : qm_S), tw g b fa hp S ∧ T_X8_remove a1 a2 S (fun r S' => ∀ h', tw g b fa h' S' → twF b fa hp h' → K r h')
theorem C8_remove {g : qh_G} {x : qc_X} {d : Nat} {sd : String → Nat → Nat} (_ : qc_O g x) (_ : qc_P g qp_ts sd) (b : Nat) (a1 : Int32) (a2 : Int32) (hp : qc_H) (K : Int32 → qc_H → Prop) (hz : T8_remove g b a1 a2 hp K) : qc_S g x (d + 4) 0 I_X8_remove [.ref b, .int a1, .int a2] hp (oI K) := by
  obtain ⟨fa, S, ht, hz⟩ := hz
  refine qc_S.mono ?_ (tw_C ht (fun τ => C_X8_remove (M := (g, τ, b, fa)) a1 a2 S _ hz))
  rintro r h' ⟨v, S', rfl, ⟨r0, rfl, hk⟩, h1, h2⟩
  exact ⟨r0, rfl, hk h' h1 h2⟩
def T8_count (g : qh_G) (b : Nat) (a1 : Int32) (hp : qc_H) (K : Int32 → qc_H → Prop) : Prop := ∃ (fa : Nat → Nat) (S : qm_S), tw g b fa hp S ∧ T_X8_count a1 S (fun r S' => ∀ h', tw g b fa h' S' → twF b fa hp h' → K r h')
theorem C8_count {g : qh_G} {x : qc_X} {d : Nat} {sd : String → Nat → Nat} (_ : qc_O g x) (_ : qc_P g qp_ts sd) (b : Nat) (a1 : Int32) (hp : qc_H) (K : Int32 → qc_H → Prop) (hz : T8_count g b a1 hp K) : qc_S g x (d + 2) 0 I_X8_count [.ref b, .int a1] hp (oI K) := by
  obtain ⟨fa, S, ht, hz⟩ := hz
  refine qc_S.mono ?_ (tw_C ht (fun τ => C_X8_count (M := (g, τ, b, fa)) a1 S _ hz))
  rintro r h' ⟨v, S', rfl, ⟨r0, rfl, hk⟩, h1, h2⟩
  exact ⟨r0, rfl, hk h' h1 h2⟩
def T8_cell (g : qh_G) (b : Nat) (a1 : Int32) (a2 : Int32) (a3 : Int32) (hp : qc_H) (K : Int32 → qc_H → Prop) : Prop := ∃ (fa : Nat → Nat) (S : qm_S), tw g b fa hp S ∧ T_X8_cell a1 a2 a3 S (fun r S' => ∀ h', tw g b fa h' S' → twF b fa hp h' → K r h')
theorem C8_cell {g : qh_G} {x : qc_X} {d : Nat} {sd : String → Nat → Nat} (_ : qc_O g x) (_ : qc_P g qp_ts sd) (b : Nat) (a1 : Int32) (a2 : Int32) (a3 : Int32) (hp : qc_H) (K : Int32 → qc_H → Prop) (hz : T8_cell g b a1 a2 a3 hp K) : qc_S g x (d + 2) 0 I_X8_cell [.ref b, .int a1, .int a2, .int a3] hp (oI K) := by
  obtain ⟨fa, S, ht, hz⟩ := hz
  refine qc_S.mono ?_ (tw_C ht (fun τ => C_X8_cell (M := (g, τ, b, fa)) a1 a2 a3 S _ hz))
  rintro r h' ⟨v, S', rfl, ⟨r0, rfl, hk⟩, h1, h2⟩
  exact ⟨r0, rfl, hk h' h1 h2⟩
def T8_losses (g : qh_G) (b : Nat) (hp : qc_H) (K : Int32 → qc_H → Prop) : Prop := ∃ (fa : Nat → Nat) (S : qm_S), tw g b fa hp S ∧ T_X8_losses S (fun r S' => ∀ h', tw g b fa h' S' → twF b fa hp h' → K r h')
theorem C8_losses {g : qh_G} {x : qc_X} {d : Nat} {sd : String → Nat → Nat} (_ : qc_O g x) (_ : qc_P g qp_ts sd) (b : Nat) (hp : qc_H) (K : Int32 → qc_H → Prop) (hz : T8_losses g b hp K) : qc_S g x (d + 0) 0 I_X8_losses [.ref b] hp (oI K) := by
  obtain ⟨fa, S, ht, hz⟩ := hz
  refine qc_S.mono ?_ (tw_C ht (fun τ => C_X8_losses (M := (g, τ, b, fa)) S _ hz))
  rintro r h' ⟨v, S', rfl, ⟨r0, rfl, hk⟩, h1, h2⟩
  exact ⟨r0, rfl, hk h' h1 h2⟩
def T8_moment (g : qh_G) (b : Nat) (hp : qc_H) (K : Int32 → qc_H → Prop) : Prop := ∃ (fa : Nat → Nat) (S : qm_S), tw g b fa hp S ∧ T_X8_moment S (fun r S' => ∀ h', tw g b fa h' S' → twF b fa hp h' → K r h')
theorem C8_moment {g : qh_G} {x : qc_X} {d : Nat} {sd : String → Nat → Nat} (_ : qc_O g x) (_ : qc_P g qp_ts sd) (b : Nat) (hp : qc_H) (K : Int32 → qc_H → Prop) (hz : T8_moment g b hp K) : qc_S g x (d + 0) 0 I_X8_moment [.ref b] hp (oI K) := by
  obtain ⟨fa, S, ht, hz⟩ := hz
  refine qc_S.mono ?_ (tw_C ht (fun τ => C_X8_moment (M := (g, τ, b, fa)) S _ hz))
  rintro r h' ⟨v, S', rfl, ⟨r0, rfl, hk⟩, h1, h2⟩
  exact ⟨r0, rfl, hk h' h1 h2⟩
def T8_setPace (g : qh_G) (b : Nat) (a1 : Int32) (a2 : Int32) (a3 : Int32) (hp : qc_H) (K : Int32 → qc_H → Prop) : Prop := ∃ (fa : Nat → Nat) (S : qm_S), tw g b fa hp S ∧ T_X8_setPace a1 a2 a3 S (fun r S' => ∀ h', tw g b fa h' S' → twF b fa hp h' → K r h')
theorem C8_setPace {g : qh_G} {x : qc_X} {d : Nat} {sd : String → Nat → Nat} (_ : qc_O g x) (_ : qc_P g qp_ts sd) (b : Nat) (a1 : Int32) (a2 : Int32) (a3 : Int32) (hp : qc_H) (K : Int32 → qc_H → Prop) (hz : T8_setPace g b a1 a2 a3 hp K) : qc_S g x (d + 2) 0 I_X8_setPace [.ref b, .int a1, .int a2, .int a3] hp (oI K) := by
  obtain ⟨fa, S, ht, hz⟩ := hz
  refine qc_S.mono ?_ (tw_C ht (fun τ => C_X8_setPace (M := (g, τ, b, fa)) a1 a2 a3 S _ hz))
  rintro r h' ⟨v, S', rfl, ⟨r0, rfl, hk⟩, h1, h2⟩
  exact ⟨r0, rfl, hk h' h1 h2⟩
def T8_setBounds (g : qh_G) (b : Nat) (a1 : Int32) (a2 : Int32) (a3 : Int32) (hp : qc_H) (K : Int32 → qc_H → Prop) : Prop := ∃ (fa : Nat → Nat) (S : qm_S), tw g b fa hp S ∧ T_X8_setBounds a1 a2 a3 S (fun r S' => ∀ h', tw g b fa h' S' → twF b fa hp h' → K r h')
theorem C8_setBounds {g : qh_G} {x : qc_X} {d : Nat} {sd : String → Nat → Nat} (_ : qc_O g x) (_ : qc_P g qp_ts sd) (b : Nat) (a1 : Int32) (a2 : Int32) (a3 : Int32) (hp : qc_H) (K : Int32 → qc_H → Prop) (hz : T8_setBounds g b a1 a2 a3 hp K) : qc_S g x (d + 2) 0 I_X8_setBounds [.ref b, .int a1, .int a2, .int a3] hp (oI K) := by
  obtain ⟨fa, S, ht, hz⟩ := hz
  refine qc_S.mono ?_ (tw_C ht (fun τ => C_X8_setBounds (M := (g, τ, b, fa)) a1 a2 a3 S _ hz))
  rintro r h' ⟨v, S', rfl, ⟨r0, rfl, hk⟩, h1, h2⟩
  exact ⟨r0, rfl, hk h' h1 h2⟩
def T8_setLease (g : qh_G) (b : Nat) (a1 : Int32) (a2 : Int32) (hp : qc_H) (K : Int32 → qc_H → Prop) : Prop := ∃ (fa : Nat → Nat) (S : qm_S), tw g b fa hp S ∧ T_X8_setLease a1 a2 S (fun r S' => ∀ h', tw g b fa h' S' → twF b fa hp h' → K r h')
theorem C8_setLease {g : qh_G} {x : qc_X} {d : Nat} {sd : String → Nat → Nat} (_ : qc_O g x) (_ : qc_P g qp_ts sd) (b : Nat) (a1 : Int32) (a2 : Int32) (hp : qc_H) (K : Int32 → qc_H → Prop) (hz : T8_setLease g b a1 a2 hp K) : qc_S g x (d + 2) 0 I_X8_setLease [.ref b, .int a1, .int a2] hp (oI K) := by
  obtain ⟨fa, S, ht, hz⟩ := hz
  refine qc_S.mono ?_ (tw_C ht (fun τ => C_X8_setLease (M := (g, τ, b, fa)) a1 a2 S _ hz))
  rintro r h' ⟨v, S', rfl, ⟨r0, rfl, hk⟩, h1, h2⟩
  exact ⟨r0, rfl, hk h' h1 h2⟩
def T8_fail (g : qh_G) (b : Nat) (a1 : Int32) (a2 : Int32) (a3 : Int32) (hp : qc_H) (K : Int32 → qc_H → Prop) : Prop := ∃ (fa : Nat → Nat) (S : qm_S), tw g b fa hp S ∧ T_X8_fail a1 a2 a3 S (fun r S' => ∀ h', tw g b fa h' S' → twF b fa hp h' → K r h')
theorem C8_fail {g : qh_G} {x : qc_X} {d : Nat} {sd : String → Nat → Nat} (_ : qc_O g x) (_ : qc_P g qp_ts sd) (b : Nat) (a1 : Int32) (a2 : Int32) (a3 : Int32) (hp : qc_H) (K : Int32 → qc_H → Prop) (hz : T8_fail g b a1 a2 a3 hp K) : qc_S g x (d + 2) 0 I_X8_fail [.ref b, .int a1, .int a2, .int a3] hp (oI K) := by
  obtain ⟨fa, S, ht, hz⟩ := hz
  refine qc_S.mono ?_ (tw_C ht (fun τ => C_X8_fail (M := (g, τ, b, fa)) a1 a2 a3 S _ hz))
  rintro r h' ⟨v, S', rfl, ⟨r0, rfl, hk⟩, h1, h2⟩
  exact ⟨r0, rfl, hk h' h1 h2⟩
def T8_forbid (g : qh_G) (b : Nat) (a1 : Int32) (a2 : Int32) (a3 : Int32) (hp : qc_H) (K : Int32 → qc_H → Prop) : Prop := ∃ (fa : Nat → Nat) (S : qm_S), tw g b fa hp S ∧ T_X8_forbid a1 a2 a3 S (fun r S' => ∀ h', tw g b fa h' S' → twF b fa hp h' → K r h')
theorem C8_forbid {g : qh_G} {x : qc_X} {d : Nat} {sd : String → Nat → Nat} (_ : qc_O g x) (_ : qc_P g qp_ts sd) (b : Nat) (a1 : Int32) (a2 : Int32) (a3 : Int32) (hp : qc_H) (K : Int32 → qc_H → Prop) (hz : T8_forbid g b a1 a2 a3 hp K) : qc_S g x (d + 2) 0 I_X8_forbid [.ref b, .int a1, .int a2, .int a3] hp (oZ K) := by
  obtain ⟨fa, S, ht, hz⟩ := hz
  refine qc_S.mono ?_ (tw_C ht (fun τ => C_X8_forbid (M := (g, τ, b, fa)) a1 a2 a3 S _ hz))
  rintro r h' ⟨v, S', rfl, ⟨r0, rfl, hz0, hk⟩, h1, h2⟩
  exact ⟨r0, rfl, hz0, hk h' h1 h2⟩
def T8_pass (g : qh_G) (b : Nat) (a1 : Int32) (hp : qc_H) (K : Int32 → qc_H → Prop) : Prop := ∃ (fa : Nat → Nat) (S : qm_S), tw g b fa hp S ∧ T_X8_pass a1 S (fun r S' => ∀ h', tw g b fa h' S' → twF b fa hp h' → K r h')
theorem C8_pass {g : qh_G} {x : qc_X} {d : Nat} {sd : String → Nat → Nat} (_ : qc_O g x) (_ : qc_P g qp_ts sd) (b : Nat) (a1 : Int32) (hp : qc_H) (K : Int32 → qc_H → Prop) (hz : T8_pass g b a1 hp K) : qc_S g x (d + 3) 0 I_X8_pass [.ref b, .int a1] hp (oI K) := by
  obtain ⟨fa, S, ht, hz⟩ := hz
  refine qc_S.mono ?_ (tw_C ht (fun τ => C_X8_pass (M := (g, τ, b, fa)) a1 S _ hz))
  rintro r h' ⟨v, S', rfl, ⟨r0, rfl, hk⟩, h1, h2⟩
  exact ⟨r0, rfl, hk h' h1 h2⟩
def T8_now (g : qh_G) (b : Nat) (hp : qc_H) (K : Int32 → qc_H → Prop) : Prop := ∃ (fa : Nat → Nat) (S : qm_S), tw g b fa hp S ∧ T_X8_now S (fun r S' => ∀ h', tw g b fa h' S' → twF b fa hp h' → K r h')
theorem C8_now {g : qh_G} {x : qc_X} {d : Nat} {sd : String → Nat → Nat} (_ : qc_O g x) (_ : qc_P g qp_ts sd) (b : Nat) (hp : qc_H) (K : Int32 → qc_H → Prop) (hz : T8_now g b hp K) : qc_S g x (d + 0) 0 I_X8_now [.ref b] hp (oI K) := by
  obtain ⟨fa, S, ht, hz⟩ := hz
  refine qc_S.mono ?_ (tw_C ht (fun τ => C_X8_now (M := (g, τ, b, fa)) S _ hz))
  rintro r h' ⟨v, S', rfl, ⟨r0, rfl, hk⟩, h1, h2⟩
  exact ⟨r0, rfl, hk h' h1 h2⟩
def T8_seat (g : qh_G) (b : Nat) (a1 : Int32) (hp : qc_H) (K : Int32 → qc_H → Prop) : Prop := ∃ (fa : Nat → Nat) (S : qm_S), tw g b fa hp S ∧ T_X8_seat a1 S (fun r S' => ∀ h', tw g b fa h' S' → twF b fa hp h' → K r h')
theorem C8_seat {g : qh_G} {x : qc_X} {d : Nat} {sd : String → Nat → Nat} (_ : qc_O g x) (_ : qc_P g qp_ts sd) (b : Nat) (a1 : Int32) (hp : qc_H) (K : Int32 → qc_H → Prop) (hz : T8_seat g b a1 hp K) : qc_S g x (d + 2) 0 I_X8_seat [.ref b, .int a1] hp (oI K) := by
  obtain ⟨fa, S, ht, hz⟩ := hz
  refine qc_S.mono ?_ (tw_C ht (fun τ => C_X8_seat (M := (g, τ, b, fa)) a1 S _ hz))
  rintro r h' ⟨v, S', rfl, ⟨r0, rfl, hk⟩, h1, h2⟩
  exact ⟨r0, rfl, hk h' h1 h2⟩
def T8_link (g : qh_G) (b : Nat) (a1 : Int32) (a2 : Int32) (a3 : Int32) (a4 : Int32) (hp : qc_H) (K : Int32 → qc_H → Prop) : Prop := ∃ (fa : Nat → Nat) (S : qm_S), tw g b fa hp S ∧ T_X8_link a1 a2 a3 a4 S (fun r S' => ∀ h', tw g b fa h' S' → twF b fa hp h' → K r h')
theorem C8_link {g : qh_G} {x : qc_X} {d : Nat} {sd : String → Nat → Nat} (_ : qc_O g x) (_ : qc_P g qp_ts sd) (b : Nat) (a1 : Int32) (a2 : Int32) (a3 : Int32) (a4 : Int32) (hp : qc_H) (K : Int32 → qc_H → Prop) (hz : T8_link g b a1 a2 a3 a4 hp K) : qc_S g x (d + 3) 0 I_X8_link [.ref b, .int a1, .int a2, .int a3, .int a4] hp (oI K) := by
  obtain ⟨fa, S, ht, hz⟩ := hz
  refine qc_S.mono ?_ (tw_C ht (fun τ => C_X8_link (M := (g, τ, b, fa)) a1 a2 a3 a4 S _ hz))
  rintro r h' ⟨v, S', rfl, ⟨r0, rfl, hk⟩, h1, h2⟩
  exact ⟨r0, rfl, hk h' h1 h2⟩
def T8_where (g : qh_G) (b : Nat) (a1 : Int32) (a2 : Int32) (a3 : Int32) (a4 : Int32) (hp : qc_H) (K : Int32 → qc_H → Prop) : Prop := ∃ (fa : Nat → Nat) (S : qm_S), tw g b fa hp S ∧ T_X8_where a1 a2 a3 a4 S (fun r S' => ∀ h', tw g b fa h' S' → twF b fa hp h' → K r h')
theorem C8_where {g : qh_G} {x : qc_X} {d : Nat} {sd : String → Nat → Nat} (_ : qc_O g x) (_ : qc_P g qp_ts sd) (b : Nat) (a1 : Int32) (a2 : Int32) (a3 : Int32) (a4 : Int32) (hp : qc_H) (K : Int32 → qc_H → Prop) (hz : T8_where g b a1 a2 a3 a4 hp K) : qc_S g x (d + 3) 0 I_X8_where [.ref b, .int a1, .int a2, .int a3, .int a4] hp (oI K) := by
  obtain ⟨fa, S, ht, hz⟩ := hz
  refine qc_S.mono ?_ (tw_C ht (fun τ => C_X8_where (M := (g, τ, b, fa)) a1 a2 a3 a4 S _ hz))
  rintro r h' ⟨v, S', rfl, ⟨r0, rfl, hk⟩, h1, h2⟩
  exact ⟨r0, rfl, hk h' h1 h2⟩
def T8_out (g : qh_G) (b : Nat) (a1 : Int32) (a2 : Int32) (hp : qc_H) (K : Int32 → qc_H → Prop) : Prop := ∃ (fa : Nat → Nat) (S : qm_S), tw g b fa hp S ∧ T_X8_out a1 a2 S (fun r S' => ∀ h', tw g b fa h' S' → twF b fa hp h' → K r h')
theorem C8_out {g : qh_G} {x : qc_X} {d : Nat} {sd : String → Nat → Nat} (_ : qc_O g x) (_ : qc_P g qp_ts sd) (b : Nat) (a1 : Int32) (a2 : Int32) (hp : qc_H) (K : Int32 → qc_H → Prop) (hz : T8_out g b a1 a2 hp K) : qc_S g x (d + 3) 0 I_X8_out [.ref b, .int a1, .int a2] hp (oI K) := by
  obtain ⟨fa, S, ht, hz⟩ := hz
  refine qc_S.mono ?_ (tw_C ht (fun τ => C_X8_out (M := (g, τ, b, fa)) a1 a2 S _ hz))
  rintro r h' ⟨v, S', rfl, ⟨r0, rfl, hk⟩, h1, h2⟩
  exact ⟨r0, rfl, hk h' h1 h2⟩
def T8_shape (g : qh_G) (b : Nat) (a1 : Int32) (a2 : Int32) (hp : qc_H) (K : qc_H → Prop) : Prop := ∃ (fa : Nat → Nat) (S : qm_S), tw g b fa hp S ∧ T_X8_shape a1 a2 S (fun S' => ∀ h', tw g b fa h' S' → twF b fa hp h' → K h')
theorem C8_shape {g : qh_G} {x : qc_X} {d : Nat} {sd : String → Nat → Nat} (_ : qc_O g x) (_ : qc_P g qp_ts sd) (b : Nat) (a1 : Int32) (a2 : Int32) (hp : qc_H) (K : qc_H → Prop) (hz : T8_shape g b a1 a2 hp K) : qc_S g x (d + 1) 0 I_X8_shape [.ref b, .int a1, .int a2] hp (oV K) := by
  obtain ⟨fa, S, ht, hz⟩ := hz
  refine qc_S.mono ?_ (tw_C ht (fun τ => C_X8_shape (M := (g, τ, b, fa)) a1 a2 S _ hz))
  rintro r h' ⟨v, S', rfl, ⟨rfl, hk⟩, h1, h2⟩
  exact ⟨rfl, hk h' h1 h2⟩
def T8_clear (g : qh_G) (b : Nat) (hp : qc_H) (K : Int32 → qc_H → Prop) : Prop := ∃ (fa : Nat → Nat) (S : qm_S), tw g b fa hp S ∧ T_X8_clear S (fun r S' => ∀ h', tw g b fa h' S' → twF b fa hp h' → K r h')
theorem C8_clear {g : qh_G} {x : qc_X} {d : Nat} {sd : String → Nat → Nat} (_ : qc_O g x) (_ : qc_P g qp_ts sd) (b : Nat) (hp : qc_H) (K : Int32 → qc_H → Prop) (hz : T8_clear g b hp K) : qc_S g x (d + 0) 0 I_X8_clear [.ref b] hp (oI K) := by
  obtain ⟨fa, S, ht, hz⟩ := hz
  refine qc_S.mono ?_ (tw_C ht (fun τ => C_X8_clear (M := (g, τ, b, fa)) S _ hz))
  rintro r h' ⟨v, S', rfl, ⟨r0, rfl, hk⟩, h1, h2⟩
  exact ⟨r0, rfl, hk h' h1 h2⟩
def T8_ask (g : qh_G) (b : Nat) (a1 : Int32) (a2 : Int32) (hp : qc_H) (K : Int32 → qc_H → Prop) : Prop := ∃ (fa : Nat → Nat) (S : qm_S), tw g b fa hp S ∧ T_X8_ask a1 a2 S (fun r S' => ∀ h', tw g b fa h' S' → twF b fa hp h' → K r h')
theorem C8_ask {g : qh_G} {x : qc_X} {d : Nat} {sd : String → Nat → Nat} (_ : qc_O g x) (_ : qc_P g qp_ts sd) (b : Nat) (a1 : Int32) (a2 : Int32) (hp : qc_H) (K : Int32 → qc_H → Prop) (hz : T8_ask g b a1 a2 hp K) : qc_S g x (d + 8) 0 I_X8_ask [.ref b, .int a1, .int a2] hp (oI K) := by
  obtain ⟨fa, S, ht, hz⟩ := hz
  refine qc_S.mono ?_ (tw_C ht (fun τ => C_X8_ask (M := (g, τ, b, fa)) a1 a2 S _ hz))
  rintro r h' ⟨v, S', rfl, ⟨r0, rfl, hk⟩, h1, h2⟩
  exact ⟨r0, rfl, hk h' h1 h2⟩
def T8_answers (g : qh_G) (b : Nat) (hp : qc_H) (K : Int32 → qc_H → Prop) : Prop := ∃ (fa : Nat → Nat) (S : qm_S), tw g b fa hp S ∧ T_X8_answers S (fun r S' => ∀ h', tw g b fa h' S' → twF b fa hp h' → K r h')
theorem C8_answers {g : qh_G} {x : qc_X} {d : Nat} {sd : String → Nat → Nat} (_ : qc_O g x) (_ : qc_P g qp_ts sd) (b : Nat) (hp : qc_H) (K : Int32 → qc_H → Prop) (hz : T8_answers g b hp K) : qc_S g x (d + 0) 0 I_X8_answers [.ref b] hp (oI K) := by
  obtain ⟨fa, S, ht, hz⟩ := hz
  refine qc_S.mono ?_ (tw_C ht (fun τ => C_X8_answers (M := (g, τ, b, fa)) S _ hz))
  rintro r h' ⟨v, S', rfl, ⟨r0, rfl, hk⟩, h1, h2⟩
  exact ⟨r0, rfl, hk h' h1 h2⟩
def T8_answer (g : qh_G) (b : Nat) (a1 : Int32) (a2 : Int32) (hp : qc_H) (K : Int32 → qc_H → Prop) : Prop := ∃ (fa : Nat → Nat) (S : qm_S), tw g b fa hp S ∧ T_X8_answer a1 a2 S (fun r S' => ∀ h', tw g b fa h' S' → twF b fa hp h' → K r h')
theorem C8_answer {g : qh_G} {x : qc_X} {d : Nat} {sd : String → Nat → Nat} (_ : qc_O g x) (_ : qc_P g qp_ts sd) (b : Nat) (a1 : Int32) (a2 : Int32) (hp : qc_H) (K : Int32 → qc_H → Prop) (hz : T8_answer g b a1 a2 hp K) : qc_S g x (d + 1) 0 I_X8_answer [.ref b, .int a1, .int a2] hp (oI K) := by
  obtain ⟨fa, S, ht, hz⟩ := hz
  refine qc_S.mono ?_ (tw_C ht (fun τ => C_X8_answer (M := (g, τ, b, fa)) a1 a2 S _ hz))
  rintro r h' ⟨v, S', rfl, ⟨r0, rfl, hk⟩, h1, h2⟩
  exact ⟨r0, rfl, hk h' h1 h2⟩
def T8_missing (g : qh_G) (b : Nat) (hp : qc_H) (K : Int32 → qc_H → Prop) : Prop := ∃ (fa : Nat → Nat) (S : qm_S), tw g b fa hp S ∧ T_X8_missing S (fun r S' => ∀ h', tw g b fa h' S' → twF b fa hp h' → K r h')
theorem C8_missing {g : qh_G} {x : qc_X} {d : Nat} {sd : String → Nat → Nat} (_ : qc_O g x) (_ : qc_P g qp_ts sd) (b : Nat) (hp : qc_H) (K : Int32 → qc_H → Prop) (hz : T8_missing g b hp K) : qc_S g x (d + 0) 0 I_X8_missing [.ref b] hp (oI K) := by
  obtain ⟨fa, S, ht, hz⟩ := hz
  refine qc_S.mono ?_ (tw_C ht (fun τ => C_X8_missing (M := (g, τ, b, fa)) S _ hz))
  rintro r h' ⟨v, S', rfl, ⟨r0, rfl, hk⟩, h1, h2⟩
  exact ⟨r0, rfl, hk h' h1 h2⟩
def T8_claims (g : qh_G) (b : Nat) (hp : qc_H) (K : Int32 → qc_H → Prop) : Prop := ∃ (fa : Nat → Nat) (S : qm_S), tw g b fa hp S ∧ T_X8_claims S (fun r S' => ∀ h', tw g b fa h' S' → twF b fa hp h' → K r h')
theorem C8_claims {g : qh_G} {x : qc_X} {d : Nat} {sd : String → Nat → Nat} (_ : qc_O g x) (_ : qc_P g qp_ts sd) (b : Nat) (hp : qc_H) (K : Int32 → qc_H → Prop) (hz : T8_claims g b hp K) : qc_S g x (d + 0) 0 I_X8_claims [.ref b] hp (oI K) := by
  obtain ⟨fa, S, ht, hz⟩ := hz
  refine qc_S.mono ?_ (tw_C ht (fun τ => C_X8_claims (M := (g, τ, b, fa)) S _ hz))
  rintro r h' ⟨v, S', rfl, ⟨r0, rfl, hk⟩, h1, h2⟩
  exact ⟨r0, rfl, hk h' h1 h2⟩
def T8_cost (g : qh_G) (b : Nat) (hp : qc_H) (K : Int32 → qc_H → Prop) : Prop := ∃ (fa : Nat → Nat) (S : qm_S), tw g b fa hp S ∧ T_X8_cost S (fun r S' => ∀ h', tw g b fa h' S' → twF b fa hp h' → K r h')
theorem C8_cost {g : qh_G} {x : qc_X} {d : Nat} {sd : String → Nat → Nat} (_ : qc_O g x) (_ : qc_P g qp_ts sd) (b : Nat) (hp : qc_H) (K : Int32 → qc_H → Prop) (hz : T8_cost g b hp K) : qc_S g x (d + 0) 0 I_X8_cost [.ref b] hp (oI K) := by
  obtain ⟨fa, S, ht, hz⟩ := hz
  refine qc_S.mono ?_ (tw_C ht (fun τ => C_X8_cost (M := (g, τ, b, fa)) S _ hz))
  rintro r h' ⟨v, S', rfl, ⟨r0, rfl, hk⟩, h1, h2⟩
  exact ⟨r0, rfl, hk h' h1 h2⟩
def T8_attempts (g : qh_G) (b : Nat) (hp : qc_H) (K : Int32 → qc_H → Prop) : Prop := ∃ (fa : Nat → Nat) (S : qm_S), tw g b fa hp S ∧ T_X8_attempts S (fun r S' => ∀ h', tw g b fa h' S' → twF b fa hp h' → K r h')
theorem C8_attempts {g : qh_G} {x : qc_X} {d : Nat} {sd : String → Nat → Nat} (_ : qc_O g x) (_ : qc_P g qp_ts sd) (b : Nat) (hp : qc_H) (K : Int32 → qc_H → Prop) (hz : T8_attempts g b hp K) : qc_S g x (d + 0) 0 I_X8_attempts [.ref b] hp (oI K) := by
  obtain ⟨fa, S, ht, hz⟩ := hz
  refine qc_S.mono ?_ (tw_C ht (fun τ => C_X8_attempts (M := (g, τ, b, fa)) S _ hz))
  rintro r h' ⟨v, S', rfl, ⟨r0, rfl, hk⟩, h1, h2⟩
  exact ⟨r0, rfl, hk h' h1 h2⟩
def T8_shipped (g : qh_G) (b : Nat) (hp : qc_H) (K : Int32 → qc_H → Prop) : Prop := ∃ (fa : Nat → Nat) (S : qm_S), tw g b fa hp S ∧ T_X8_shipped S (fun r S' => ∀ h', tw g b fa h' S' → twF b fa hp h' → K r h')
theorem C8_shipped {g : qh_G} {x : qc_X} {d : Nat} {sd : String → Nat → Nat} (_ : qc_O g x) (_ : qc_P g qp_ts sd) (b : Nat) (hp : qc_H) (K : Int32 → qc_H → Prop) (hz : T8_shipped g b hp K) : qc_S g x (d + 0) 0 I_X8_shipped [.ref b] hp (oI K) := by
  obtain ⟨fa, S, ht, hz⟩ := hz
  refine qc_S.mono ?_ (tw_C ht (fun τ => C_X8_shipped (M := (g, τ, b, fa)) S _ hz))
  rintro r h' ⟨v, S', rfl, ⟨r0, rfl, hk⟩, h1, h2⟩
  exact ⟨r0, rfl, hk h' h1 h2⟩
def T8_taken (g : qh_G) (b : Nat) (a1 : Int32) (hp : qc_H) (K : Int32 → qc_H → Prop) : Prop := ∃ (fa : Nat → Nat) (S : qm_S), tw g b fa hp S ∧ T_X8_taken a1 S (fun r S' => ∀ h', tw g b fa h' S' → twF b fa hp h' → K r h')
theorem C8_taken {g : qh_G} {x : qc_X} {d : Nat} {sd : String → Nat → Nat} (_ : qc_O g x) (_ : qc_P g qp_ts sd) (b : Nat) (a1 : Int32) (hp : qc_H) (K : Int32 → qc_H → Prop) (hz : T8_taken g b a1 hp K) : qc_S g x (d + 1) 0 I_X8_taken [.ref b, .int a1] hp (oI K) := by
  obtain ⟨fa, S, ht, hz⟩ := hz
  refine qc_S.mono ?_ (tw_C ht (fun τ => C_X8_taken (M := (g, τ, b, fa)) a1 S _ hz))
  rintro r h' ⟨v, S', rfl, ⟨r0, rfl, hk⟩, h1, h2⟩
  exact ⟨r0, rfl, hk h' h1 h2⟩
def T8_size (g : qh_G) (b : Nat) (a1 : Int32) (hp : qc_H) (K : Int32 → qc_H → Prop) : Prop := ∃ (fa : Nat → Nat) (S : qm_S), tw g b fa hp S ∧ T_X8_size a1 S (fun r S' => ∀ h', tw g b fa h' S' → twF b fa hp h' → K r h')
theorem C8_size {g : qh_G} {x : qc_X} {d : Nat} {sd : String → Nat → Nat} (_ : qc_O g x) (_ : qc_P g qp_ts sd) (b : Nat) (a1 : Int32) (hp : qc_H) (K : Int32 → qc_H → Prop) (hz : T8_size g b a1 hp K) : qc_S g x (d + 2) 0 I_X8_size [.ref b, .int a1] hp (oI K) := by
  obtain ⟨fa, S, ht, hz⟩ := hz
  refine qc_S.mono ?_ (tw_C ht (fun τ => C_X8_size (M := (g, τ, b, fa)) a1 S _ hz))
  rintro r h' ⟨v, S', rfl, ⟨r0, rfl, hk⟩, h1, h2⟩
  exact ⟨r0, rfl, hk h' h1 h2⟩
def T8_entries (g : qh_G) (b : Nat) (hp : qc_H) (K : Int32 → qc_H → Prop) : Prop := ∃ (fa : Nat → Nat) (S : qm_S), tw g b fa hp S ∧ T_X8_entries S (fun r S' => ∀ h', tw g b fa h' S' → twF b fa hp h' → K r h')
theorem C8_entries {g : qh_G} {x : qc_X} {d : Nat} {sd : String → Nat → Nat} (_ : qc_O g x) (_ : qc_P g qp_ts sd) (b : Nat) (hp : qc_H) (K : Int32 → qc_H → Prop) (hz : T8_entries g b hp K) : qc_S g x (d + 0) 0 I_X8_entries [.ref b] hp (oI K) := by
  obtain ⟨fa, S, ht, hz⟩ := hz
  refine qc_S.mono ?_ (tw_C ht (fun τ => C_X8_entries (M := (g, τ, b, fa)) S _ hz))
  rintro r h' ⟨v, S', rfl, ⟨r0, rfl, hk⟩, h1, h2⟩
  exact ⟨r0, rfl, hk h' h1 h2⟩
def T8_answersAnew (g : qh_G) (b : Nat) (hp : qc_H) (K : Int32 → qc_H → Prop) : Prop := ∃ (fa : Nat → Nat) (S : qm_S), tw g b fa hp S ∧ T_X8_answersAnew S (fun r S' => ∀ h', tw g b fa h' S' → twF b fa hp h' → K r h')
theorem C8_answersAnew {g : qh_G} {x : qc_X} {d : Nat} {sd : String → Nat → Nat} (_ : qc_O g x) (_ : qc_P g qp_ts sd) (b : Nat) (hp : qc_H) (K : Int32 → qc_H → Prop) (hz : T8_answersAnew g b hp K) : qc_S g x (d + 5) 0 I_X8_answersAnew [.ref b] hp (oI K) := by
  obtain ⟨fa, S, ht, hz⟩ := hz
  refine qc_S.mono ?_ (tw_C ht (fun τ => C_X8_answersAnew (M := (g, τ, b, fa)) S _ hz))
  rintro r h' ⟨v, S', rfl, ⟨r0, rfl, hk⟩, h1, h2⟩
  exact ⟨r0, rfl, hk h' h1 h2⟩
def T8_answerAnew (g : qh_G) (b : Nat) (a1 : Int32) (a2 : Int32) (hp : qc_H) (K : Int32 → qc_H → Prop) : Prop := ∃ (fa : Nat → Nat) (S : qm_S), tw g b fa hp S ∧ T_X8_answerAnew a1 a2 S (fun r S' => ∀ h', tw g b fa h' S' → twF b fa hp h' → K r h')
theorem C8_answerAnew {g : qh_G} {x : qc_X} {d : Nat} {sd : String → Nat → Nat} (_ : qc_O g x) (_ : qc_P g qp_ts sd) (b : Nat) (a1 : Int32) (a2 : Int32) (hp : qc_H) (K : Int32 → qc_H → Prop) (hz : T8_answerAnew g b a1 a2 hp K) : qc_S g x (d + 5) 0 I_X8_answerAnew [.ref b, .int a1, .int a2] hp (oI K) := by
  obtain ⟨fa, S, ht, hz⟩ := hz
  refine qc_S.mono ?_ (tw_C ht (fun τ => C_X8_answerAnew (M := (g, τ, b, fa)) a1 a2 S _ hz))
  rintro r h' ⟨v, S', rfl, ⟨r0, rfl, hk⟩, h1, h2⟩
  exact ⟨r0, rfl, hk h' h1 h2⟩
def T8_step (g : qh_G) (b : Nat) (a1 : Int32) (a2 : Int32) (a3 : Int32) (a4 : Int32) (a5 : Int32) (a6 : Int32) (hp : qc_H) (K : Int32 → qc_H → Prop) : Prop := ∃ (fa : Nat → Nat) (S : qm_S), tw g b fa hp S ∧ T_X8_step a1 a2 a3 a4 a5 a6 S (fun r S' => ∀ h', tw g b fa h' S' → twF b fa hp h' → K r h')
theorem C8_step {g : qh_G} {x : qc_X} {d : Nat} {sd : String → Nat → Nat} (_ : qc_O g x) (_ : qc_P g qp_ts sd) (b : Nat) (a1 : Int32) (a2 : Int32) (a3 : Int32) (a4 : Int32) (a5 : Int32) (a6 : Int32) (hp : qc_H) (K : Int32 → qc_H → Prop) (hz : T8_step g b a1 a2 a3 a4 a5 a6 hp K) : qc_S g x (d + 2) 0 I_X8_step [.ref b, .int a1, .int a2, .int a3, .int a4, .int a5, .int a6] hp (oI K) := by
  obtain ⟨fa, S, ht, hz⟩ := hz
  refine qc_S.mono ?_ (tw_C ht (fun τ => C_X8_step (M := (g, τ, b, fa)) a1 a2 a3 a4 a5 a6 S _ hz))
  rintro r h' ⟨v, S', rfl, ⟨r0, rfl, hk⟩, h1, h2⟩
  exact ⟨r0, rfl, hk h' h1 h2⟩
def T8_run (g : qh_G) (b : Nat) (hp : qc_H) (K : Int32 → qc_H → Prop) : Prop := ∃ (fa : Nat → Nat) (S : qm_S), tw g b fa hp S ∧ T_X8_run S (fun r S' => ∀ h', tw g b fa h' S' → twF b fa hp h' → K r h')
theorem C8_run {g : qh_G} {x : qc_X} {d : Nat} {sd : String → Nat → Nat} (_ : qc_O g x) (_ : qc_P g qp_ts sd) (b : Nat) (hp : qc_H) (K : Int32 → qc_H → Prop) (hz : T8_run g b hp K) : qc_S g x (d + 7) 0 I_X8_run [.ref b] hp (oI K) := by
  obtain ⟨fa, S, ht, hz⟩ := hz
  refine qc_S.mono ?_ (tw_C ht (fun τ => C_X8_run (M := (g, τ, b, fa)) S _ hz))
  rintro r h' ⟨v, S', rfl, ⟨r0, rfl, hk⟩, h1, h2⟩
  exact ⟨r0, rfl, hk h' h1 h2⟩
def T8_thrown (g : qh_G) (b : Nat) (hp : qc_H) (K : Int32 → qc_H → Prop) : Prop := ∃ (fa : Nat → Nat) (S : qm_S), tw g b fa hp S ∧ ∀ h', tw g b fa h' S → twF b fa hp h' → K (f_X8_thrown S) h'
theorem C8_thrown {g : qh_G} {x : qc_X} {d : Nat} {sd : String → Nat → Nat} (_ : qc_O g x) (_ : qc_P g qp_ts sd) (b : Nat) (hp : qc_H) (K : Int32 → qc_H → Prop) (hz : T8_thrown g b hp K) : qc_S g x (d + 0) 0 I_X8_thrown [.ref b] hp (oI K) := by
  obtain ⟨fa, S, ht, hz⟩ := hz
  refine qc_S.mono ?_ (tw_C ht (P := fun v S' => v = some (.int (f_X8_thrown S)) ∧ S' = S) (fun τ => C_X8_thrown (M := (g, τ, b, fa)) S _ ⟨rfl, rfl⟩))
  rintro r h' ⟨v, S', rfl, ⟨rfl, rfl⟩, h1, h2⟩
  exact ⟨_, rfl, hz h' h1 h2⟩
