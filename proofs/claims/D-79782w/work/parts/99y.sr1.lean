/-! SR 1: the law's heap: the reference beside the component; calls of a static method with handlers; cells of long[] -/
set_option maxRecDepth 100000
section
variable {g : qh_G} {d c : Nat} {I : qh_I} {cc : ByteArray} {pc : Nat} {ls : List (Option Value)} {st : List Value} {τ : qh_H} {Q : qh_R → qh_H → Prop}
theorem qh_callSX {own : String} {J : qh_I} {n index k : Nat} {As stk rest : List Value} (e : I.2.1 = cc) (ho : I.1.cls = own) (hJ : qh_M J n) (h0 : qh_hd J = Cond.codeWith J.1 J.2.1 J.2.2.1 J.2.2.2.1 J.2.2.2.2) (q1 : Cond.methodLink own index J.1 ∈ lw_all) (q2 : Cond.static J.1 ∈ lw_all) (hn : As.length = n) (hs : stk = As.reverse ++ rest) (hw : (rest.map fun v => v.category).sum ≤ 8) (hd : decode cc pc = .ok (.invokestatic index, 3))
    (kk : qh_S g d k J As τ (qh_K1 g (d + 1) c I pc 3 ls rest Q)) : qh_wp g (d + 1) (c + k) I pc ls stk τ Q := by
  intro p e0 s m args below meth cd lsA ws H locs cells slots mc C hl hc hT hP hD hS h1 h2
  subst hs
  have hts := C.2.2.2.2.2.2.1
  have hJh : Cond.codeWith J.1 J.2.1 J.2.2.1 J.2.2.2.1 J.2.2.2.2 ∈ lw_all := by rw [← h0]; exact hJ.2.2.2.2.1
  exact qh_after (k := k) (rest := rest) (vx_runSX (Ts := lw_all) (As := As) (rest := rest) ⟨C.1, C.2.1.trans e, C.2.2.2.2.1, ho ▸ C.2.2.2.2.2.1, hts⟩ kk (by
    rw [h0]
    exact vx_cwSW n hts (lw_SW q1 q2 hJ.2.2.2.1 hJh) rfl rfl rfl ⟨hJ.1, hJ.2.1, hJ.2.2.1⟩ (qh_rm hJ.2.2.2.2.2)) ⟨qh_bl, qh_at C hT hP hD hS⟩ rfl hn hl.1 rfl (lv_room hw) hd (qh_rc h1 h2)) C hl hc hS h1 h2
end
section
variable {g : qh_G} {x : qc_X} {d c : Nat} {I : qh_I} {cc : ByteArray} {pc : Nat} {ls : List (Option Value)} {st : List Value} {h : qc_H} {Q : qh_R → qc_H → Prop}
theorem qc_callSX {own : String} {J : qh_I} {n index k : Nat} {As stk rest : List Value} (e : I.2.1 = cc) (ho : I.1.cls = own) (hJ : qh_M J n) (h0 : qh_hd J = Cond.codeWith J.1 J.2.1 J.2.2.1 J.2.2.2.1 J.2.2.2.2) (q1 : Cond.methodLink own index J.1 ∈ lw_all) (q2 : Cond.static J.1 ∈ lw_all) (hn : As.length = n) (hs : stk = As.reverse ++ rest) (hw : (rest.map fun v => v.category).sum ≤ 8) (hd : decode cc pc = .ok (.invokestatic index, 3))
    (kk : qc_S g x d k J As h (qc_K1 g x (d + 1) c I pc 3 ls rest Q)) : qc_wp g x (d + 1) (c + k) I pc ls stk h Q := fun τ hR => qh_callSX e ho hJ h0 q1 q2 hn hs hw hd ((kk τ hR).mono fun _ _ z => qc_K1.to z)
/-- a cell of a long[] -/
def eLL (cA : Nat → ClassId) (h : qc_H) (a : Nat) (i : Int32) (K : Int64 → Prop) : Prop := ∃ (n : Nat) (f : Nat → Int64), h a = some (.inl (.inl (cA 2, n, .inr (.inl f)))) ∧ vp_in i n ∧ K (f i.toNatClampNeg)
def eLW (cA : Nat → ClassId) (h : qc_H) (a : Nat) (i : Int32) (v : Int64) (K : qc_H → Prop) : Prop := ∃ (n : Nat) (f : Nat → Int64), h a = some (.inl (.inl (cA 2, n, .inr (.inl f)))) ∧ vp_in i n ∧ K (qc_up h a (.inl (.inl (cA 2, n, .inr (.inl (vp_updL f i.toNatClampNeg v))))))
theorem re_lald {a : Nat} {i : Int32} {K : Int64 → Prop} (e : I.2.1 = cc) (hd : decode cc pc = .ok (.laload, 1)) (hh : eLL g.2.2.2.1 h a i K) (kk : ∀ v, K v → qc_wp g x d c I (pc + 1) ls (.long v :: st) h Q) : qc_wp g x d c I pc ls (.int i :: .ref a :: st) h Q := by
  obtain ⟨n, f, h1, h2, h3⟩ := hh
  exact qc_lald e h1 h2 hd (kk _ h3)
theorem re_last {a : Nat} {i : Int32} {v : Int64} {K : qc_H → Prop} (e : I.2.1 = cc) (hd : decode cc pc = .ok (.lastore, 1)) (hh : eLW g.2.2.2.1 h a i v K) (kk : ∀ h', K h' → qc_wp g x d c I (pc + 1) ls st h' Q) : qc_wp g x d c I pc ls (.long v :: .int i :: .ref a :: st) h Q := by
  obtain ⟨n, f, h1, h2, h3⟩ := hh
  exact qc_last e h1 h2 hd (kk _ h3)
/-- the reference at a, its arrays at fa, in the heap h -/
def tw (g : qh_G) (a : Nat) (fa : Nat → Nat) (h : qc_H) (S : qm_S) : Prop := h a = some (.inl (.inr (7, qm_fs fa S.1))) ∧ (∀ k, k ∈ qm_ar → h (fa k) = some (.inl (.inl (g.2.2.2.1 (qm_ty k), qm_len k, .inl (S.2 k))))) ∧ ∀ j k, j ∈ qm_ar → k ∈ qm_ar → fa j = fa k → j = k
/-- all but the reference stands as it was -/
def twF (a : Nat) (fa : Nat → Nat) (h h' : qc_H) : Prop := ∀ b, b ≠ a → (∀ k, k ∈ qm_ar → b ≠ fa k) → h' b = h b
theorem tw_C {a : Nat} {fa : Nat → Nat} {As : List Value} {S : qm_S} {P : Option Value → qm_S → Prop} (ht : tw g a fa h S) (C : ∀ τ : qh_H, qm_C (g, τ, a, fa) d I As S P) : qc_S g x d 0 I As h (fun r h' => ∃ v S', r = .inl v ∧ P v S' ∧ tw g a fa h' S' ∧ twF a fa h h') := by
  classical
  intro τ hR
  obtain ⟨ow, r1, r2, r3⟩ := hR
  obtain ⟨t1, t2, t3⟩ := ht
  have ea : ow a = none ∧ τ a = some (.inr (7, qm_fs fa S.1)) := by
    obtain ⟨o, e | ⟨_, k, _, _, e⟩⟩ := r1 a _ t1
    · exact ⟨o, e⟩
    · injection e with e
      injection e with e _
      exact absurd e (by decide)
  have ek : ∀ k, k ∈ qm_ar → ow (fa k) = none ∧ τ (fa k) = some (.inl (g.2.2.2.1 (qm_ty k), qm_len k, .inl (S.2 k))) := by
    intro k hk
    obtain ⟨o, e | ⟨_, _, _, _, e⟩⟩ := r1 (fa k) _ (t2 k hk)
    · exact ⟨o, e⟩
    · cases e
  refine (C τ τ ⟨ea.2, fun k hk => (ek k hk).2, t3, fun _ _ _ => rfl⟩).mono ?_
  rintro r t ⟨v, S', rfl, ⟨m1, m2, _, m4⟩, hP⟩
  have m1 : t a = some (.inr (7, qm_fs fa S'.1)) := m1
  have m2 : ∀ k, k ∈ qm_ar → t (fa k) = some (.inl (g.2.2.2.1 (qm_ty k), qm_len k, .inl (S'.2 k))) := m2
  have m4 : ∀ b, b ≠ a → (∀ k, k ∈ qm_ar → b ≠ fa k) → t b = τ b := m4
  let T : Nat → Prop := fun b => b = a ∨ ∃ k, k ∈ qm_ar ∧ b = fa k
  let h' : qc_H := fun b => if T b then (t b).map Sum.inl else h b
  have hT : ∀ b, T b → h' b = (t b).map Sum.inl := fun b hb => if_pos hb
  have hN : ∀ b, ¬ T b → h' b = h b ∧ t b = τ b := fun b hb => ⟨if_neg hb, m4 b (fun z => hb (Or.inl z)) (fun k hk z => hb (Or.inr ⟨k, hk, z⟩))⟩
  have hTo : ∀ b, T b → ow b = none := by
    rintro b (rfl | ⟨k, hk, rfl⟩)
    · exact ea.1
    · exact (ek k hk).1
  have hTt : ∀ b, T b → ∃ e, t b = some e := by
    rintro b (rfl | ⟨k, hk, rfl⟩)
    · exact ⟨_, m1⟩
    · exact ⟨_, m2 k hk⟩
  refine ⟨h', ⟨ow, fun b e hb => ?_, fun p xs hp => ?_, fun b p hb => ?_⟩, v, S', rfl, hP, ⟨?_, fun k hk => ?_, t3⟩, fun b h1 h2 => (hN b (fun z => ?_)).1⟩
  · by_cases z : T b
    · rw [hT b z] at hb
      refine ⟨hTo b z, Or.inl ?_⟩
      obtain ⟨e2, he2⟩ := hTt b z
      rw [he2] at hb ⊢
      injection hb with hb
      injection hb with hb
      rw [hb]
    · rw [(hN b z).1] at hb
      rw [(hN b z).2]
      exact r1 b e hb
  · have z : ¬ T p := by
      intro z
      rw [hT p z] at hp
      obtain ⟨e2, he2⟩ := hTt p z
      rw [he2] at hp
      cases hp
    rw [(hN p z).1] at hp
    obtain ⟨o, hy, m, ef, e1, e2⟩ := r2 p xs hp
    refine ⟨o, fun y hyx => ?_, m, ef, by rw [(hN p z).2]; exact e1, ?_⟩
    · obtain ⟨e, he, hok⟩ := hy y hyx
      by_cases zy : T y
      · rcases zy with rfl | ⟨k, hk, rfl⟩
        · rw [t1] at he
          injection he with he
          subst he
          exact absurd (show (7 : Nat) = 8 ∨ (7 : Nat) = 9 ∨ (7 : Nat) = 10 ∨ (7 : Nat) = 11 ∨ (7 : Nat) = 12 ∨ (7 : Nat) = 14 ∨ (7 : Nat) = 15 ∨ (7 : Nat) = 17 from hok) (by decide)
        · refine ⟨.inl (.inl (g.2.2.2.1 (qm_ty k), qm_len k, .inl (S'.2 k))), ?_, ?_⟩
          · rw [hT _ (Or.inr ⟨k, hk, rfl⟩), m2 k hk]
            rfl
          · rw [t2 k hk] at he
            injection he with he
            subst he
            exact hok
      · exact ⟨e, by rw [(hN y zy).1]; exact he, hok⟩
    · rcases e2 with e2 | ⟨cap, f, q1, q2, q3⟩
      · exact Or.inl e2
      · have zf : ¬ T ef := fun z => by
          have := hTo ef z
          rw [q1] at this
          cases this
        exact Or.inr ⟨cap, f, q1, by rw [(hN ef zf).2]; exact q2, q3⟩
  · have z : ¬ T b := fun z => by
      have := hTo b z
      rw [hb] at this
      cases this
    rw [(hN b z).2]
    exact r3 b p hb
  · rw [hT a (Or.inl rfl), m1]
    rfl
  · rw [hT _ (Or.inr ⟨k, hk, rfl⟩), m2 k hk]
    rfl
  · rcases z with z | ⟨k, hk, z⟩
    · exact h1 z
    · exact h2 k hk z
end
