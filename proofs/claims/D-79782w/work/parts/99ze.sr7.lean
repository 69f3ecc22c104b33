/-! SR 7: what holds between the law's calls -/
set_option maxRecDepth 100000
/-- the guests by number: 41 the reference, 42 the long[], 43 + k the reference's array k -/
def lG (L : Nat → Nat) (m o : Nat) (fa : Nat → Nat) : Prop := L 41 = m ∧ L 42 = o ∧ (∀ k, k ∈ qm_ar → L (43 + k) = fa k) ∧ (∀ n, 41 ≤ n → n < 200 → n ≠ 42 → L n = m ∨ ∃ k, k ∈ qm_ar ∧ L n = fa k) ∧ gD L ∧ o ≠ m ∧ ∀ k, k ∈ qm_ar → o ≠ fa k
theorem ar_94 : ∀ k, k ∈ qm_ar → k < 94 := by decide
section
variable {g : qh_G} {L : Nat → Nat} {m o : Nat} {fa : Nat → Nat} {h h' : qc_H} {A : qkA} {v : qkAns} {S S' : qm_S}
theorem lG.gk (G : lG L m o fa) (ht : tw g m fa h S) {f : Nat → Int64} (ho : h o = some (.inl (.inl (g.2.2.2.1 2, 1, .inr (.inl f))))) : gK L h := by
  intro n h1 h2
  by_cases e : n = 42
  · rw [e, G.2.1]
    exact Or.inl ⟨_, ho⟩
  · rcases G.2.2.2.1 n h1 h2 e with z | ⟨k, hk, z⟩
    · rw [z]
      exact Or.inr ⟨_, ht.1⟩
    · rw [z]
      exact Or.inl ⟨_, ht.2.1 k hk⟩
theorem lG.nm (G : lG L m o fa) {b : Nat} (hb : qkN L b) : b ≠ m ∧ b ≠ o ∧ ∀ k, k ∈ qm_ar → b ≠ fa k := ⟨fun z => hb 41 (by decide) (by decide) (by rw [z, G.1]), fun z => hb 42 (by decide) (by decide) (by rw [z, G.2.1]), fun k hk z => hb (43 + k) (by omega) (by have := ar_94 k hk; omega) (by rw [z, G.2.2.1 k hk])⟩
/-- behind a call of the component: what it holds, and what it told -/
def lC (g : qh_G) (L : Nat → Nat) (m o : Nat) (fa : Nat → Nat) (h : qc_H) (A : qkA) (v : qkAns) (S : qm_S) (e x : Int32) : Prop := ∃ (J : qc_H) (f : Nat → Int64), qkRep g L J h A ∧ lat g L J h (aLa A) v ∧ tw g m fa h S ∧ h o = some (.inl (.inl (g.2.2.2.1 2, 1, .inr (.inl f)))) ∧ (e = 0 → f 0 = Int32.toInt64 x)
/-- a call of the reference behind it -/
theorem lC.twin {e x : Int32} (G : lG L m o fa) (C : lC g L m o fa h A v S e x) (ht : tw g m fa h' S') (hf : twF m fa h h') : lC g L m o fa h' A v S' e x := by
  obtain ⟨J, f, R, V, t, ho, hx⟩ := C
  have ho' : h' o = some (.inl (.inl (g.2.2.2.1 2, 1, .inr (.inl f)))) := by rw [hf o G.2.2.2.2.2.1 G.2.2.2.2.2.2]; exact ho
  have hg : gF L h h' := fun b hb => hf b (G.nm hb).1 (G.nm hb).2.2
  exact ⟨J, f, rep_guest R G.2.2.2.2.1 (G.gk t ho) (G.gk ht ho') hg, V.guest (G.gk t ho) hg, ht, ho', hx⟩
/-- the answer, laid into the long[] -/
theorem lC.put {J : qc_H} {f : Nat → Int64} {x : Int32} {K : qc_H → Prop} (G : lG L m o fa) (R : qkRep g L J h A) (V : lat g L J h (aLa A) v) (t : tw g m fa h S) (ho : h o = some (.inl (.inl (g.2.2.2.1 2, 1, .inr (.inl f))))) (hk : ∀ h', lC g L m o fa h' A v S 0 x → K h') : eLW g.2.2.2.1 h o 0 (Int32.toInt64 x) K := by
  have hne : ∀ b, qkN L b → b ≠ o := fun b hb => (G.nm hb).2.1
  refine ⟨1, f, ho, pk_in 0 1 (by omega), hk _ ?_⟩
  have ht : tw g m fa (qc_up h o (.inl (.inl (g.2.2.2.1 2, 1, .inr (.inl (vp_updL f (0 : Int32).toNatClampNeg (Int32.toInt64 x))))))) S := ⟨by rw [qc_up_n (Ne.symm G.2.2.2.2.2.1)]; exact t.1, fun k hk => by rw [qc_up_n (Ne.symm (G.2.2.2.2.2.2 k hk))]; exact t.2.1 k hk, t.2.2⟩
  have hg : gF L h (qc_up h o (.inl (.inl (g.2.2.2.1 2, 1, .inr (.inl (vp_updL f (0 : Int32).toNatClampNeg (Int32.toInt64 x))))))) := fun b hb => qc_up_n (hne b hb)
  exact ⟨J, _, rep_guest R G.2.2.2.2.1 (G.gk t ho) (G.gk ht qc_up_s) hg, V.guest (G.gk t ho) hg, ht, qc_up_s, fun _ => rfl⟩
/-- a call of the component, its frame told -/
theorem lC.fr {J J' : qc_H} {f : Nat → Int64} {A' : qkA} (G : lG L m o fa) (V : lat g L J h (aLa A) v) (t : tw g m fa h S) (ho : h o = some (.inl (.inl (g.2.2.2.1 2, 1, .inr (.inl f))))) (hJ : qkJ J J') (hF : qkFr L h h') (R' : qkRep g L J' h' A') (hla : aLa A' = aLa A) : lat g L J' h' (aLa A') v ∧ tw g m fa h' S ∧ h' o = some (.inl (.inl (g.2.2.2.1 2, 1, .inr (.inl f)))) := by
  obtain ⟨_, hE⟩ := (G.gk t ho).fr G.2.2.2.2.1 hF
  refine ⟨by rw [hla]; exact V.mono hJ hF, ⟨?_, fun k hk => ?_, t.2.2⟩, ?_⟩
  · have := hE 41 (by decide) (by decide)
    rw [G.1] at this
    rw [this]
    exact t.1
  · have := hE (43 + k) (by omega) (by have := ar_94 k hk; omega)
    rw [G.2.2.1 k hk] at this
    rw [this]
    exact t.2.1 k hk
  · have := hE 42 (by decide) (by decide)
    rw [G.2.1] at this
    rw [this]
    exact ho
/-- a wrapper round a call that answers r -/
theorem wr_O {J : qc_H} {f : Nat → Int64} {r : Int32 × Int32 × qkA} {xs : List String} {K : Int32 → qc_H → Prop} {KX : String → qc_H → Prop} (G : lG L m o fa) (V : lat g L J h (aLa A) v) (t : tw g m fa h S) (ho : h o = some (.inl (.inl (g.2.2.2.1 2, 1, .inr (.inl f))))) (hxl : xs.length ≤ 3) (hla : aLa r.2.2 = aLa A) (hK : ∀ h', lC g L m o fa h' r.2.2 v S r.1 r.2.1 → K r.1 h') (hx : ∀ (i : Nat) (E : String), xs[i]? = some E → ∀ h', K (nI (i + 1)) h' → KX E h') :
    kO g L J h r xs (fun r3 h4 => eLW g.2.2.2.1 h4 o 0 (Int32.toInt64 r3) (fun h9 => K 0 h9)) KX := by
  intro J' h' hJ hF R'
  obtain ⟨V', t', ho'⟩ := lC.fr G V t ho hJ.1 hF R' hla
  refine ⟨fun e0 => lC.put G R' V' t' ho' (fun h2 c2 => ?_), fun i E hE ei => hx i E hE h' ?_⟩
  · have := hK h2 (by rw [e0]; exact c2)
    rw [e0] at this
    exact this
  · have h1 := (List.getElem?_eq_some_iff.mp hE).1
    have hne : ¬ r.1 = 0 := fun z => by
      rw [ei] at z
      have := nI_eq60 (a := i + 1) (b := 0) (by omega) (by omega) z
      omega
    have := hK h' ⟨J', f, R', V', t', ho', fun z => absurd z hne⟩
    rw [ei] at this
    exact this
/-- the reference's side, and the law's look at both -/
def tlK (g : qh_G) (m o : Nat) (r15 : Int32) (XX K0 : qc_H → Prop) (r23 : Int32) (h24 : qc_H) : Prop := eC h24 m 7 (T8_thrown g m h24 (fun r25 h26 => (r25 = r15 → (¬ r15 = 0 → XX h26) ∧ (r15 = 0 → eLL g.2.2.2.1 h26 o 0 (fun v29 => (lg_cmp v29 (Int32.toInt64 r23) = 0 → XX h26) ∧ (¬ lg_cmp v29 (Int32.toInt64 r23) = 0 → K0 h26)))) ∧ (¬ r25 = r15 → K0 h26)))
theorem tl_ok {e x b : Int32} {XX K0 : qc_H → Prop} (G : lG L m o fa) (C : lC g L m o fa h A v S e x) (he : S.1 0 = e) (hb : e = 0 → b = x) (hk : ∀ h', lC g L m o fa h' A v S e x → XX h') : tlK g m o e XX K0 b h := by
  have C0 := C
  obtain ⟨J, f, R, V, t, ho, hx⟩ := C
  refine ⟨⟨_, t.1⟩, fa, S, t, fun h' t' f' => ?_⟩
  have C' := lC.twin G C0 t' f'
  have hf : f_X8_thrown S = e := he
  rw [hf]
  refine ⟨fun _ => ⟨fun _ => hk h' C', fun z => ?_⟩, fun z => absurd rfl z⟩
  have C2 := C'
  obtain ⟨J2, f2, R2, V2, t2, ho2, hx2⟩ := C'
  refine ⟨1, f2, ho2, pk_in 0 1 (by omega), ?_⟩
  have e1 : f2 (0 : Int32).toNatClampNeg = Int32.toInt64 b := by rw [hb z]; exact hx2 z
  rw [e1]
  have e2 : lg_cmp (Int32.toInt64 b) (Int32.toInt64 b) = 0 := by
    unfold lg_cmp
    rw [if_neg (Int64.lt_irrefl), if_pos rfl]
  exact ⟨fun _ => hk h' C2, fun q => absurd e2 q⟩
end
