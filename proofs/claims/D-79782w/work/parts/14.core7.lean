/-! CORE 7: level 1: a list is one object of its elements; its array is hidden -/
set_option maxRecDepth 100000
abbrev qc_E : Type := va_E ⊕ List Nat
abbrev qc_H : Type := Nat → Option qc_E
/-- addresses out of the start: ArrayList's empty array, the cache of Integers, the class Object[], the cache's boxes -/
abbrev qc_X : Type := Nat × Nat × Nat × (Nat → Nat)
abbrev qc_up (h : qc_H) (a : Nat) (e : qc_E) : qc_H := fun b => if b = a then some e else h b
/-- what may stand in a list -/
def qc_ok (g : qh_G) : qc_E → Prop := fun e => match e with
  | .inr _ => True
  | .inl (.inr o) => o.1 = 8 ∨ o.1 = 9 ∨ o.1 = 10 ∨ o.1 = 11 ∨ o.1 = 12 ∨ o.1 = 14 ∨ o.1 = 15 ∨ o.1 = 17
  | .inl (.inl a) => a.1 = g.2.2.2.1 0
/-- the list p holds xs: its object, and its array ea -/
def qc_L (g : qh_G) (x : qc_X) (ow : Nat → Option Nat) (τ : qh_H) (p : Nat) (xs : List Nat) : Prop := ∃ (m : Int32) (ea : Nat), τ p = some (.inr (16, [.int m, .ref ea, .int (nI xs.length)])) ∧ ((xs = [] ∧ ea = x.1) ∨ ∃ (cap : Nat) (f : Nat → Option Nat), ow ea = some p ∧ τ ea = some (.inl (g.2.2.2.1 3, cap, .inr (.inr (.inr (.inr f))))) ∧ 10 ≤ cap ∧ xs.length ≤ cap ∧ cap ≤ 65536 ∧ ∀ i, i < xs.length → f i = xs[i]?)
def qc_R (g : qh_G) (x : qc_X) (h : qc_H) (τ : qh_H) : Prop := ∃ ow : Nat → Option Nat,
  (∀ a e, h a = some (.inl e) → ow a = none ∧ (τ a = some e ∨ (τ a = none ∧ ∃ k, k < 256 ∧ a = x.2.2.2 k ∧ e = .inr (17, [.int (vb_c k)])))) ∧
  (∀ p xs, h p = some (.inr xs) → ow p = none ∧ (∀ y ∈ xs, ∃ e, h y = some e ∧ qc_ok g e) ∧ qc_L g x ow τ p xs) ∧
  (∀ a p, ow a = some p → τ a ≠ none)
/-- of the stable part of the world: what is used of it -/
def qc_nw : Cond → Bool := fun w => match w with
  | .castable _ _ => true
  | .declares _ => true
  | .fieldLinkNest _ _ _ _ _ _ => true
  | .methodLinkNest _ _ _ _ => true
  | .arrayOver _ => true
  | _ => false
def qc_N : List Cond := lw_tbl.filter qc_nw
def qc_O (g : qh_G) (x : qc_X) : Prop := (∀ k, k < 256 → ¬ g.2.2.1 (x.2.2.2 k)) ∧ (∀ w ∈ qc_N, ∀ U, g.2.2.2.2 U → va_Nw w U) ∧
  (∀ U, g.2.2.2.2 U → va_Z "java/util/ArrayList" "DEFAULTCAPACITY_EMPTY_ELEMENTDATA" "[Ljava/lang/Object;" (.ref x.1) g.2.2.1 U U.heap) ∧
  (∀ U, g.2.2.2.2 U → va_T (.object "java/lang/Object") x.1 0 (fun _ => .null) g.2.2.1 U U.heap) ∧
  (∀ U, g.2.2.2.2 U → va_Z "java/lang/Integer$IntegerCache" "cache" "[Ljava/lang/Integer;" (.ref x.2.1) g.2.2.1 U U.heap) ∧
  (∀ U, g.2.2.2.2 U → va_T (.object "java/lang/Integer") x.2.1 256 (fun k => .ref (x.2.2.2 k)) g.2.2.1 U U.heap) ∧
  (∀ U, g.2.2.2.2 U → va_Z "java/lang/Integer$IntegerCache" "high" "I" (.int 127) g.2.2.1 U U.heap) ∧
  (∀ U, g.2.2.2.2 U → vb_C x.2.2.2 g.2.2.1 U U.heap) ∧ (∀ U, g.2.2.2.2 U → va_Mi "[Ljava/lang/Object;" x.2.2.1 U) ∧ (∃ U, g.2.2.2.2 U) ∧ (∀ j k, j < 256 → k < 256 → x.2.2.2 j = x.2.2.2 k → j = k)
def qc_wp (g : qh_G) (x : qc_X) (d c : Nat) (I : qh_I) (pc : Nat) (ls : List (Option Value)) (st : List Value) (h : qc_H) (Q : qh_R → qc_H → Prop) : Prop := ∀ τ : qh_H, qc_R g x h τ → qh_wp g d c I pc ls st τ (fun r t => ∃ h', qc_R g x h' t ∧ Q r h')
def qc_wx (g : qh_G) (x : qc_X) (d c : Nat) (I : qh_I) (pc : Nat) (ls : List (Option Value)) (E : String) (h : qc_H) (Q : qh_R → qc_H → Prop) : Prop := ∀ τ : qh_H, qc_R g x h τ → qh_wx g d c I pc ls E τ (fun r t => ∃ h', qc_R g x h' t ∧ Q r h')
def qc_S (g : qh_G) (x : qc_X) (d c : Nat) (I : qh_I) (As : List Value) (h : qc_H) (Q : qh_R → qc_H → Prop) : Prop := ∀ τ : qh_H, qc_R g x h τ → qh_S g d c I As τ (fun r t => ∃ h', qc_R g x h' t ∧ Q r h')
theorem qc_up_s {h : qc_H} {a : Nat} {e : qc_E} : qc_up h a e a = some e := if_pos rfl
theorem qc_up_n {h : qc_H} {a b : Nat} {e : qc_E} (n : b ≠ a) : qc_up h a e b = h b := if_neg n
/-- an object or array that isn't hidden changes -/
theorem qc_R.put {g : qh_G} {x : qc_X} {h : qc_H} {τ : qh_H} {a : Nat} {e e' : va_E} (hR : qc_R g x h τ) (ha : h a = some (.inl e)) (hk : qc_ok g (.inl e) → qc_ok g (.inl e')) (ht : τ a ≠ none) : qc_R g x (qc_up h a (.inl e')) (qh_upd τ a e') := by
  obtain ⟨ow, r1, r2, r3⟩ := hR
  refine ⟨ow, fun b eb hb => ?_, fun p xs hp => ?_, fun b p hb => ?_⟩
  · by_cases n : b = a
    · subst n
      rw [qc_up_s] at hb
      cases hb
      exact ⟨(r1 b e ha).1, Or.inl qh_upd_s⟩
    · rw [qc_up_n n] at hb
      rw [qh_upd_n n]
      exact r1 b eb hb
  · have n : p ≠ a := by
      intro n
      subst n
      rw [qc_up_s] at hp
      cases hp
    rw [qc_up_n n] at hp
    obtain ⟨s1, s2, m, ea, s3, s4⟩ := r2 p xs hp
    refine ⟨s1, fun y hy => ?_, m, ea, by rw [qh_upd_n n]; exact s3, ?_⟩
    · obtain ⟨ey, h1, h2⟩ := s2 y hy
      by_cases ny : y = a
      · subst ny
        rw [ha] at h1
        cases h1
        exact ⟨_, qc_up_s, hk h2⟩
      · exact ⟨ey, by rw [qc_up_n ny]; exact h1, h2⟩
    · rcases s4 with s4 | ⟨cap, f, o1, o2, o3⟩
      · exact Or.inl s4
      · have ne : ea ≠ a := by
          intro z
          subst z
          rw [(r1 ea e ha).1] at o1
          cases o1
        exact Or.inr ⟨cap, f, o1, by rw [qh_upd_n ne]; exact o2, o3⟩
  · by_cases n : b = a
    · subst n
      rw [qh_upd_s]
      intro z
      cases z
    · rw [qh_upd_n n]
      exact r3 b p hb
/-- a new object or array -/
theorem qc_R.new {g : qh_G} {x : qc_X} {h : qc_H} {τ : qh_H} {a : Nat} {e : va_E} (hO : qc_O g x) (hR : qc_R g x h τ) (ht : τ a = none) (hA : g.2.2.1 a) : h a = none ∧ qc_R g x (qc_up h a (.inl e)) (qh_upd τ a e) := by
  have hn : h a = none := by
    obtain ⟨ow, r1, r2, r3⟩ := hR
    cases hz : h a with
    | none => rfl
    | some e0 =>
      exfalso
      cases e0 with
      | inl e1 =>
        rcases (r1 a e1 hz).2 with q | ⟨-, k, hk, e2, -⟩
        · rw [ht] at q
          cases q
        · rw [e2] at hA
          exact hO.1 k hk hA
      | inr xs =>
        obtain ⟨-, -, m, ea, s3, -⟩ := r2 a xs hz
        rw [ht] at s3
        cases s3
  refine ⟨hn, ?_⟩
  obtain ⟨ow, r1, r2, r3⟩ := hR
  have how : ow a = none := by
    cases hz : ow a with
    | none => rfl
    | some p => exact absurd ht (r3 a p hz)
  refine ⟨ow, fun b eb hb => ?_, fun p xs hp => ?_, fun b p hb => ?_⟩
  · by_cases n : b = a
    · subst n
      rw [qc_up_s] at hb
      cases hb
      exact ⟨how, Or.inl qh_upd_s⟩
    · rw [qc_up_n n] at hb
      rw [qh_upd_n n]
      exact r1 b eb hb
  · have n : p ≠ a := by
      intro n
      subst n
      rw [qc_up_s] at hp
      cases hp
    rw [qc_up_n n] at hp
    obtain ⟨s1, s2, m, ea, s3, s4⟩ := r2 p xs hp
    refine ⟨s1, fun y hy => ?_, m, ea, by rw [qh_upd_n n]; exact s3, ?_⟩
    · obtain ⟨ey, h1, h2⟩ := s2 y hy
      have ny : y ≠ a := by
        intro z
        subst z
        rw [hn] at h1
        cases h1
      exact ⟨ey, by rw [qc_up_n ny]; exact h1, h2⟩
    · rcases s4 with s4 | ⟨cap, f, o1, o2, o3⟩
      · exact Or.inl s4
      · have ne : ea ≠ a := by
          intro z
          subst z
          rw [ht] at o2
          cases o2
        exact Or.inr ⟨cap, f, o1, by rw [qh_upd_n ne]; exact o2, o3⟩
  · by_cases n : b = a
    · subst n
      rw [qh_upd_s]
      intro z
      cases z
    · rw [qh_upd_n n]
      exact r3 b p hb
theorem qc_R.obj {g : qh_G} {x : qc_X} {h : qc_H} {τ : qh_H} {a : Nat} {ci : Nat} {fs : List Value} (hR : qc_R g x h τ) (ha : h a = some (.inl (.inr (ci, fs)))) (hc : ci ≠ 17) : τ a = some (.inr (ci, fs)) := by
  obtain ⟨ow, r1, -, -⟩ := hR
  rcases (r1 a _ ha).2 with q | ⟨-, k, -, -, e⟩
  · exact q
  · cases e
    exact absurd rfl hc
theorem qc_R.arr {g : qh_G} {x : qc_X} {h : qc_H} {τ : qh_H} {a : Nat} {y : ClassId × vp_A} (hR : qc_R g x h τ) (ha : h a = some (.inl (.inl y))) : τ a = some (.inl y) := by
  obtain ⟨ow, r1, -, -⟩ := hR
  rcases (r1 a _ ha).2 with q | ⟨-, k, -, -, e⟩
  · exact q
  · cases e
theorem qc_R.V {g : qh_G} {x : qc_X} {h : qc_H} {τ : qh_H} {a ci : Nat} {fs : List Value} {r : vw_C} (hO : qc_O g x) (hR : qc_R g x h τ) (hci : qh_cl[ci]? = some r) (ha : h a = some (.inl (.inr (ci, fs)))) : qh_V g τ r.1 a := by
  obtain ⟨ow, r1, -, -⟩ := hR
  rcases (r1 a _ ha).2 with q | ⟨-, k, hk, e1, e⟩
  · exact qh_V.of hci q
  · cases e
    cases hci
    rw [e1]
    exact qh_V.box hO.2.2.2.2.2.2.2.1 hk
theorem qc_R.VL {g : qh_G} {x : qc_X} {h : qc_H} {τ : qh_H} {a : Nat} {xs : List Nat} (hR : qc_R g x h τ) (ha : h a = some (.inr xs)) : qh_V g τ "java/util/ArrayList" a := by
  obtain ⟨ow, -, r2, -⟩ := hR
  obtain ⟨-, -, m, ea, s3, -⟩ := r2 a xs ha
  exact qh_V.of (r := (RJ2, TJ2, 3)) rfl s3
