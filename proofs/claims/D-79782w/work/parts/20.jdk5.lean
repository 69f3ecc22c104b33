/-! JDK 5: lists over level 1: opening one, and the contracts of size, isEmpty, get, set, add, <init> -/
set_option maxRecDepth 100000
theorem qc_R.E {g : qh_G} {x : qc_X} {h : qc_H} {τ : qh_H} {y : Nat} {e : qc_E} (hR : qc_R g x h τ) (hy : h y = some e) (ho : qc_ok g e) : qj_E g x τ y := by
  obtain ⟨ow, r1, r2, r3⟩ := hR
  cases e with
  | inr ys =>
    obtain ⟨-, -, m, ea, s3, -⟩ := r2 y ys hy
    exact Or.inl ⟨16, _, s3, by omega⟩
  | inl e =>
    rcases (r1 y e hy).2 with q | ⟨-, k, hk, e1, -⟩
    · cases e with
      | inr o =>
        obtain ⟨ci, fs⟩ := o
        have ho : ci = 8 ∨ ci = 9 ∨ ci = 10 ∨ ci = 11 ∨ ci = 12 ∨ ci = 14 ∨ ci = 15 ∨ ci = 17 := ho
        exact Or.inl ⟨ci, fs, q, by omega⟩
      | inl a =>
        obtain ⟨c, z⟩ := a
        have ho : c = g.2.2.2.1 0 := ho
        subst ho
        exact Or.inr (Or.inl ⟨z, q⟩)
    · exact Or.inr (Or.inr ⟨k, hk, e1⟩)
/-- a list, as it lies at level 0; and what it may become -/
theorem qc_R.opn {g : qh_G} {x : qc_X} {h : qc_H} {τ : qh_H} {p : Nat} {xs : List Nat} (hO : qc_O g x) (hR : qc_R g x h τ) (hp : h p = some (.inr xs)) : ∃ (m : Int32) (ea cap : Nat) (f : Nat → Option Nat), τ p = some (qj_o m ea (nI xs.length)) ∧ ((xs.length = 0 ∧ ea = x.1) ∨ (τ ea = some (qj_a g cap f) ∧ 10 ≤ cap ∧ xs.length ≤ cap ∧ cap ≤ 65536)) ∧ (∀ i, i < xs.length → f i = xs[i]?) ∧ (∀ y ∈ xs, qj_E g x τ y) ∧
    (∀ (xs' : List Nat) (t : qh_H) (m' : Int32) (f1 : Nat → Option Nat), (∀ y ∈ xs', ∃ e, h y = some e ∧ qc_ok g e) → (∀ i, i < xs'.length → f1 i = xs'[i]?) → qj_Z g x τ p ea xs.length cap f m' f1 xs'.length t → qc_R g x (qc_up h p (.inr xs')) t) ∧
    (∀ m' : Int32, xs = [] → ea = x.1 → qc_R g x (qc_up h p (.inr [])) (qh_upd τ p (qj_o m' ea (nI 0)))) := by
  obtain ⟨ow, r1, r2, r3⟩ := hR
  have hR0 : qc_R g x h τ := ⟨ow, r1, r2, r3⟩
  obtain ⟨s1, s2, m, ea, s3, s4⟩ := r2 p xs hp
  have hE : ∀ y ∈ xs, qj_E g x τ y := fun y hy => by
    obtain ⟨e, h1, h2⟩ := s2 y hy
    exact hR0.E h1 h2
  have hpt : τ p ≠ none := by rw [s3]; intro z; cases z
  -- the part that is the same for every change of p alone and of its array
  have main : ∀ (xs' : List Nat) (t : qh_H) (ow' : Nat → Option Nat), (∀ y ∈ xs', ∃ e, h y = some e ∧ qc_ok g e) → (∀ b, b ≠ p → ow' b = none → t b = τ b) → (∀ b, ow b = none → τ b ≠ none → ow' b = none) → (∀ b q, q ≠ p → ow b = some q → ow' b = some q ∧ t b = τ b) → (∀ a q, ow' a = some q → t a ≠ none) → (∀ k, k < 256 → τ (x.2.2.2 k) = none → t (x.2.2.2 k) = none ∧ ow' (x.2.2.2 k) = ow (x.2.2.2 k)) → qc_L g x ow' t p xs' → qc_R g x (qc_up h p (.inr xs')) t := by
    intro xs' t ow' hel k1 k2 k3 k4 k5 hL
    have dom : ∀ y e, h y = some e → qc_ok g e → ∃ e', qc_up h p (.inr xs') y = some e' ∧ qc_ok g e' := fun y e h1 h2 => by
      by_cases n : y = p
      · subst n
        exact ⟨_, qc_up_s, trivial⟩
      · exact ⟨e, by rw [qc_up_n n]; exact h1, h2⟩
    refine ⟨ow', fun a e ha => ?_, fun q ys hq => ?_, k4⟩
    · have n : a ≠ p := fun z => by
        rw [z, qc_up_s] at ha
        cases ha
      rw [qc_up_n n] at ha
      obtain ⟨u1, u2⟩ := r1 a e ha
      rcases u2 with u2 | ⟨u2, k, hk, e1, e2⟩
      · have v1 := k2 a u1 (by rw [u2]; intro z; cases z)
        exact ⟨v1, Or.inl (by rw [k1 a n v1]; exact u2)⟩
      · subst e1
        obtain ⟨w1, w2⟩ := k5 k hk u2
        exact ⟨by rw [w2]; exact u1, Or.inr ⟨w1, k, hk, rfl, e2⟩⟩
    · by_cases n : q = p
      · subst n
        rw [qc_up_s] at hq
        cases hq
        exact ⟨k2 q s1 hpt, fun y hy => by obtain ⟨e, h1, h2⟩ := hel y hy; exact dom y e h1 h2, hL⟩
      · rw [qc_up_n n] at hq
        obtain ⟨u1, u2, mq, eq, u3, u4⟩ := r2 q ys hq
        have v1 := k2 q u1 (by rw [u3]; intro z; cases z)
        refine ⟨v1, fun y hy => by obtain ⟨e, h1, h2⟩ := u2 y hy; exact dom y e h1 h2, mq, eq, by rw [k1 q n v1]; exact u3, ?_⟩
        rcases u4 with u4 | ⟨cap, f, o1, o2, o3⟩
        · exact Or.inl u4
        · obtain ⟨w1, w2⟩ := k3 eq q n o1
          exact Or.inr ⟨cap, f, w1, by rw [w2]; exact o2, o3⟩
  have boxes : ∀ k, k < 256 → ∀ b, τ (x.2.2.2 k) = none → τ b ≠ none → x.2.2.2 k ≠ b := fun k _ b h1 h2 z => h2 (z ▸ h1)
  have both : ∀ (cap : Nat) (f : Nat → Option Nat), ((ow ea = some p ∧ τ ea = some (qj_a g cap f)) ∨ ea = x.1 ∧ τ ea ≠ some (qj_a g cap f)) → ∀ (xs' : List Nat) (t : qh_H) (m' : Int32) (f1 : Nat → Option Nat), (∀ y ∈ xs', ∃ e, h y = some e ∧ qc_ok g e) → (∀ i, i < xs'.length → f1 i = xs'[i]?) → (∃ (ea' cap' : Nat) (f' : Nat → Option Nat), ((ea' = ea ∧ τ ea = some (qj_a g cap f)) ∨ (τ ea' = none ∧ g.2.2.1 ea')) ∧ t = qh_upd (qh_upd τ ea' (qj_a g cap' f')) p (qj_o m' ea' (nI xs'.length)) ∧ 10 ≤ cap' ∧ xs'.length ≤ cap' ∧ cap' ≤ 65536 ∧ (∀ i, i < xs'.length → f' i = f1 i)) → qc_R g x (qc_up h p (.inr xs')) t := by
    intro cap f hcase xs' t m' f1 hel hf1 ⟨ea', cap', f', hw, ht, c1, c2, c3, hf'⟩
    have ne : p ≠ ea' := by
      rcases hw with ⟨rfl, hw⟩ | ⟨hw, -⟩
      · intro z; rw [z] at s3; rw [hw] at s3; cases s3
      · intro z; rw [z, hw] at s3; cases s3
    have how : ow ea' = some p ∨ (ow ea' = none ∧ τ ea' = none) := by
      rcases hw with ⟨rfl, hw⟩ | ⟨hw, -⟩
      · rcases hcase with ⟨q, -⟩ | ⟨-, q⟩
        · exact Or.inl q
        · exact absurd hw q
      · refine Or.inr ⟨?_, hw⟩
        cases hz : ow ea' with
        | none => rfl
        | some q => exact absurd hw (r3 ea' q hz)
    refine main xs' t (fun b => if b = ea' then some p else ow b) hel (fun b n1 n2 => ?_) (fun b n1 n2 => ?_) (fun b q n1 n2 => ?_) (fun a q hq => ?_) (fun k hk n1 => ?_) ⟨m', ea', ?_, Or.inr ⟨cap', f', if_pos rfl, ?_, c1, c2, c3, fun i hi => (hf' i hi).trans (hf1 i hi)⟩⟩
    · by_cases n : b = ea'
      · simp [n] at n2
      · rw [ht, qh_upd_n n1, qh_upd_n n]
    · by_cases n : b = ea'
      · subst n
        rcases how with q | ⟨-, q⟩
        · rw [n1] at q; cases q
        · exact absurd q n2
      · simp [n]; exact n1
    · have n : b ≠ ea' := fun z => by
        subst z
        rcases how with u | ⟨u, -⟩
        · rw [n2] at u
          exact n1 (Option.some.inj u)
        · rw [n2] at u; cases u
      have n3 : b ≠ p := fun z => by
        subst z
        rw [s1] at n2; cases n2
      exact ⟨by simp [n]; exact n2, by rw [ht, qh_upd_n n3, qh_upd_n n]⟩
    · by_cases n : a = ea'
      · subst n
        rw [ht]
        by_cases n2 : a = p
        · exact absurd n2.symm ne
        · rw [qh_upd_n n2, qh_upd_s]
          intro z; cases z
      · simp [n] at hq
        have := r3 a q hq
        rw [ht]
        by_cases n2 : a = p
        · subst n2
          rw [s1] at hq; cases hq
        · rw [qh_upd_n n2, qh_upd_n n]
          exact this
    · have n2 : x.2.2.2 k ≠ p := boxes k hk p n1 hpt
      have n3 : x.2.2.2 k ≠ ea' := by
        rcases hw with ⟨rfl, hw⟩ | ⟨-, hw⟩
        · exact boxes k hk _ n1 (by rw [hw]; intro z; cases z)
        · intro z
          rw [← z] at hw
          exact hO.1 k hk hw
      exact ⟨by rw [ht, qh_upd_n n2, qh_upd_n n3]; exact n1, by simp [n3]⟩
    · rw [ht, qh_upd_s]
    · rw [ht, qh_upd_n ne.symm, qh_upd_s]
  have clr : ∀ m' : Int32, xs = [] → ea = x.1 → qc_R g x (qc_up h p (.inr [])) (qh_upd τ p (qj_o m' ea (nI 0))) := by
    intro m' h1 h2
    refine main [] _ ow (fun y hy => by cases hy) (fun b n1 _ => qh_upd_n n1) (fun b n1 _ => n1) (fun b q n1 n2 => ?_) (fun a q hq => ?_) (fun k hk n1 => ⟨by rw [qh_upd_n (boxes k hk p n1 hpt)]; exact n1, rfl⟩) ⟨m', ea, qh_upd_s, Or.inl ⟨rfl, h2⟩⟩
    · have n3 : b ≠ p := fun z => by
        subst z
        rw [s1] at n2; cases n2
      exact ⟨n2, qh_upd_n n3⟩
    · by_cases n : a = p
      · subst n
        rw [qh_upd_s]
        intro z; cases z
      · rw [qh_upd_n n]
        exact r3 a q hq
  rcases s4 with ⟨e1, e2⟩ | ⟨cap, f, o1, o2, o3, o4, o5, o6⟩
  · obtain ⟨cap, hne⟩ : ∃ cap, τ ea ≠ some (qj_a g cap (fun _ => none)) := by
      by_cases z : τ ea = some (qj_a g 0 (fun _ => none))
      · refine ⟨1, fun q => ?_⟩
        rw [z] at q
        cases q
      · exact ⟨0, z⟩
    exact ⟨m, ea, cap, fun _ => none, s3, Or.inl ⟨by rw [e1]; rfl, e2⟩, fun i hi => by rw [e1] at hi; exact absurd hi (Nat.not_lt_zero _), hE, fun xs' t m' f1 hel hf1 hz => both cap _ (Or.inr ⟨e2, hne⟩) xs' t m' f1 hel hf1 hz, clr⟩
  · exact ⟨m, ea, cap, f, s3, Or.inr ⟨o2, o3, o4, o5⟩, o6, hE, fun xs' t m' f1 hel hf1 hz => both cap f (Or.inl ⟨o1, o2⟩) xs' t m' f1 hel hf1 hz, clr⟩
section
variable {g : qh_G} {x : qc_X} {d : Nat} {h : qc_H} {Q : qh_R → qc_H → Prop}
theorem L_size {p : Nat} {xs : List Nat} (hO : qc_O g x) (hp : h p = some (.inr xs)) (hq : Q (.inl (some (.int (nI xs.length)))) h) : qc_S g x d 0 I_J2_size [.ref p] h Q := fun τ hR => by
  obtain ⟨m, ea, cap, f, h1, -⟩ := hR.opn hO hp
  exact j0_size h1 ⟨h, hR, hq⟩
theorem L_isEmpty {p : Nat} {xs : List Nat} (hO : qc_O g x) (hl : xs.length < 65536) (hp : h p = some (.inr xs)) (hq : Q (.inl (some (.int (if xs.length = 0 then 1 else 0)))) h) : qc_S g x d 0 I_J2_isEmpty [.ref p] h Q := fun τ hR => by
  obtain ⟨m, ea, cap, f, h1, -⟩ := hR.opn hO hp
  refine j0_isEmpty h1 ⟨h, hR, ?_⟩
  by_cases n : xs.length = 0
  · rw [if_pos n] at hq
    rw [if_pos (by rw [n]; rfl)]
    exact hq
  · rw [if_neg n] at hq
    rw [if_neg (nI_ne0 (by omega) (by omega))]
    exact hq
theorem L_get {p i y : Nat} {xs : List Nat} (hO : qc_O g x) (hl : xs.length < 65536) (hp : h p = some (.inr xs)) (hi : xs[i]? = some y) (hq : Q (.inl (some (.ref y))) h) : qc_S g x (d + 2) 0 I_J2_get [.ref p, .int (nI i)] h Q := fun τ hR => by
  obtain ⟨m, ea, cap, f, h1, h2, h3, -⟩ := hR.opn hO hp
  have hil : i < xs.length := (List.getElem?_eq_some_iff.mp hi).1
  rcases h2 with ⟨e1, -⟩ | ⟨h2, c1, c2, c3⟩
  · omega
  · exact j0_get h1 h2 (nI_pos (by omega)) (nI_lt hil (by omega)) (vp_in_nI (by omega) (by omega)) (by rw [nI_clamp (by omega), h3 i hil]; exact hi) ⟨h, hR, hq⟩
theorem L_add {p y : Nat} {e : qc_E} {xs : List Nat} (hO : qc_O g x) (hl : xs.length ≤ 40000) (hp : h p = some (.inr xs)) (hy : h y = some e) (ho : qc_ok g e) (hq : Q (.inl (some (.int 1))) (qc_up h p (.inr (xs ++ [y])))) : qc_S g x (d + 5) (xs.length + xs.length / 2 + 11) I_J2_add_2 [.ref p, .ref y] h Q := fun τ hR => by
  obtain ⟨m, ea, cap, f, h1, h2, h3, h4, h5, -⟩ := hR.opn hO hp
  have hxs : ∀ z ∈ xs, ∃ e, h z = some e ∧ qc_ok g e := by
    obtain ⟨ow, r1, r2, r3⟩ := hR
    exact (r2 p xs hp).2.1
  refine j0_add2 hO h1 h2 (fun i hi z hz => ?_) hl (hR.E hy ho) (fun t ht => ?_)
  · rw [h3 i hi] at hz
    exact h4 z (List.mem_of_getElem? hz)
  · refine ⟨_, h5 (xs ++ [y]) t (m + 1) (va_up f xs.length (some y)) (fun z hz => ?_) (fun i hi => ?_) (by rw [List.length_append]; exact ht), hq⟩
    · rcases List.mem_append.mp hz with q | q
      · exact hxs z q
      · rw [List.mem_singleton] at q
        subst q
        exact ⟨e, hy, ho⟩
    · unfold va_up
      rw [List.length_append] at hi
      have hi : i < xs.length + 1 := hi
      by_cases n : i = xs.length
      · subst n
        simp
      · rw [if_neg n, h3 i (by omega), List.getElem?_append_left (by omega)]
end
