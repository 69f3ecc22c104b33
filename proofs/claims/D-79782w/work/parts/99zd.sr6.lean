/-! SR 6: the heap's other cells (the reference, the long[]) change: the component stands -/
set_option maxRecDepth 100000
/-- no guest -/
def qkN (L : Nat → Nat) (a : Nat) : Prop := ∀ n, 41 ≤ n → n < 200 → a ≠ L n
/-- the guests' kinds -/
def gK (L : Nat → Nat) (h : qc_H) : Prop := ∀ n, 41 ≤ n → n < 200 → (∃ y, h (L n) = some (.inl (.inl y))) ∨ ∃ fs, h (L n) = some (.inl (.inr (7, fs)))
/-- only guests change -/
def gF (L : Nat → Nat) (h h' : qc_H) : Prop := ∀ b, qkN L b → h' b = h b
theorem gF.rf {L : Nat → Nat} {h : qc_H} : gF L h h := fun _ _ => rfl
theorem gF.tr {L : Nat → Nat} {h h' h'' : qc_H} (p : gF L h h') (q : gF L h' h'') : gF L h h'' := fun b hb => (q b hb).trans (p b hb)
/-- the component's own cells are no guests -/
def gD (L : Nat → Nat) : Prop := ∀ n, n < 41 → qkN L (L n)
theorem gK.ne {L : Nat → Nat} {h : qc_H} (k : gK L h) : ∀ n, 41 ≤ n → n < 200 → h (L n) ≠ none := fun n h1 h2 z => by
  rcases k n h1 h2 with ⟨y, e⟩ | ⟨y, e⟩ <;> rw [e] at z <;> cases z
theorem gK.obj {L : Nat → Nat} {h : qc_H} {a ci : Nat} {fs : List Value} (k : gK L h) (ha : h a = some (.inl (.inr (ci, fs)))) (hc : ci ≠ 7) : qkN L a := fun n h1 h2 z => by
  rcases k n h1 h2 with ⟨y, e⟩ | ⟨y, e⟩
  · rw [z, e] at ha; cases ha
  · rw [z, e] at ha
    cases ha
    exact hc rfl
theorem gK.lst {L : Nat → Nat} {h : qc_H} {a : Nat} {xs : List Nat} (k : gK L h) (ha : h a = some (.inr xs)) : qkN L a := fun n h1 h2 z => by
  rcases k n h1 h2 with ⟨y, e⟩ | ⟨y, e⟩ <;> rw [z, e] at ha <;> cases ha
section
variable {g : qh_G} {L : Nat → Nat} {J h h' : qc_H} {A : qkA} {v : qkAns}
theorem rep_guest (R : qkRep g L J h A) (hd : gD L) (hk : gK L h) (hk' : gK L h') (hf : gF L h h') : qkRep g L J h' A := by
  refine R.grow qkJ.rf (fun b e hb => ?_) hk'.ne R.gj R.off R.im (fun a ⟨n, hn, e⟩ => ?_)
  · have hN : qkN L b := fun n h1 h2 z => by
      rw [z] at hb
      obtain ⟨w, rfl⟩ := R.gj n h1 h2 e hb
      have h3 := R.jh _ _ hb
      rcases hk n h1 h2 with ⟨y, e⟩ | ⟨y, e⟩
      · rw [e] at h3; cases h3
      · rw [e] at h3; cases h3
    rw [hf b hN]
    exact R.jh b e hb
  · rw [e]
    exact hf _ (hd n hn)
/-- the guests' cells stay through a call of the component -/
theorem gK.fr (hd : gD L) (hk : gK L h) (hf : qkFr L h h') : gK L h' ∧ ∀ n, 41 ≤ n → n < 200 → h' (L n) = h (L n) := by
  have e : ∀ n, 41 ≤ n → n < 200 → h' (L n) = h (L n) := fun n h1 h2 => hf _ (fun m hm z => hd m hm n h1 h2 z.symm) (hk.ne n h1 h2)
  exact ⟨fun n h1 h2 => by rw [e n h1 h2]; exact hk n h1 h2, e⟩
/-- the latest answer, no cell of it a guest -/
def lat (g : qh_G) (L : Nat → Nat) (J h : qc_H) (an : Nat) (v : qkAns) : Prop := ∃ arl atl : Nat, h an = some (qkAn arl atl v.2.1) ∧ (∃ xs : List Nat, h arl = some (.inr xs) ∧ qkL (fun a (v : qkV) => h a = some (.inl (.inl (g.2.2.2.1 0, v.1, .inl v.2)))) xs v.1 ∧ v.1.length ≤ 20000 ∧ ∀ a ∈ xs, qkF L a ∧ qkN L a) ∧ qkR (isInt J) h atl v.2.2 ∧ qkF L an ∧ qkF L arl ∧ qkF L atl ∧ ∀ r ∈ v.1, r.1 ≤ 3
theorem lat.l {an : Nat} (k : lat g L J h an v) : qkLat g L J h an v := by
  obtain ⟨arl, atl, h1, ⟨xs, x1, x2, x3, x4⟩, h3⟩ := k
  exact ⟨arl, atl, h1, ⟨xs, x1, x2, x3, fun a ha => (x4 a ha).1⟩, h3⟩
theorem lat.mono {J' : qc_H} {an : Nat} (k : lat g L J h an v) (hJ : qkJ J J') (hF : qkFr L h h') : lat g L J' h' an v := by
  obtain ⟨arl, atl, h1, h2, h3, h4, h5, h6, h7⟩ := k
  have keep : ∀ {a : Nat} {e : qc_E}, qkF L a → h a = some e → h' a = some e := fun ha q => by
    rw [hF _ ha (by rw [q]; intro z; cases z)]
    exact q
  obtain ⟨xs, x1, x2, x3, x5⟩ := h2
  refine ⟨arl, atl, keep h4 h1, ⟨xs, keep h5 x1, x2.mono' fun i a w hi hw => keep (x5 a (List.mem_of_getElem? hi)).1 (x2.2 i a w hi hw), x3, x5⟩, ?_, h4, h5, h6, h7⟩
  obtain ⟨ys, y1, y2, y3⟩ := h3
  exact ⟨ys, keep h6 y1, y2.mono (isInt.mono hJ), y3⟩
theorem lat.guest {an : Nat} (k : lat g L J h an v) (hk : gK L h) (hf : gF L h h') : lat g L J h' an v := by
  obtain ⟨arl, atl, h1, h2, h3, h4, h5, h6, h7⟩ := k
  obtain ⟨xs, x1, x2, x3, x5⟩ := h2
  obtain ⟨ys, y1, y2, y3⟩ := h3
  refine ⟨arl, atl, ?_, ⟨xs, ?_, x2.mono' fun i a w hi hw => ?_, x3, x5⟩, ⟨ys, ?_, y2, y3⟩, h4, h5, h6, h7⟩
  · rw [hf an (hk.obj h1 (by decide))]; exact h1
  · rw [hf arl (hk.lst x1)]; exact x1
  · rw [hf a (x5 a (List.mem_of_getElem? hi)).2]; exact x2.2 i a w hi hw
  · rw [hf atl (hk.lst y1)]; exact y1
/-- a new answer -/
theorem lat.new {B J' : qc_H} {an arl atl : Nat} (hB : ∀ n, 41 ≤ n → n < 200 → B (L n) ≠ none) (h1 : h an = some (qkAn arl atl v.2.1)) (h2 : qkVs g L J' B h arl v.1) (h3 : qkR (isInt J') h atl v.2.2) (h4 : qkF L an) (h5 : qkF L arl) (h6 : qkF L atl) (h7 : ∀ r ∈ v.1, r.1 ≤ 3) : lat g L J' h an v := by
  obtain ⟨xs, x1, x2, x3, x4, x5⟩ := h2
  exact ⟨arl, atl, h1, ⟨xs, x1, x2, x3, fun a ha => ⟨(x5 a ha).1, fun n n1 n2 z => hB n n1 n2 (by rw [← z]; exact (x5 a ha).2.2)⟩⟩, h3, h4, h5, h6, h7⟩
end
