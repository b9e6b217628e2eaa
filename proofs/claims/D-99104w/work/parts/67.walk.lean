/-! WALKS, 8: a state in the heap, on either side -/
set_option maxRecDepth 100000
set_option maxHeartbeats 4000000
abbrev XW (s : Int) : Int → Nat → Prop := fun z f => s ≤ z ∧ z < s + 126 ∧ xfin f = false
abbrev XA (s : Int) : Int → Prop := fun z => s ≤ z ∧ z < s + 126 ∧ z ≠ s + 28 ∧ z ≠ s + 48
abbrev MW (m : Int) : Int → Nat → Prop := fun z f => z = m ∧ xfin f = false
abbrev MA (m : Int) : Int → Prop := fun z => m ≤ z ∧ z < m + 16
def XLay (h : XH) (s : Int) : Prop := s + 126 ≤ xsz h ∧ xty h s = some (true, 0, none) ∧ (xty h (s + 1) = some (true, 1, some 1100) ∧ xfl h s 0 = s + 1) ∧ (xfl h s 2 = s + 2 ∧ ReaderL h (s + 2) (s + 1)) ∧ (xfl h s 9 = s + 5 ∧ RoomsL h (s + 5)) ∧ (xfl h s 10 = s + 9 ∧ RoomsL h (s + 9)) ∧ (xfl h s 11 = s + 13 ∧ RoomsL h (s + 13)) ∧ (xfl h s 12 = s + 17 ∧ WaysL h (s + 17)) ∧ (xfl h s 13 = s + 20 ∧ xty h (s + 20) = some (true, 5, none)) ∧ (xfl h s 14 = s + 21 ∧ xty h (s + 21) = some (true, 6, none)) ∧ (xfl h s 15 = s + 22 ∧ RowsL h (s + 22)) ∧ (xfl h s 16 = s + 27 ∧ ExL h (s + 27)) ∧ (xty h (s + 47) = some (true, 4, some 16) ∧ xfl h s 17 = s + 47) ∧ (xty h (s + 48) = some (true, 4, some 3) ∧ xfl h s 18 = s + 48) ∧ (xty h (s + 49) = some (true, 0, some 7) ∧ xfl h s 19 = s + 49) ∧ (∀ k : Int, 0 ≤ k → k < 16 → RoomsL h (s + 50 + 4 * k)) ∧ RmsL h (s + 48) (s + 114) 3
theorem XLay.of {h : XH} {s : Int} (hs : xsz h = s + 126) (ht : xty h s = some (true, 0, none)) (c : X1C0 s h) : XLay h s := by
  obtain ⟨c0, c2, -, c9, c10, c11, c12, c13, c14, c15, c16, c17, c18, c19, c20, c21⟩ := c
  exact ⟨by omega, ht, c0, c2, c9, c10, c11, c12, c13, c14, c15, c16, c17, c18, c19, fun k h0 h1 => (c20 k h0 h1).1, c21⟩
theorem XLay.keep {W : Int → Nat → Prop} {A : Int → Prop} {h g : XH} {s : Int} (p : XFr W A h g) (L : XLay h s) (hW : ∀ z f, s ≤ z → z < s + 126 → xfin f = true → ¬ W z f) (h28 : ¬ A (s + 28)) (h48 : ¬ A (s + 48)) : XLay g s := by
  have hs := L.1
  have hsg : s + 126 ≤ xsz g := by have := p.2.1; omega
  have z0 : xty g s = xty h s := p.2.2.1 s (by omega)
  have ty : ∀ c : Int, c < 126 → xty g (s + c) = xty h (s + c) := fun c hc => p.2.2.1 _ (by omega)
  have fl : ∀ f, xfin f = true → xfl g s f = xfl h s f := fun f hf => p.2.2.2.1 s f (by omega) (hW s f (Int.le_refl _) (by omega) hf)
  have w : ∀ c : Int, 0 ≤ c → c < 126 → ∀ f, xfin f = true → ¬ W (s + c) f := fun c h0 h1 f => hW _ f (by omega) (by omega)
  have lt : ∀ c e : Int, c + e < 126 → s + c + e < xsz h := fun c e hc => by omega
  have l48 : s + 48 < xsz h := by omega
  have kR : ∀ c : Int, 0 ≤ c → c < 126 → RoomsL h (s + c) → RoomsL g (s + c) := fun c h0 h1 l => l.keep p (w c h0 h1)
  have kU : (∀ k : Int, 0 ≤ k → k < 16 → RoomsL h (s + 50 + 4 * k)) → ∀ k : Int, 0 ≤ k → k < 16 → RoomsL g (s + 50 + 4 * k) := fun l k h0 h1 => (l k h0 h1).keep p (fun f => hW _ f (by omega) (by omega))
  have kM : RmsL h (s + 48) (s + 114) 3 → RmsL g (s + 48) (s + 114) 3 := fun l => l.keep p l48 h48 (fun z f h1 h2 => hW z f (by omega) (by omega))
  have kE : ExL h (s + 27) → ExL g (s + 27) := fun l => l.keep p (lt 27 3 (by decide)) (fun z f h1 h2 => hW z f (by omega) (by omega)) (by rw [show s + 27 + 1 = s + 28 by omega]; exact h28)
  clear hW hs
  obtain ⟨l0, l1, ⟨l2, l3⟩, ⟨l4, l5⟩, ⟨l6, l7⟩, ⟨l8, l9⟩, ⟨l10, l11⟩, ⟨l12, l13⟩, ⟨l14, l15⟩, ⟨l16, l17⟩, ⟨l18, l19⟩, ⟨l20, l21⟩, ⟨l22, l23⟩, ⟨l24, l25⟩, ⟨l26, l27⟩, l28, l29⟩ := L
  exact ⟨hsg, z0.trans l1, ⟨(ty 1 (by decide)).trans l2, (fl 0 rfl).trans l3⟩, ⟨(fl 2 rfl).trans l4, l5.keep p (lt 2 2 (by decide)) (w 2 (by decide) (by decide))⟩, ⟨(fl 9 rfl).trans l6, kR 5 (by decide) (by decide) l7⟩, ⟨(fl 10 rfl).trans l8, kR 9 (by decide) (by decide) l9⟩, ⟨(fl 11 rfl).trans l10, kR 13 (by decide) (by decide) l11⟩, ⟨(fl 12 rfl).trans l12, l13.keep p (lt 17 2 (by decide)) (w 17 (by decide) (by decide))⟩, ⟨(fl 13 rfl).trans l14, (ty 20 (by decide)).trans l15⟩, ⟨(fl 14 rfl).trans l16, (ty 21 (by decide)).trans l17⟩, ⟨(fl 15 rfl).trans l18, l19.keep p (lt 22 4 (by decide)) (w 22 (by decide) (by decide))⟩, ⟨(fl 16 rfl).trans l20, kE l21⟩, ⟨(ty 47 (by decide)).trans l22, (fl 17 rfl).trans l23⟩, ⟨(ty 48 (by decide)).trans l24, (fl 18 rfl).trans l25⟩, ⟨(ty 49 (by decide)).trans l26, (fl 19 rfl).trans l27⟩, kU l28, kM l29⟩
theorem ModelL.keep {W : Int → Nat → Prop} {A : Int → Prop} {h g : XH} {m : Int} (p : XFr W A h g) (L : ModelL h m) (hs : m + 15 < xsz h) (hW : ∀ f, xfin f = true → ¬ W m f) : ModelL g m := by
  have z0 : xty g m = xty h m := p.2.2.1 m (by omega)
  have ty : ∀ c : Int, c < 16 → xty g (m + c) = xty h (m + c) := fun c hc => p.2.2.1 _ (by omega)
  have fl : ∀ f, xfin f = true → xfl g m f = xfl h m f := fun f hf => p.2.2.2.1 m f (by omega) (hW f hf)
  obtain ⟨l0, ⟨a1, b1⟩, ⟨a2, b2⟩, ⟨a3, b3⟩, ⟨a4, b4⟩, ⟨a5, b5⟩, ⟨a6, b6⟩, ⟨a7, b7⟩, ⟨a8, b8⟩, ⟨a9, b9⟩, ⟨a10, b10⟩, ⟨a11, b11⟩, ⟨a12, b12⟩, ⟨a13, b13⟩, ⟨a14, b14⟩, ⟨a15, b15⟩⟩ := L
  exact ⟨z0.trans l0, ⟨(ty 1 (by decide)).trans a1, (fl _ rfl).trans b1⟩, ⟨(ty 2 (by decide)).trans a2, (fl _ rfl).trans b2⟩, ⟨(ty 3 (by decide)).trans a3, (fl _ rfl).trans b3⟩, ⟨(ty 4 (by decide)).trans a4, (fl _ rfl).trans b4⟩, ⟨(ty 5 (by decide)).trans a5, (fl _ rfl).trans b5⟩, ⟨(ty 6 (by decide)).trans a6, (fl _ rfl).trans b6⟩, ⟨(ty 7 (by decide)).trans a7, (fl _ rfl).trans b7⟩, ⟨(ty 8 (by decide)).trans a8, (fl _ rfl).trans b8⟩, ⟨(ty 9 (by decide)).trans a9, (fl _ rfl).trans b9⟩, ⟨(ty 10 (by decide)).trans a10, (fl _ rfl).trans b10⟩, ⟨(ty 11 (by decide)).trans a11, (fl _ rfl).trans b11⟩, ⟨(ty 12 (by decide)).trans a12, (fl _ rfl).trans b12⟩, ⟨(ty 13 (by decide)).trans a13, (fl _ rfl).trans b13⟩, ⟨(ty 14 (by decide)).trans a14, (fl _ rfl).trans b14⟩, ⟨(ty 15 (by decide)).trans a15, (fl _ rfl).trans b15⟩⟩
