/-! WALKS, 3: frames, layouts, constructors -/
set_option maxRecDepth 100000
set_option maxHeartbeats 4000000
/-- fields that constructors alone write -/
def xfin (f : Nat) : Bool := xmem f [0, 2, 9, 10, 11, 12, 13, 14, 15, 16, 17, 18, 19, 21, 22, 23, 40, 41, 42, 45, 46, 53, 54, 55, 56, 60, 61, 62, 71, 81, 82, 83, 86, 87, 88, 91, 92, 93, 94, 95, 99, 100, 103, 105, 106, 107, 108, 117, 118, 130, 131, 132, 143, 144, 145, 146, 147, 148, 149, 150, 151, 152, 153, 154, 155, 156, 157, 158, 159, 160, 161]
/-- from h to h' old cells have changed at most where W (fields), A (arrays) allow -/
def XFr (W : Int → Nat → Prop) (A : Int → Prop) (h h' : XH) : Prop := xcs h' = xcs h ∧ xsz h ≤ xsz h' ∧ (∀ z, z < xsz h → xty h' z = xty h z) ∧ (∀ z f, z < xsz h → ¬ W z f → xfl h' z f = xfl h z f) ∧ (∀ z i, z < xsz h → ¬ A z → xar h' z i = xar h z i)
theorem XFr.refl {W : Int → Nat → Prop} {A : Int → Prop} (h : XH) : XFr W A h h := ⟨rfl, Int.le_refl _, fun _ _ => rfl, fun _ _ _ _ => rfl, fun _ _ _ _ => rfl⟩
theorem XFr.putf {W : Int → Nat → Prop} {A : Int → Prop} {h g : XH} {a : Int} {f : Nat} {v : Int} (k : XFr W A h g) (hw : xsz h ≤ a ∨ W a f) : XFr W A h (xputf g a f v) := by
  obtain ⟨k1, k2, k3, k4, k5⟩ := k
  refine ⟨k1, k2, k3, fun z f' hz hn => ?_, k5⟩
  rw [xfl_putf]
  split
  · next e =>
    obtain ⟨e1, e2⟩ := e
    subst e1
    subst e2
    rcases hw with hw | hw
    · omega
    · exact absurd hw hn
  · exact k4 z f' hz hn
theorem XFr.puta {W : Int → Nat → Prop} {A : Int → Prop} {h g : XH} {a i v : Int} (k : XFr W A h g) (hw : xsz h ≤ a ∨ A a) : XFr W A h (xputa g a i v) := by
  obtain ⟨k1, k2, k3, k4, k5⟩ := k
  refine ⟨k1, k2, k3, k4, fun z i' hz hn => ?_⟩
  rw [xar_puta]
  split
  · next e =>
    rw [e.1] at hz hn
    rcases hw with hw | hw
    · omega
    · exact absurd hw hn
  · exact k5 z i' hz hn
theorem XFr.copy {W : Int → Nat → Prop} {A : Int → Prop} {h g : XH} {s sp d dp n : Int} (k : XFr W A h g) (hw : xsz h ≤ d ∨ A d) : XFr W A h (xcopy g s sp d dp n) := by
  obtain ⟨k1, k2, k3, k4, k5⟩ := k
  refine ⟨k1, k2, k3, k4, fun z i' hz hn => ?_⟩
  rw [xar_copy]
  split
  · next e =>
    rw [e.1] at hz hn
    rcases hw with hw | hw
    · omega
    · exact absurd hw hn
  · exact k5 z i' hz hn
theorem XFr.newo {W : Int → Nat → Prop} {A : Int → Prop} {h g : XH} {c n : Nat} (k : XFr W A h g) : XFr W A h (xnewo g c n) := by
  obtain ⟨k1, k2, k3, k4, k5⟩ := k
  refine ⟨k1, by rw [xsz_newo]; omega, fun z hz => ?_, fun z f' hz hn => ?_, k5⟩
  · rw [xty_newo, if_neg (by omega)]
    exact k3 z hz
  · rw [xfl_newo, if_neg (by omega)]
    exact k4 z f' hz hn
theorem XFr.newa {W : Int → Nat → Prop} {A : Int → Prop} {h g : XH} {e : Nat} {n : Int} (k : XFr W A h g) : XFr W A h (xnewa g e n) := by
  obtain ⟨k1, k2, k3, k4, k5⟩ := k
  refine ⟨k1, by rw [xsz_newa]; omega, fun z hz => ?_, k4, fun z i' hz hn => ?_⟩
  · rw [xty_newa, if_neg (by omega)]
    exact k3 z hz
  · rw [xar_newa, if_neg (by omega)]
    exact k5 z i' hz hn
theorem XFr.trans {W W' : Int → Nat → Prop} {A A' : Int → Prop} {h g k : XH} (p : XFr W A h g) (q : XFr W' A' g k) (hW : ∀ z f, z < xsz h → W' z f → W z f) (hA : ∀ z, z < xsz h → A' z → A z) : XFr W A h k := by
  obtain ⟨p1, p2, p3, p4, p5⟩ := p
  obtain ⟨q1, q2, q3, q4, q5⟩ := q
  refine ⟨q1.trans p1, by omega, fun z hz => (q3 z (by omega)).trans (p3 z hz), fun z f hz hn => (q4 z f (by omega) (fun w => hn (hW z f hz w))).trans (p4 z f hz hn), fun z i hz hn => (q5 z i (by omega) (fun w => hn (hA z hz w))).trans (p5 z i hz hn)⟩
theorem XFr.mono {W W' : Int → Nat → Prop} {A A' : Int → Prop} {h g : XH} (p : XFr W A h g) (hW : ∀ z f, z < xsz h → W z f → W' z f) (hA : ∀ z, z < xsz h → A z → A' z) : XFr W' A' h g := by
  obtain ⟨p1, p2, p3, p4, p5⟩ := p
  exact ⟨p1, p2, p3, fun z f hz hn => p4 z f hz (fun w => hn (hW z f hz w)), fun z i hz hn => p5 z i hz (fun w => hn (hA z hz w))⟩
/-- a Rooms object and its arrays behind it -/
def RoomsL (h : XH) (a : Int) : Prop := a + 4 ≤ xsz h ∧ xty h a = some (true, 3, none) ∧ xty h (a + 1) = some (true, 0, some 7) ∧ xty h (a + 2) = some (true, 0, some 4) ∧ xty h (a + 3) = some (true, 0, some 4) ∧ xfl h a 40 = a + 1 ∧ xfl h a 41 = a + 2 ∧ xfl h a 42 = a + 3
theorem x_Rooms_init {d : Nat} {h : XH} {a : Int} (ht : xty h a = some (true, 3, none)) (hs : xsz h = a + 1) : WpM d 105 [.inr (.inr a)] h (fun o h' => ∃ v, o = .inl v ∧ v = none ∧ RoomsL h' a ∧ XFr (fun z _ => z = a) (fun _ => False) h h' ∧ xsz h' = a + 4 ∧ xsl h' = xsl h + 15) := by
  refine WpM.of rfl (Wp.vc 400 [] rfl ?_)
  refine ⟨⟨_, _, ht⟩, ⟨by decide, by decide⟩, isW (by (first | assumption | ((try simp only [xcs_putf, xty_putf, xar_putf, xsz_putf, xsl_putf, xfl_putf, xcs_puta, xty_puta, xfl_puta, xsz_puta, xsl_puta, xar_puta, xcs_copy, xty_copy, xfl_copy, xsz_copy, xsl_copy, xar_copy, xcs_newo, xar_newo, xsz_newo, xsl_newo, xty_newo, xfl_newo, xcs_newa, xfl_newa, xsz_newa, xsl_newa, xty_newa, xar_newa, and_true, true_and, and_false, false_and, ite_true, ite_false, eq_self, and_self]) <;> (repeat (first | rw [if_pos (by omega)] | rw [if_neg (by omega)])) <;> (first | assumption | rfl | omega)))) rfl, ⟨by decide, by decide⟩, isW (by (first | assumption | ((try simp only [xcs_putf, xty_putf, xar_putf, xsz_putf, xsl_putf, xfl_putf, xcs_puta, xty_puta, xfl_puta, xsz_puta, xsl_puta, xar_puta, xcs_copy, xty_copy, xfl_copy, xsz_copy, xsl_copy, xar_copy, xcs_newo, xar_newo, xsz_newo, xsl_newo, xty_newo, xfl_newo, xcs_newa, xfl_newa, xsz_newa, xsl_newa, xty_newa, xar_newa, and_true, true_and, and_false, false_and, ite_true, ite_false, eq_self, and_self]) <;> (repeat (first | rw [if_pos (by omega)] | rw [if_neg (by omega)])) <;> (first | assumption | rfl | omega)))) rfl, ⟨by decide, by decide⟩, isW (by (first | assumption | ((try simp only [xcs_putf, xty_putf, xar_putf, xsz_putf, xsl_putf, xfl_putf, xcs_puta, xty_puta, xfl_puta, xsz_puta, xsl_puta, xar_puta, xcs_copy, xty_copy, xfl_copy, xsz_copy, xsl_copy, xar_copy, xcs_newo, xar_newo, xsz_newo, xsl_newo, xty_newo, xfl_newo, xcs_newa, xfl_newa, xsz_newa, xsl_newa, xty_newa, xar_newa, and_true, true_and, and_false, false_and, ite_true, ite_false, eq_self, and_self]) <;> (repeat (first | rw [if_pos (by omega)] | rw [if_neg (by omega)])) <;> (first | assumption | rfl | omega)))) rfl, trivial, none, rfl, rfl, ⟨?_, (by (first | assumption | ((try simp only [xcs_putf, xty_putf, xar_putf, xsz_putf, xsl_putf, xfl_putf, xcs_puta, xty_puta, xfl_puta, xsz_puta, xsl_puta, xar_puta, xcs_copy, xty_copy, xfl_copy, xsz_copy, xsl_copy, xar_copy, xcs_newo, xar_newo, xsz_newo, xsl_newo, xty_newo, xfl_newo, xcs_newa, xfl_newa, xsz_newa, xsl_newa, xty_newa, xar_newa, and_true, true_and, and_false, false_and, ite_true, ite_false, eq_self, and_self]) <;> (repeat (first | rw [if_pos (by omega)] | rw [if_neg (by omega)])) <;> (first | assumption | rfl | omega)))), (by (first | assumption | ((try simp only [xcs_putf, xty_putf, xar_putf, xsz_putf, xsl_putf, xfl_putf, xcs_puta, xty_puta, xfl_puta, xsz_puta, xsl_puta, xar_puta, xcs_copy, xty_copy, xfl_copy, xsz_copy, xsl_copy, xar_copy, xcs_newo, xar_newo, xsz_newo, xsl_newo, xty_newo, xfl_newo, xcs_newa, xfl_newa, xsz_newa, xsl_newa, xty_newa, xar_newa, and_true, true_and, and_false, false_and, ite_true, ite_false, eq_self, and_self]) <;> (repeat (first | rw [if_pos (by omega)] | rw [if_neg (by omega)])) <;> (first | assumption | rfl | omega)))), (by (first | assumption | ((try simp only [xcs_putf, xty_putf, xar_putf, xsz_putf, xsl_putf, xfl_putf, xcs_puta, xty_puta, xfl_puta, xsz_puta, xsl_puta, xar_puta, xcs_copy, xty_copy, xfl_copy, xsz_copy, xsl_copy, xar_copy, xcs_newo, xar_newo, xsz_newo, xsl_newo, xty_newo, xfl_newo, xcs_newa, xfl_newa, xsz_newa, xsl_newa, xty_newa, xar_newa, and_true, true_and, and_false, false_and, ite_true, ite_false, eq_self, and_self]) <;> (repeat (first | rw [if_pos (by omega)] | rw [if_neg (by omega)])) <;> (first | assumption | rfl | omega)))), (by (first | assumption | ((try simp only [xcs_putf, xty_putf, xar_putf, xsz_putf, xsl_putf, xfl_putf, xcs_puta, xty_puta, xfl_puta, xsz_puta, xsl_puta, xar_puta, xcs_copy, xty_copy, xfl_copy, xsz_copy, xsl_copy, xar_copy, xcs_newo, xar_newo, xsz_newo, xsl_newo, xty_newo, xfl_newo, xcs_newa, xfl_newa, xsz_newa, xsl_newa, xty_newa, xar_newa, and_true, true_and, and_false, false_and, ite_true, ite_false, eq_self, and_self]) <;> (repeat (first | rw [if_pos (by omega)] | rw [if_neg (by omega)])) <;> (first | assumption | rfl | omega)))), (by (first | assumption | ((try simp only [xcs_putf, xty_putf, xar_putf, xsz_putf, xsl_putf, xfl_putf, xcs_puta, xty_puta, xfl_puta, xsz_puta, xsl_puta, xar_puta, xcs_copy, xty_copy, xfl_copy, xsz_copy, xsl_copy, xar_copy, xcs_newo, xar_newo, xsz_newo, xsl_newo, xty_newo, xfl_newo, xcs_newa, xfl_newa, xsz_newa, xsl_newa, xty_newa, xar_newa, and_true, true_and, and_false, false_and, ite_true, ite_false, eq_self, and_self]) <;> (repeat (first | rw [if_pos (by omega)] | rw [if_neg (by omega)])) <;> (first | assumption | rfl | omega)))), (by (first | assumption | ((try simp only [xcs_putf, xty_putf, xar_putf, xsz_putf, xsl_putf, xfl_putf, xcs_puta, xty_puta, xfl_puta, xsz_puta, xsl_puta, xar_puta, xcs_copy, xty_copy, xfl_copy, xsz_copy, xsl_copy, xar_copy, xcs_newo, xar_newo, xsz_newo, xsl_newo, xty_newo, xfl_newo, xcs_newa, xfl_newa, xsz_newa, xsl_newa, xty_newa, xar_newa, and_true, true_and, and_false, false_and, ite_true, ite_false, eq_self, and_self]) <;> (repeat (first | rw [if_pos (by omega)] | rw [if_neg (by omega)])) <;> (first | assumption | rfl | omega)))), (by (first | assumption | ((try simp only [xcs_putf, xty_putf, xar_putf, xsz_putf, xsl_putf, xfl_putf, xcs_puta, xty_puta, xfl_puta, xsz_puta, xsl_puta, xar_puta, xcs_copy, xty_copy, xfl_copy, xsz_copy, xsl_copy, xar_copy, xcs_newo, xar_newo, xsz_newo, xsl_newo, xty_newo, xfl_newo, xcs_newa, xfl_newa, xsz_newa, xsl_newa, xty_newa, xar_newa, and_true, true_and, and_false, false_and, ite_true, ite_false, eq_self, and_self]) <;> (repeat (first | rw [if_pos (by omega)] | rw [if_neg (by omega)])) <;> (first | assumption | rfl | omega))))⟩, ?_, ?_, ?_⟩
  · simp only [xcs_putf, xty_putf, xar_putf, xsz_putf, xsl_putf, xfl_putf, xcs_puta, xty_puta, xfl_puta, xsz_puta, xsl_puta, xar_puta, xcs_copy, xty_copy, xfl_copy, xsz_copy, xsl_copy, xar_copy, xcs_newo, xar_newo, xsz_newo, xsl_newo, xty_newo, xfl_newo, xcs_newa, xfl_newa, xsz_newa, xsl_newa, xty_newa, xar_newa, and_true, true_and, and_false, false_and, ite_true, ite_false, eq_self, and_self]
    omega
  · exact ((((((XFr.refl h).newa).putf (Or.inr rfl)).newa).putf (Or.inr rfl)).newa).putf (Or.inr rfl)
  · simp only [xcs_putf, xty_putf, xar_putf, xsz_putf, xsl_putf, xfl_putf, xcs_puta, xty_puta, xfl_puta, xsz_puta, xsl_puta, xar_puta, xcs_copy, xty_copy, xfl_copy, xsz_copy, xsl_copy, xar_copy, xcs_newo, xar_newo, xsz_newo, xsl_newo, xty_newo, xfl_newo, xcs_newa, xfl_newa, xsz_newa, xsl_newa, xty_newa, xar_newa, and_true, true_and, and_false, false_and, ite_true, ite_false, eq_self, and_self]
    omega
  · simp only [xcs_putf, xty_putf, xar_putf, xsz_putf, xsl_putf, xfl_putf, xcs_puta, xty_puta, xfl_puta, xsz_puta, xsl_puta, xar_puta, xcs_copy, xty_copy, xfl_copy, xsz_copy, xsl_copy, xar_copy, xcs_newo, xar_newo, xsz_newo, xsl_newo, xty_newo, xfl_newo, xcs_newa, xfl_newa, xsz_newa, xsl_newa, xty_newa, xar_newa, and_true, true_and, and_false, false_and, ite_true, ite_false, eq_self, and_self]
    omega
