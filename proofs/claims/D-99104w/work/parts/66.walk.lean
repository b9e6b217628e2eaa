/-! WALKS, 7: what a town is, what a state is; how they lie in the heap -/
set_option maxRecDepth 100000
set_option maxHeartbeats 4000000
/-- a town: numbers (0 door, 1 like, 2 houses, 3 hours, 4 streets, 5 people, 6 signs, 7 noises); of a house or a person (0 rooms, 1 rent, 2 bill, 3 wrong, 4 from, 5 to, 6 smell, 7 home, 8 at, 9 timed); streets; what is noticed in the order told: house, 0 sign or 1 noise, smell or rooms -/
abbrev XTw : Type := (Nat → Int) × (Nat → Int → Int) × (Int → Int → Int) × List (Int × Int × Int)
def tsc (T : XTw) (k : Nat) : Int := T.1 k
def thv (T : XTw) (k : Nat) (h : Int) : Int := T.2.1 k h
def tst (T : XTw) (h g : Int) : Int := T.2.2.1 h g
def tnt (T : XTw) : List (Int × Int × Int) := T.2.2.2
abbrev tnh (T : XTw) : Int := tsc T 2
abbrev tpm (T : XTw) : Int := tsc T 5
def xword (w : List Int) : Prop := 1 ≤ w.length ∧ w.length ≤ 8 ∧ ∀ c ∈ w, 97 ≤ c ∧ c ≤ 122
def xpackA (v : Int) (w : List Int) : Int := w.foldl (fun v c => 32 * v + (c - 97 + 1)) v
def xpack (w : List Int) : Int := xpackA 0 w
def tsig (T : XTw) : List (Int × Int × Int) := (tnt T).filter fun q => q.2.1 == 0
def tnoi (T : XTw) : List (Int × Int × Int) := (tnt T).filter fun q => q.2.1 == 1
/-- what holds of each town that is read -/
def TOK (T : XTw) : Prop := (1 ≤ tsc T 0 ∧ tsc T 0 ≤ 9) ∧ (0 ≤ tsc T 1 ∧ tsc T 1 ≤ 9) ∧ (2 ≤ tnh T ∧ tnh T ≤ 7) ∧ (0 ≤ tpm T ∧ tpm T ≤ 4) ∧
  (∀ i : Int, 0 ≤ i → i < tnh T → (1 ≤ thv T 0 i ∧ thv T 0 i ≤ 9) ∧ (1 ≤ thv T 1 i ∧ thv T 1 i ≤ 99) ∧ (0 ≤ thv T 2 i ∧ thv T 2 i ≤ 999) ∧ (thv T 3 i = -2 ∨ (0 ≤ thv T 3 i ∧ thv T 3 i < tnh T ∧ thv T 3 i ≠ i)) ∧ (0 ≤ thv T 4 i ∧ thv T 4 i ≤ thv T 5 i ∧ thv T 5 i ≤ 23) ∧ (thv T 9 i = 1 ∨ (thv T 9 i = 0 ∧ thv T 4 i = 0 ∧ thv T 5 i = 23))) ∧
  (∀ i j : Int, 0 ≤ i → i < tnh T → 0 ≤ j → j < tnh T → thv T 3 i = thv T 3 j → thv T 3 i ≠ -2 → i = j) ∧
  (∀ i j : Int, 0 ≤ i → i < 7 → 0 ≤ j → j < 7 → 0 ≤ tst T i j ∧ tst T i j ≤ 99 ∧ tst T i j = tst T j i) ∧ (∀ i : Int, 0 ≤ i → i < 7 → tst T i i = 0) ∧
  (∀ p : Int, 0 ≤ p → p < tpm T → (0 ≤ thv T 7 p ∧ thv T 7 p < tnh T) ∧ (0 ≤ thv T 8 p ∧ thv T 8 p < tnh T)) ∧
  (tsc T 6 = ((tsig T).length : Int) ∧ tsc T 7 = ((tnoi T).length : Int) ∧ tsc T 6 ≤ 8 ∧ tsc T 7 ≤ 4 ∧ (tnt T).length = (tsig T).length + (tnoi T).length) ∧ (∀ q ∈ tnt T, (0 ≤ q.1 ∧ q.1 < tnh T) ∧ (q.2.1 = 0 ∨ (q.2.1 = 1 ∧ 1 ≤ q.2.2 ∧ q.2.2 ≤ 9)))
/-- a cell from B on -/
def CellX (h : XH) (B z : Int) (t : XT) : Prop := B ≤ z ∧ z < xsz h ∧ xty h z = some t
/-- nothing from B on has changed that was there -/
def Above (B : Int) (h g : XH) : Prop := xsz h ≤ xsz g ∧ ∀ z, B ≤ z → z < xsz h → xty g z = xty h z ∧ (∀ f, f ≠ 162 → f ≠ 163 → xfl g z f = xfl h z f) ∧ ∀ i, xar g z i = xar h z i
theorem Above.refl {B : Int} (h : XH) : Above B h h := ⟨Int.le_refl _, fun _ _ _ => ⟨rfl, fun _ _ _ => rfl, fun _ => rfl⟩⟩
theorem Above.of {W : Int → Nat → Prop} {A : Int → Prop} {B : Int} {h g : XH} (p : XFr W A h g) (hW : ∀ z f, B ≤ z → f ≠ 162 → f ≠ 163 → ¬ W z f) (hA : ∀ z, B ≤ z → ¬ A z) : Above B h g :=
  ⟨p.2.1, fun z hz hs => ⟨p.2.2.1 z hs, fun f n2 n3 => p.2.2.2.1 z f hs (hW z f hz n2 n3), fun i => p.2.2.2.2 z i hs (hA z hz)⟩⟩
theorem CellX.keep {B z : Int} {h g : XH} {t : XT} (p : Above B h g) (c : CellX h B z t) : CellX g B z t := ⟨c.1, by have := c.2.1; have := p.1; omega, ((p.2 z c.1 c.2.1).1).trans c.2.2⟩
theorem CellX.fl {B z : Int} {h g : XH} {t : XT} (p : Above B h g) (c : CellX h B z t) (f : Nat) (n2 : f ≠ 162) (n3 : f ≠ 163) : xfl g z f = xfl h z f := (p.2 z c.1 c.2.1).2.1 f n2 n3
theorem CellX.ar {B z : Int} {h g : XH} {t : XT} (p : Above B h g) (c : CellX h B z t) (i : Int) : xar g z i = xar h z i := (p.2 z c.1 c.2.1).2.2 i
def StrX (h : XH) (B a : Int) (w : List Int) : Prop := CellX h B a (true, 16, none) ∧ CellX h B (xfl h a 160) (true, 1, some (w.length : Int)) ∧ xfl h a 161 = 0 ∧ ∀ j : Nat, j < w.length → xar h (xfl h a 160) (j : Int) = w.getD j 0
theorem StrX.keep {B a : Int} {h g : XH} {w : List Int} (p : Above B h g) (s : StrX h B a w) : StrX g B a w := by
  obtain ⟨s1, s2, s3, s4⟩ := s
  refine ⟨s1.keep p, by rw [s1.fl p _ (by decide) (by decide)]; exact s2.keep p, (s1.fl p _ (by decide) (by decide)).trans s3, fun j hj => ?_⟩
  rw [s1.fl p _ (by decide) (by decide), s2.ar p]
  exact s4 j hj
def HouseX (h : XH) (B : Int) (T : XTw) (a i : Int) : Prop := CellX h B a (true, 11, none) ∧ (xfl h a 118 = i ∧ xfl h a 120 = thv T 0 i ∧ xfl h a 121 = thv T 1 i ∧ xfl h a 122 = thv T 2 i ∧ xfl h a 123 = thv T 4 i ∧ xfl h a 124 = thv T 5 i ∧ xfl h a 125 = thv T 3 i) ∧ ∃ w, xword w ∧ xpack w = thv T 6 i ∧ StrX h B (xfl h a 119) w
theorem HouseX.keep {B a i : Int} {T : XTw} {h g : XH} (p : Above B h g) (s : HouseX h B T a i) : HouseX g B T a i := by
  obtain ⟨s1, s2, w, s3, s4, s5⟩ := s
  unfold HouseX
  simp +decide only [s1.fl p]
  exact ⟨s1.keep p, s2, w, s3, s4, s5.keep p⟩
def PersX (h : XH) (B : Int) (T : XTw) (a i : Int) : Prop := CellX h B a (true, 12, none) ∧ xfl h a 128 = thv T 7 i ∧ xfl h a 129 = thv T 8 i
theorem PersX.keep {B a i : Int} {T : XTw} {h g : XH} (p : Above B h g) (s : PersX h B T a i) : PersX g B T a i := by
  obtain ⟨s1, s2⟩ := s
  unfold PersX
  simp +decide only [s1.fl p]
  exact ⟨s1.keep p, s2⟩
def NoteX (h : XH) (B a : Int) (q : Int × Int × Int) : Prop := xfl h a 130 = q.1 ∧ ((q.2.1 = 0 ∧ CellX h B a (true, 13, none) ∧ ∃ w, xword w ∧ xpack w = q.2.2 ∧ StrX h B (xfl h a 131) w) ∨ (q.2.1 = 1 ∧ CellX h B a (true, 14, none) ∧ xfl h a 132 = q.2.2))
theorem NoteX.keep {B a : Int} {q : Int × Int × Int} {h g : XH} (p : Above B h g) (s : NoteX h B a q) : NoteX g B a q := by
  obtain ⟨s1, s2⟩ := s
  unfold NoteX
  rcases s2 with ⟨k0, c, w, s3, s4, s5⟩ | ⟨k1, c, s3⟩
  · simp +decide only [c.fl p]
    exact ⟨s1, Or.inl ⟨k0, c.keep p, w, s3, s4, s5.keep p⟩⟩
  · simp +decide only [c.fl p]
    exact ⟨s1, Or.inr ⟨k1, c.keep p, s3⟩⟩
/-- the town as WrongRoom has it -/
def TownX (h : XH) (B t : Int) (T : XTw) : Prop := CellX h B t (true, 10, none) ∧ (CellX h B (xfl h t 105) (true, 5, some 7) ∧ CellX h B (xfl h t 106) (true, 6, some 4) ∧ CellX h B (xfl h t 107) (true, 7, some 12) ∧ CellX h B (xfl h t 108) (true, 0, some 49)) ∧ (xfl h t 109 = tsc T 0 ∧ xfl h t 110 = tsc T 1 ∧ xfl h t 111 = tsc T 2 ∧ xfl h t 112 = tsc T 3 ∧ xfl h t 113 = tsc T 4 ∧ xfl h t 114 = tsc T 5 ∧ xfl h t 115 = tsc T 6 ∧ xfl h t 116 = tsc T 7) ∧
  (∀ i : Int, 0 ≤ i → i < tnh T → HouseX h B T (xar h (xfl h t 105) i) i) ∧ (∀ i : Int, 0 ≤ i → i < tpm T → PersX h B T (xar h (xfl h t 106) i) i) ∧ (∀ (k : Nat) (q : Int × Int × Int), (tnt T)[k]? = some q → NoteX h B (xar h (xfl h t 107) (k : Int)) q) ∧ (∀ i j : Int, 0 ≤ i → i < 7 → 0 ≤ j → j < 7 → xar h (xfl h t 108) (7 * i + j) = tst T i j)
theorem TownX.keep {B t : Int} {T : XTw} {h g : XH} (p : Above B h g) (s : TownX h B t T) : TownX g B t T := by
  obtain ⟨s1, ⟨a1, a2, a3, a4⟩, s2, s3, s4, s5, s6⟩ := s
  unfold TownX
  simp +decide only [s1.fl p, a1.ar p, a2.ar p, a3.ar p, a4.ar p]
  exact ⟨s1.keep p, ⟨a1.keep p, a2.keep p, a3.keep p, a4.keep p⟩, s2, fun i h0 h1 => (s3 i h0 h1).keep p, fun i h0 h1 => (s4 i h0 h1).keep p, fun k q hq => (s5 k q hq).keep p, s6⟩
/-- the town as the model has it -/
def TownM (h : XH) (B t : Int) (T : XTw) : Prop := CellX h B t (true, 15, none) ∧ ((CellX h B (xfl h t 143) (true, 0, some 7) ∧ CellX h B (xfl h t 144) (true, 0, some 7) ∧ CellX h B (xfl h t 145) (true, 0, some 7) ∧ CellX h B (xfl h t 147) (true, 0, some 7) ∧ CellX h B (xfl h t 148) (true, 0, some 7) ∧ CellX h B (xfl h t 149) (true, 3, some 7)) ∧ CellX h B (xfl h t 150) (true, 0, some 49) ∧ CellX h B (xfl h t 151) (true, 0, some 4) ∧ CellX h B (xfl h t 152) (true, 0, some 4) ∧ CellX h B (xfl h t 153) (true, 0, some 8) ∧ CellX h B (xfl h t 154) (true, 0, some 4) ∧ CellX h B (xfl h t 155) (true, 0, some 4) ∧ CellX h B (xfl h t 156) (true, 3, some 8)) ∧
  (xfl h t 133 = tsc T 0 ∧ xfl h t 134 = tsc T 1 ∧ xfl h t 135 = tsc T 2 ∧ xfl h t 137 = tsc T 3 ∧ xfl h t 138 = tsc T 4 ∧ xfl h t 139 = tsc T 5 ∧ xfl h t 140 = tsc T 6 ∧ xfl h t 141 = tsc T 7) ∧
  (∀ i : Int, 0 ≤ i → i < tnh T → xar h (xfl h t 143) i = thv T 0 i ∧ xar h (xfl h t 144) i = thv T 1 i ∧ xar h (xfl h t 145) i = thv T 2 i ∧ ((thv T 9 i = 0 ∧ xar h (xfl h t 147) i = -1) ∨ (thv T 9 i = 1 ∧ xar h (xfl h t 147) i = thv T 4 i ∧ xar h (xfl h t 148) i = thv T 5 i)) ∧ xar h (xfl h t 149) i = thv T 6 i) ∧
  (∀ i : Int, 0 ≤ i → i < tpm T → xar h (xfl h t 151) i = thv T 7 i ∧ xar h (xfl h t 152) i = thv T 8 i) ∧ (∀ (k : Nat) (q : Int × Int × Int), (tsig T)[k]? = some q → xar h (xfl h t 153) (k : Int) = q.1 ∧ xar h (xfl h t 156) (k : Int) = q.2.2) ∧ (∀ (k : Nat) (q : Int × Int × Int), (tnoi T)[k]? = some q → xar h (xfl h t 154) (k : Int) = q.1 ∧ xar h (xfl h t 155) (k : Int) = q.2.2) ∧ (∀ i j : Int, 0 ≤ i → i < 7 → 0 ≤ j → j < 7 → xar h (xfl h t 150) (7 * i + j) = tst T i j)
theorem TownM.keep {B t : Int} {T : XTw} {h g : XH} (p : Above B h g) (s : TownM h B t T) : TownM g B t T := by
  obtain ⟨s1, ⟨⟨a1, a2, a3, a4, a5, a6⟩, b1, b2, b3, b4, b5, b6, b7⟩, s2, s3, s4, s5, s6, s7⟩ := s
  unfold TownM
  simp +decide only [s1.fl p, a1.ar p, a2.ar p, a3.ar p, a4.ar p, a5.ar p, a6.ar p, b1.ar p, b2.ar p, b3.ar p, b4.ar p, b5.ar p, b6.ar p, b7.ar p]
  exact ⟨s1.keep p, ⟨⟨a1.keep p, a2.keep p, a3.keep p, a4.keep p, a5.keep p, a6.keep p⟩, b1.keep p, b2.keep p, b3.keep p, b4.keep p, b5.keep p, b6.keep p, b7.keep p⟩, s2, s3, s4, s5, s6, s7⟩
