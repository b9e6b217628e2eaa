/-! WALKS, 9: the state -/
set_option maxRecDepth 100000
set_option maxHeartbeats 4000000
/-- a state: the town, how it is (0..6 whose, 7 shut, 8..11 at, 12..15 minutes), the acts' stack and the marks (oldest first), trouble, where, fault; the tape -/
abbrev XSt : Type := Option XTw × (Int → Int) × List (Int → Int) × List (Int → Int) × (Int × Int × Int) × List Int
def sT (S : XSt) : Option XTw := S.1
def sV (S : XSt) : Int → Int := S.2.1
def sU (S : XSt) : List (Int → Int) := S.2.2.1
def sM (S : XSt) : List (Int → Int) := S.2.2.2.1
def sTr (S : XSt) : Int := S.2.2.2.2.1.1
def sWh (S : XSt) : Int := S.2.2.2.2.1.2.1
def sFa (S : XSt) : Int := S.2.2.2.2.1.2.2
def sTp (S : XSt) : List Int := S.2.2.2.2.2
/-- how it is, rightly: n bounds the minutes -/
def VOK (T : XTw) (n : Int) (V : Int → Int) : Prop := (∀ i : Int, 0 ≤ i → i < tnh T → V i = -2 ∨ (0 ≤ V i ∧ V i < tnh T ∧ V i ≠ i)) ∧ (∀ i j : Int, 0 ≤ i → i < tnh T → 0 ≤ j → j < tnh T → V i = V j → V i ≠ -2 → i = j) ∧ (∀ i : Int, tnh T ≤ i → i < 7 → V i = -2) ∧ (0 ≤ V 7 ∧ V 7 < 128 ∧ ∀ i : Int, tnh T ≤ i → i < 7 → ¬ xbit (V 7) i) ∧ (∀ q : Int, 0 ≤ q → q < tpm T → (0 ≤ V (8 + q) ∧ V (8 + q) < tnh T) ∧ (0 ≤ V (12 + q) ∧ V (12 + q) ≤ 1000 * n))
def SOK (n : Int) (S : XSt) : Prop := (∀ T, sT S = some T → TOK T ∧ VOK T n (sV S) ∧ (∀ V ∈ sU S, VOK T n V) ∧ ∀ V ∈ sM S, VOK T n V) ∧ ((sU S).length ≤ 16 ∧ (sM S).length ≤ 3) ∧ (sTp S).length ≤ 1100 ∧ (sTr S ≠ 4 → sWh S = -1) ∧ (sT S = none → sU S = [] ∧ sM S = []) ∧ 0 ≤ n ∧ n ≤ 64
/-- Rooms a with town t hold V -/
def SnapX (h : XH) (T : XTw) (a t : Int) (V : Int → Int) : Prop := xfl h a 43 = t ∧ (∀ i : Int, 0 ≤ i → i < tnh T → xar h (a + 1) i = V i) ∧ xfl h a 44 = V 7 ∧ ∀ q : Int, 0 ≤ q → q < tpm T → xar h (a + 2) q = V (8 + q) ∧ xar h (a + 3) q = V (12 + q)
def RxT (h : XH) (B s r : Int) (S : XSt) : Prop := match sT S with
  | none => xfl h s 3 = 0
  | some T => TownX h B (xfl h s 3) T ∧ SnapX h T (s + 5) (xfl h s 3) (sV S) ∧ (∀ (k : Nat) (V : Int → Int), (sU S)[k]? = some V → SnapX h T (s + 50 + 4 * (((k : Int) + r) % 16)) (xfl h s 3) V) ∧ ∀ (k : Nat) (V : Int → Int), (sM S)[k]? = some V → SnapX h T (s + 114 + 4 * (k : Int)) (xfl h s 3) V
/-- WrongRoom s holds the state; town and words stand from B on -/
def Rx (h : XH) (B s : Int) (S : XSt) : Prop := (1 ≤ s ∧ s + 126 ≤ B ∧ B ≤ xsz h) ∧ XLay h s ∧ (xfl h s 1 = ((sTp S).length : Int) ∧ ∀ j : Nat, j < (sTp S).length → xar h (s + 1) (j : Int) = (sTp S).getD j 0) ∧ (xfl h s 4 = sTr S ∧ (sTr S = 4 → xfl h s 6 = sWh S) ∧ xfl h s 5 = sFa S) ∧ (xfl h s 7 = ((sM S).length : Int) ∧ xfl h s 8 = ((sU S).length : Int)) ∧ ∃ r : Int, (0 ≤ r ∧ r < 16 ∧ ∀ k : Int, 0 ≤ k → k < 16 → xar h (s + 47) k = s + 50 + 4 * ((k + r) % 16)) ∧ RxT h B s r S
/-- the minutes of a walk by streets from a on -/
def wkl (T : XTw) : Int → List Int → Option Int
  | _, [] => some 0
  | a, b :: l => if 0 < tst T a b then (wkl T b l).map (tst T a b + ·) else none
/-- whether one comes by streets from a to b in M minutes -/
def wreach (T : XTw) (a b M : Int) : Prop := ∃ (l : List Int) (c : Int), (∀ x ∈ l, 0 ≤ x ∧ x < tnh T) ∧ (a :: l).getLast (List.cons_ne_nil _ _) = b ∧ wkl T a l = some c ∧ c ≤ M
/-- the shortest minutes, in a row -/
def farOK (f : Int → Int) (T : XTw) : Prop := ∀ a b M : Int, 0 ≤ a → a < tnh T → 0 ≤ b → b < tnh T → 0 ≤ M → M ≤ 999 → (f (7 * a + b) ≤ M ↔ wreach T a b M)
def RmT (h : XH) (B m : Int) (S : XSt) : Prop := match sT S with
  | none => xfl h m 69 = 0
  | some T => TownM h B (xfl h m 69) T ∧ (∀ i : Int, 0 ≤ i → i < 8 → xar h (m + 2) i = sV S i) ∧ (∀ q : Int, 0 ≤ q → q < tpm T → xar h (m + 2) (8 + q) = sV S (8 + q) ∧ xar h (m + 2) (12 + q) = sV S (12 + q)) ∧
    (∀ (k : Nat) (V : Int → Int), (sU S)[k]? = some V → (∀ i : Int, 0 ≤ i → i < 8 → xar h (m + 3) (16 * (k : Int) + i) = V i) ∧ ∀ q : Int, 0 ≤ q → q < tpm T → xar h (m + 3) (16 * (k : Int) + (8 + q)) = V (8 + q) ∧ xar h (m + 3) (16 * (k : Int) + (12 + q)) = V (12 + q)) ∧
    (∀ (k : Nat) (V : Int → Int), (sM S)[k]? = some V → (∀ i : Int, 0 ≤ i → i < 8 → xar h (m + 4) (16 * (k : Int) + i) = V i) ∧ ∀ q : Int, 0 ≤ q → q < tpm T → xar h (m + 4) (16 * (k : Int) + (8 + q)) = V (8 + q) ∧ xar h (m + 4) (16 * (k : Int) + (12 + q)) = V (12 + q)) ∧
    farOK (xar h (m + 15)) T
/-- the model m holds the state -/
def Rm (h : XH) (B m : Int) (S : XSt) : Prop := (1 ≤ m ∧ m + 16 ≤ B ∧ B ≤ xsz h) ∧ ModelL h m ∧ (xfl h m 72 = ((sTp S).length : Int) ∧ ∀ j : Nat, j < (sTp S).length → xar h (m + 1) (j : Int) = (sTp S).getD j 0) ∧ (xfl h m 67 = sTr S ∧ xfl h m 68 = sWh S ∧ xfl h m 78 = sFa S) ∧ (xfl h m 85 = ((sM S).length : Int) ∧ xfl h m 84 = ((sU S).length : Int)) ∧ RmT h B m S
/-- is it a house, a person -/
def isHou (S : XSt) (k : Int) : Prop := ∃ T, sT S = some T ∧ 0 ≤ k ∧ k < tnh T
def isPer (S : XSt) (k : Int) : Prop := ∃ T, sT S = some T ∧ 0 ≤ k ∧ k < tpm T
/-- a question's answer as an int -/
noncomputable def xb (p : Prop) : Int := @ite Int p (Classical.propDecidable p) 1 0
theorem xb_pos {p : Prop} (h : p) : xb p = 1 := if_pos h
theorem xb_neg {p : Prop} (h : ¬ p) : xb p = 0 := if_neg h
theorem xb_rg (p : Prop) : 0 ≤ xb p ∧ xb p ≤ 1 := by
  by_cases h : p
  · rw [xb_pos h]; decide
  · rw [xb_neg h]; decide
theorem xb_0 {p : Prop} : xb p = 0 ↔ ¬ p := ⟨fun e h => absurd (e.symm.trans (xb_pos h)) (by decide), fun h => xb_neg h⟩
theorem xb_if {p q : Prop} [Decidable q] (h : p ↔ q) : xb p = if q then 1 else 0 := by
  by_cases c : q
  · rw [if_pos c, xb_pos (h.mpr c)]
  · rw [if_neg c, xb_neg (fun w => c (h.mp w))]
theorem x_isHouse {d : Nat} {h : XH} {B s k n : Int} {S : XSt} (R : Rx h B s S) (O : SOK n S) : WpM (d + 1) 11 [.inr (.inr s), .inl k] h (XE (some (.inl (xb (isHou S k)))) h) := by
  obtain ⟨⟨b0, b1, b2⟩, L, -, -, -, r, -, RT⟩ := R
  have ts := L.2.1
  have g1 : xIsF h s 3 := isF ts rfl
  clear L
  unfold RxT at RT
  split at RT
  · next e =>
    rw [xb_neg (fun ⟨T, hT, _⟩ => by rw [e] at hT; cases hT)]
    refine WpM.of rfl (Wp.vc 400 [] rfl ?_)
    rw [RT]
    exact ⟨g1, fun _ => ⟨⟨by decide, by decide⟩, rfl, rfl⟩, fun c => absurd rfl c⟩
  · next T e =>
    obtain ⟨TX, -⟩ := RT
    obtain ⟨TO, -⟩ := O.1 T e
    have hnh := TO.2.2.1
    clear TO O
    have ct := TX.1
    have fc : xfl h (xfl h s 3) 111 = tnh T := TX.2.2.1.2.2.1
    clear TX
    have ne : xfl h s 3 ≠ 0 := fun q => by have := ct.1; omega
    have g2 : xIsF h (xfl h s 3) 111 := isF ct.2.2 rfl
    rw [xb_if (q := 0 ≤ k ∧ k ≤ tnh T - 1) ⟨fun ⟨T', hT, h1⟩ => by rw [e] at hT; cases hT; omega, fun h1 => ⟨T, e, h1.1, by omega⟩⟩]
    refine WpM.of rfl (Wp.vc 400 [] rfl ?_)
    rw [fc]
    refine ⟨g1, fun c => absurd c ne, fun _ => ⟨g1, g2, ⟨by omega, by omega⟩, ?_⟩⟩
    refine Wp.callE (j := 0) rfl (Nat.le_of_ble_eq_true rfl) trivial (x_in k 0 _) ?_
    refine Wp.vc 400 [] rfl ?_
    by_cases c : 0 ≤ k ∧ k ≤ tnh T - 1
    · rw [if_pos c]
      exact ⟨fun w => absurd w (by decide), fun _ => ⟨⟨by decide, by decide⟩, rfl, rfl⟩⟩
    · rw [if_neg c]
      exact ⟨fun _ => ⟨⟨by decide, by decide⟩, rfl, rfl⟩, fun w => absurd rfl w⟩
theorem x_isPerson {d : Nat} {h : XH} {B s k n : Int} {S : XSt} (R : Rx h B s S) (O : SOK n S) : WpM (d + 1) 17 [.inr (.inr s), .inl k] h (XE (some (.inl (xb (isPer S k)))) h) := by
  obtain ⟨⟨b0, b1, b2⟩, L, -, -, -, r, -, RT⟩ := R
  have ts := L.2.1
  have g1 : xIsF h s 3 := isF ts rfl
  clear L
  unfold RxT at RT
  split at RT
  · next e =>
    rw [xb_neg (fun ⟨T, hT, _⟩ => by rw [e] at hT; cases hT)]
    refine WpM.of rfl (Wp.vc 400 [] rfl ?_)
    rw [RT]
    exact ⟨g1, fun _ => ⟨⟨by decide, by decide⟩, rfl, rfl⟩, fun c => absurd rfl c⟩
  · next T e =>
    obtain ⟨TX, -⟩ := RT
    obtain ⟨TO, -⟩ := O.1 T e
    have hnh := TO.2.2.2.1
    clear TO O
    have ct := TX.1
    have fc : xfl h (xfl h s 3) 114 = tpm T := TX.2.2.1.2.2.2.2.2.1
    clear TX
    have ne : xfl h s 3 ≠ 0 := fun q => by have := ct.1; omega
    have g2 : xIsF h (xfl h s 3) 114 := isF ct.2.2 rfl
    rw [xb_if (q := 0 ≤ k ∧ k ≤ tpm T - 1) ⟨fun ⟨T', hT, h1⟩ => by rw [e] at hT; cases hT; omega, fun h1 => ⟨T, e, h1.1, by omega⟩⟩]
    refine WpM.of rfl (Wp.vc 400 [] rfl ?_)
    rw [fc]
    refine ⟨g1, fun c => absurd c ne, fun _ => ⟨g1, g2, ⟨by omega, by omega⟩, ?_⟩⟩
    refine Wp.callE (j := 0) rfl (Nat.le_of_ble_eq_true rfl) trivial (x_in k 0 _) ?_
    refine Wp.vc 400 [] rfl ?_
    by_cases c : 0 ≤ k ∧ k ≤ tpm T - 1
    · rw [if_pos c]
      exact ⟨fun w => absurd w (by decide), fun _ => ⟨⟨by decide, by decide⟩, rfl, rfl⟩⟩
    · rw [if_neg c]
      exact ⟨fun _ => ⟨⟨by decide, by decide⟩, rfl, rfl⟩, fun w => absurd rfl w⟩
theorem m_isHouse {d : Nat} {h : XH} {B m k : Int} {S : XSt} (R : Rm h B m S) : WpM d 178 [.inr (.inr m), .inl k] h (XE (some (.inl (xb (isHou S k)))) h) := by
  obtain ⟨⟨b0, b1, b2⟩, L, -, -, -, RT⟩ := R
  have g1 : xIsF h m 69 := isF L.1 rfl
  clear L
  unfold RmT at RT
  split at RT
  · next e =>
    rw [xb_neg (fun ⟨T, hT, _⟩ => by rw [e] at hT; cases hT)]
    refine WpM.of rfl (Wp.vc 400 [] rfl ?_)
    rw [RT]
    exact ⟨g1, fun _ => ⟨⟨by decide, by decide⟩, rfl, rfl⟩, fun c => absurd rfl c⟩
  · next T e =>
    obtain ⟨TX, -⟩ := RT
    have ct := TX.1
    have fc : xfl h (xfl h m 69) 135 = tnh T := TX.2.2.1.2.2.1
    clear TX
    have ne : xfl h m 69 ≠ 0 := fun q => by have := ct.1; omega
    have g2 : xIsF h (xfl h m 69) 135 := isF ct.2.2 rfl
    rw [xb_if (q := 0 ≤ k ∧ k < tnh T) ⟨fun ⟨T', hT, h1⟩ => by rw [e] at hT; cases hT; exact h1, fun h1 => ⟨T, e, h1⟩⟩]
    refine WpM.of rfl (Wp.vc 400 [] rfl ?_)
    rw [fc]
    refine ⟨g1, fun c => absurd c ne, fun _ => ⟨fun c => ?_, fun c => ⟨g1, g2, fun c2 => ?_, fun c2 => ?_⟩⟩⟩
    · rw [if_neg (by omega)]
      exact ⟨⟨by decide, by decide⟩, rfl, rfl⟩
    · rw [if_neg (by omega)]
      exact ⟨⟨by decide, by decide⟩, rfl, rfl⟩
    · rw [if_pos (by omega)]
      exact ⟨⟨by decide, by decide⟩, rfl, rfl⟩
theorem m_isPerson {d : Nat} {h : XH} {B m k : Int} {S : XSt} (R : Rm h B m S) : WpM d 185 [.inr (.inr m), .inl k] h (XE (some (.inl (xb (isPer S k)))) h) := by
  obtain ⟨⟨b0, b1, b2⟩, L, -, -, -, RT⟩ := R
  have g1 : xIsF h m 69 := isF L.1 rfl
  clear L
  unfold RmT at RT
  split at RT
  · next e =>
    rw [xb_neg (fun ⟨T, hT, _⟩ => by rw [e] at hT; cases hT)]
    refine WpM.of rfl (Wp.vc 400 [] rfl ?_)
    rw [RT]
    exact ⟨g1, fun _ => ⟨⟨by decide, by decide⟩, rfl, rfl⟩, fun c => absurd rfl c⟩
  · next T e =>
    obtain ⟨TX, -⟩ := RT
    have ct := TX.1
    have fc : xfl h (xfl h m 69) 139 = tpm T := TX.2.2.1.2.2.2.2.2.1
    clear TX
    have ne : xfl h m 69 ≠ 0 := fun q => by have := ct.1; omega
    have g2 : xIsF h (xfl h m 69) 139 := isF ct.2.2 rfl
    rw [xb_if (q := 0 ≤ k ∧ k < tpm T) ⟨fun ⟨T', hT, h1⟩ => by rw [e] at hT; cases hT; exact h1, fun h1 => ⟨T, e, h1⟩⟩]
    refine WpM.of rfl (Wp.vc 400 [] rfl ?_)
    rw [fc]
    refine ⟨g1, fun c => absurd c ne, fun _ => ⟨fun c => ?_, fun c => ⟨g1, g2, fun c2 => ?_, fun c2 => ?_⟩⟩⟩
    · rw [if_neg (by omega)]
      exact ⟨⟨by decide, by decide⟩, rfl, rfl⟩
    · rw [if_neg (by omega)]
      exact ⟨⟨by decide, by decide⟩, rfl, rfl⟩
    · rw [if_pos (by omega)]
      exact ⟨⟨by decide, by decide⟩, rfl, rfl⟩
