/-! WALKS, 11: simple questions -/
set_option maxRecDepth 100000
set_option maxHeartbeats 4000000
theorem xset_congr {p q : Int → Bool} : ∀ n : Nat, (∀ i : Nat, i < n → p i = q i) → xset_ p n = xset_ q n := by
  intro n
  induction n with
  | zero => intro _; rfl
  | succ n ih =>
    intro h
    show xset_ p n + (if p n = true then 2 ^ n else 0) = xset_ q n + (if q n = true then 2 ^ n else 0)
    rw [ih (fun i hi => h i (by omega)), h n (by omega)]
theorem xmutual_congr {w v : Int → Int} {n : Int} (hr : RowOK w n) (h : ∀ i : Int, 0 ≤ i → i < n → w i = v i) : xmutual w n = xmutual v n := by
  refine xset_congr _ fun i hi => ?_
  have e1 := h i (by omega) (by omega)
  rcases hr i (by omega) (by omega) with e | e
  · simp [isMut, ← e1, e]
  · have e2 := h (w i) e.1 e.2
    simp [isMut, ← e1, ← e2]
/-- the rooms of a state with a town -/
theorem Rx.rooms {h : XH} {B s n : Int} {S : XSt} {T : XTw} (R : Rx h B s S) (O : SOK n S) (e : sT S = some T) : RoomsT h (s + 5) (xfl h s 3) (tnh T) ∧ (∀ i : Int, 0 ≤ i → i < tnh T → xar h (s + 5 + 1) i = sV S i) ∧ xfl h s 3 ≠ 0 ∧ TownX h B (xfl h s 3) T ∧ SnapX h T (s + 5) (xfl h s 3) (sV S) := by
  obtain ⟨⟨b0, b1, b2⟩, L, -, -, -, r, -, RT⟩ := R
  obtain ⟨TO, VO, -⟩ := O.1 T e
  have LR := L.2.2.2.2.1.2
  clear L
  unfold RxT at RT
  rw [e] at RT
  obtain ⟨TX, SN, -⟩ := RT
  have ct := TX.1
  have hb := ct.1
  have hnh := TO.2.2.1
  refine ⟨⟨LR, SN.1, ⟨true, ct.2.2⟩, TX.2.2.1.2.2.1, by omega, by omega, fun i h0 h1 => ?_⟩, SN.2.1, by omega, TX, SN⟩
  rw [SN.2.1 i h0 h1]
  rcases VO.1 i h0 h1 with q | q
  · exact Or.inl q
  · exact Or.inr ⟨q.1, q.2.1⟩
theorem Rx.noT {h : XH} {B s : Int} {S : XSt} (R : Rx h B s S) (e : sT S = none) : xfl h s 3 = 0 := by
  obtain ⟨-, -, -, -, -, r, -, RT⟩ := R
  unfold RxT at RT
  rw [e] at RT
  exact RT
theorem XAns.imp {RR : XH → XSt → Prop} {W W' : Int → Nat → Prop} {A A' : Int → Prop} {v : Option XV} {S' : XSt} {h g : XH} (p : XFr W' A' h g) (hz : xsz g = xsz h) (hl : xsl g = xsl h) (hW : ∀ z f, W z f → W' z f) (hA : ∀ z, A z → A' z) : ∀ o h', XAns RR W A v S' g o h' → XAns RR W' A' v S' h o h' := by
  rintro o h' ⟨v', rfl, rfl, q1, q2, q3, q4⟩
  exact ⟨_, rfl, rfl, q1, p.trans q2 (fun z f _ w => hW z f w) (fun z _ w => hA z w), q3.trans hz, q4.trans hl⟩
/-- a question of the state: what is answered, what the state is then -/
def opMutual (S : XSt) : Int × XSt := match sT S with
  | none => (-1, sSet S 1 (-1))
  | some T => (xmutual (sV S) (tnh T), sSet S 0 (-1))
theorem w46_xw {s : Int} : ∀ z f, W46 s z f → XW s z f := fun z f w => ⟨by omega, by omega, by rcases w.2 with e | e <;> rw [e] <;> rfl⟩
theorem x_opMutual {d : Nat} {h : XH} {B s n : Int} {S : XSt} (R : Rx h B s S) (O : SOK n S) : WpM (d + 2) 21 [.inr (.inr s)] h (XAns (fun h' S' => Rx h' B s S') (XW s) (XA s) (some (.inl (opMutual S).1)) (opMutual S).2 h) := by
  have ts := R.2.1.2.1
  refine WpM.of rfl (Wp.vc 400 [] rfl ?_)
  refine Wp.callR (j := 0) rfl (Nat.le_of_ble_eq_true rfl) ⟨true, ts⟩ (x_anew R O) (fun v h1 q => ?_)
  obtain ⟨rfl, R1, p1, z1, z2⟩ := q
  have ts1 := R1.2.1.2.1
  have pp : XFr (XW s) (XA s) h h1 := p1.mono (fun z f _ w => w46_xw z f w) (fun _ _ w => w.elim)
  unfold opMutual
  refine Wp.vc 400 [] rfl ?_
  cases e : sT S with
  | none =>
    rw [R1.noT e]
    refine ⟨isF ts1 rfl, fun c => absurd rfl c, fun _ => ?_⟩
    refine Wp.callR (j := 0) rfl (Nat.le_of_ble_eq_true rfl) ⟨true, ts1⟩ (x_no R1 O.set (by decide) rfl) (fun v h2 q => ?_)
    obtain ⟨rfl, R2, p2, z3, z4⟩ := q
    refine Wp.vc 400 [] rfl ?_
    exact ⟨trivial, XAns.mk R2 (pp.trans p2 (fun z f _ w => w46_xw z f w) (fun _ _ w => w.elim)) (z3.trans z1) (z4.trans z2)⟩
  | some T =>
    obtain ⟨RT, hv, ne, -⟩ := R1.rooms O.set e
    refine ⟨isF ts1 rfl, fun _ => ⟨isF ts1 rfl, ?_⟩, fun c => absurd ne c⟩
    rw [R1.2.1.2.2.2.2.1.1]
    refine Wp.callE (j := 0) rfl (Nat.le_of_ble_eq_true rfl) ⟨true, RT.1.2.1⟩ (x_mutual RT) ?_
    refine Wp.vc 400 [] rfl ?_
    rw [xmutual_congr RT.2.2.2.2.2.2 hv]
    exact ⟨trivial, XAns.mk R1 pp z1 z2⟩
/-- the row to try on: the state's row, written into x -/
theorem m_tries {d : Nat} {h : XH} {m : Int} (L : ModelL h m) (hs : m + 16 ≤ xsz h) : WpM d 189 [.inr (.inr m)] h (XRet fun v h' => v = none ∧ (∀ i : Int, 0 ≤ i → i < 7 → xar h' (m + 5) i = xar h (m + 2) i) ∧ XFr (fun _ _ => False) (fun z => z = m + 5) h h' ∧ xsz h' = xsz h ∧ xsl h' = xsl h) := by
  have tm := L.1
  obtain ⟨t2, f2⟩ := L.2.2.1
  obtain ⟨t5, f5⟩ := L.2.2.2.2.2.1
  clear L
  refine WpM.of rfl (Wp.vc 400 [2] rfl ?_)
  have key : ∀ (k : Int) (g : XH), k ≤ 7 → (0 ≤ k ∧ (∀ i : Int, 0 ≤ i → i < k → xar g (m + 5) i = xar h (m + 2) i) ∧ XFr (fun _ _ => False) (fun z => z = m + 5) h g ∧ xsz g = xsz h ∧ xsl g = xsl h) → Wp d 189 2 [some (.inr (.inr m)), some (.inl k)] [] g (XRet fun v h' => v = none ∧ (∀ i : Int, 0 ≤ i → i < 7 → xar h' (m + 5) i = xar h (m + 2) i) ∧ XFr (fun _ _ => False) (fun z => z = m + 5) h h' ∧ xsz h' = xsz h ∧ xsl h' = xsl h) := by
    refine loopUp (G := fun k g => Wp d 189 2 [some (.inr (.inr m)), some (.inl k)] [] g (XRet fun v h' => v = none ∧ (∀ i : Int, 0 ≤ i → i < 7 → xar h' (m + 5) i = xar h (m + 2) i) ∧ XFr (fun _ _ => False) (fun z => z = m + 5) h h' ∧ xsz h' = xsz h ∧ xsl h' = xsl h)) 7 ?_ ?_
    · rintro k g ⟨k0, i1, p, z1, z2⟩ hk ih
      have fl : ∀ f, xfl g m f = xfl h m f := fun f => p.2.2.2.1 m f (by omega) (fun w => w)
      have tm' := (p.2.2.1 m (by omega)).trans tm
      have t2' := (p.2.2.1 (m + 2) (by omega)).trans t2
      have t5' := (p.2.2.1 (m + 5) (by omega)).trans t5
      have a2 : ∀ i, xar g (m + 2) i = xar h (m + 2) i := fun i => p.2.2.2.2 _ i (by omega) (fun w => by omega)
      refine Wp.vc 400 [2] rfl ?_
      rw [fl 86, fl 81, f5, f2, Int.zero_add, a2]
      refine ⟨fun c => absurd c (by omega), fun _ => ⟨isF tm' rfl, isF tm' rfl, ⟨by omega, by omega⟩, isA t2' k0 (by omega), isB t5' k0 hk, ⟨by omega, by omega⟩, ih _ ⟨by omega, fun i h0 h1 => ?_, p.puta (Or.inr rfl), z1, z2⟩⟩⟩
      rw [xar_puta]
      by_cases e : i = k
      · rw [if_pos ⟨rfl, e⟩, e]
      · rw [if_neg (fun w => e w.2)]
        exact i1 i h0 (by omega)
    · rintro g ⟨k0, i1, p, z1, z2⟩
      refine Wp.vc 400 [2] rfl ?_
      exact ⟨fun _ => ⟨trivial, none, rfl, rfl, i1, p, z1, z2⟩, fun c => absurd (Int.le_refl _) c⟩
  exact key 0 h (by decide) ⟨by decide, fun i h0 h1 => by omega, XFr.refl h, rfl, rfl⟩
/-- what may be written freely: the model's tries -/
abbrev WScr (m : Int) : Int → Nat → Prop := fun z f => z = m ∧ (f = 66 ∨ f = 70 ∨ (73 ≤ f ∧ f ≤ 77) ∨ f = 79 ∨ f = 80 ∨ f = 89 ∨ f = 90 ∨ (96 ≤ f ∧ f ≤ 98) ∨ f = 101 ∨ f = 102 ∨ f = 104)
abbrev AScr (m : Int) : Int → Prop := fun z => m + 5 ≤ z ∧ z < m + 15
theorem xfin_no : ∀ f : Nat, xfin f = true → f ≠ 66 ∧ f ≠ 70 ∧ ¬ (73 ≤ f ∧ f ≤ 77) ∧ f ≠ 79 ∧ f ≠ 80 ∧ f ≠ 89 ∧ f ≠ 90 ∧ ¬ (96 ≤ f ∧ f ≤ 98) ∧ f ≠ 101 ∧ f ≠ 102 ∧ f ≠ 104 ∧ f ≠ 20 := by
  intro f hf
  have key : ∀ k, xfin k = false → f ≠ k := fun k hk e => by rw [e, hk] at hf; cases hf
  have h73 := key 73 rfl
  have h74 := key 74 rfl
  have h75 := key 75 rfl
  have h76 := key 76 rfl
  have h77 := key 77 rfl
  have h96 := key 96 rfl
  have h97 := key 97 rfl
  have h98 := key 98 rfl
  exact ⟨key 66 rfl, key 70 rfl, by omega, key 79 rfl, key 80 rfl, key 89 rfl, key 90 rfl, by omega, key 101 rfl, key 102 rfl, key 104 rfl, key 20 rfl⟩
theorem Rm.scr {h g : XH} {B m : Int} {S : XSt} (R : Rm h B m S) (p : XFr (WScr m) (AScr m) h g) : Rm g B m S := by
  obtain ⟨⟨b0, b1, b2⟩, L, ⟨t1, t2⟩, ⟨u1, u2, u3⟩, ⟨v1, v2⟩, RT⟩ := R
  have ab : Above B h g := Above.of p (fun z f hz _ _ w => by have := w.1; omega) (fun z hz w => by omega)
  have fl : ∀ f : Nat, (f = 67 ∨ f = 68 ∨ f = 69 ∨ f = 72 ∨ f = 78 ∨ f = 84 ∨ f = 85) → xfl g m f = xfl h m f := fun f hf => p.2.2.2.1 m f (by omega) (fun w => by omega)
  have ar : ∀ c : Int, 0 < c → c < 5 → xar g (m + c) = xar h (m + c) := fun c h0 hc => funext fun i => p.2.2.2.2 _ i (by omega) (fun w => by omega)
  have ar15 : xar g (m + 15) = xar h (m + 15) := funext fun i => p.2.2.2.2 _ i (by omega) (fun w => by omega)
  have LL : ModelL g m := L.keep p (by omega) (fun f hf w => by have := xfin_no f hf; omega)
  refine ⟨⟨b0, b1, by have := p.2.1; omega⟩, LL, ⟨(fl 72 (by decide)).trans t1, fun j hj => by rw [ar 1 (by decide) (by decide)]; exact t2 j hj⟩, ⟨(fl 67 (by decide)).trans u1, (fl 68 (by decide)).trans u2, (fl 78 (by decide)).trans u3⟩, ⟨(fl 85 (by decide)).trans v1, (fl 84 (by decide)).trans v2⟩, ?_⟩
  clear L LL t2
  unfold RmT at RT ⊢
  simp only [fl 69 (by decide), ar 2 (by decide) (by decide), ar 3 (by decide) (by decide), ar 4 (by decide) (by decide), ar15]
  split at RT
  · exact RT
  · exact ⟨RT.1.keep ab, RT.2⟩
theorem Rm.noT {h : XH} {B m : Int} {S : XSt} (R : Rm h B m S) (e : sT S = none) : xfl h m 69 = 0 := by
  obtain ⟨-, -, -, -, -, RT⟩ := R
  unfold RmT at RT
  rw [e] at RT
  exact RT
theorem Rm.hasT {h : XH} {B m : Int} {S : XSt} {T : XTw} (R : Rm h B m S) (e : sT S = some T) : xfl h m 69 ≠ 0 ∧ TownM h B (xfl h m 69) T ∧ (∀ i : Int, 0 ≤ i → i < 8 → xar h (m + 2) i = sV S i) ∧ (∀ q : Int, 0 ≤ q → q < tpm T → xar h (m + 2) (8 + q) = sV S (8 + q) ∧ xar h (m + 2) (12 + q) = sV S (12 + q)) := by
  obtain ⟨⟨b0, b1, b2⟩, L, -, -, -, RT⟩ := R
  clear L
  unfold RmT at RT
  rw [e] at RT
  obtain ⟨TX, q1, q2, -⟩ := RT
  have hb := TX.1.1
  exact ⟨by omega, TX, q1, q2⟩
theorem wscr_mw {m : Int} : ∀ z f, WScr m z f → MW m z f := fun z f w => ⟨w.1, by
  cases hf : xfin f with
  | false => rfl
  | true => have := xfin_no f hf; omega⟩
theorem w678_mw {m : Int} : ∀ z f, W678 m z f → MW m z f := fun z f w => ⟨w.1, by rcases w.2 with e | e | e <;> rw [e] <;> rfl⟩
/-- an op of the model begins: thrown is 0 -/
theorem Rm.begin {h : XH} {B m : Int} {S : XSt} (R : Rm h B m S) : Rm (xputf h m 66 0) B m S ∧ XFr (MW m) (MA m) h (xputf h m 66 0) ∧ xty h m = some (true, 9, none) :=
  ⟨R.scr ((XFr.refl h).putf (Or.inr ⟨rfl, Or.inl rfl⟩)), (XFr.refl h).putf (Or.inr ⟨rfl, rfl⟩), R.2.1.1⟩
theorem m_opMutual {d : Nat} {h : XH} {B m n : Int} {S : XSt} (R : Rm h B m S) (O : SOK n S) : WpM (d + 1) 188 [.inr (.inr m)] h (XAns (fun h' S' => Rm h' B m S') (MW m) (MA m) (some (.inl (opMutual S).1)) (opMutual S).2 h) := by
  obtain ⟨R0, p0, tm⟩ := R.begin
  refine WpM.of rfl (Wp.vc 400 [] rfl ?_)
  refine ⟨isW tm rfl, ?_⟩
  obtain ⟨g, hg⟩ : ∃ g, g = xputf h m 66 0 := ⟨_, rfl⟩
  have z0 : xsz g = xsz h ∧ xsl g = xsl h := by rw [hg]; exact ⟨rfl, rfl⟩
  rw [← hg] at R0 p0 ⊢
  clear hg R
  have tm := R0.2.1.1
  unfold opMutual
  cases e : sT S with
  | none =>
    rw [R0.noT e]
    refine ⟨isF tm rfl, fun c => absurd rfl c, fun _ => ?_⟩
    refine Wp.callR (j := 0) rfl (Nat.le_of_ble_eq_true rfl) ⟨true, tm⟩ (m_refused R0) (fun v h2 q => ?_)
    obtain ⟨rfl, R2, p2, z3, z4⟩ := q
    refine Wp.vc 400 [] rfl ?_
    exact ⟨trivial, XAns.mk R2 (p0.trans p2 (fun z f _ w => w678_mw z f w) (fun _ _ w => w.elim)) (z3.trans z0.1) (z4.trans z0.2)⟩
  | some T =>
    obtain ⟨ne, TX, hv, -⟩ := R0.hasT e
    obtain ⟨TO, VO, -⟩ := O.1 T e
    have hnh := TO.2.2.1
    refine ⟨isF tm rfl, fun _ => ?_, fun c => absurd ne c⟩
    refine Wp.callR (j := 0) rfl (Nat.le_of_ble_eq_true rfl) ⟨true, tm⟩ (m_tries R0.2.1 (by have := R0.1; omega)) (fun v h2 q => ?_)
    obtain ⟨rfl, q1, q2, z3, z4⟩ := q
    have R2 : Rm h2 B m S := R0.scr (q2.mono (fun _ _ _ w => w.elim) (fun z _ w => ⟨by omega, by omega⟩))
    have p2 : XFr (MW m) (MA m) h h2 := p0.trans q2 (fun _ _ _ w => w.elim) (fun z _ w => ⟨by omega, by omega⟩)
    have tm2 := R2.2.1.1
    obtain ⟨t5, f5⟩ := R2.2.1.2.2.2.2.2.1
    have row : ∀ i : Int, 0 ≤ i → i < 7 → xar h2 (m + 5) i = sV S i := fun i h0 h1 => (q1 i h0 h1).trans (hv i h0 (by omega))
    have hr : RowOK (xar h2 (m + 5)) (tnh T) := fun i h0 h1 => by
      rw [row i h0 (by omega)]
      rcases VO.1 i h0 h1 with w | w
      · exact Or.inl w
      · exact Or.inr ⟨w.1, w.2.1⟩
    refine Wp.vc 400 [] rfl ?_
    refine ⟨isF tm2 rfl, ?_⟩
    rw [f5]
    refine Wp.callE (j := 0) rfl (Nat.le_of_ble_eq_true rfl) trivial (m_pairedIn t5 (by omega) hnh.2 hr (fun i h0 h1 => by rw [row i (by omega) h1]; exact VO.2.2.1 i h0 h1)) ?_
    rw [xmutual_congr hr (fun i h0 h1 => row i h0 (by omega))]
    refine Wp.vc 400 [] rfl ?_
    refine Wp.callR (j := 0) rfl (Nat.le_of_ble_eq_true rfl) ⟨true, tm2⟩ (m_good R2) (fun v h3 q => ?_)
    obtain ⟨rfl, R3, p3, z5, z6⟩ := q
    refine Wp.vc 400 [] rfl ?_
    exact ⟨trivial, XAns.mk R3 (p2.trans p3 (fun z f _ w => w678_mw z f w) (fun _ _ w => w.elim)) (z5.trans (z3.trans z0.1)) (z6.trans (z4.trans z0.2))⟩
