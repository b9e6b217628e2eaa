/-! WALKS, 19: an op under way, on either side -/
set_option maxRecDepth 100000
set_option maxHeartbeats 4000000
def onT (S : XSt) (f : XTw → Int × XSt) : Int × XSt := match sT S with
  | none => sNo S 1
  | some T => f T
def onH (S : XSt) (i : Int) (f : XTw → Int × XSt) : Int × XSt := onT S fun T => if 0 ≤ i ∧ i < tnh T then f T else sNo S 1
def onP (S : XSt) (i : Int) (f : XTw → Int × XSt) : Int × XSt := onT S fun T => if 0 ≤ i ∧ i < tpm T then f T else sNo S 1
theorem onT_no {S : XSt} {f : XTw → Int × XSt} (e : sT S = none) : onT S f = sNo S 1 := by unfold onT; rw [e]
theorem onT_yes {S : XSt} {f : XTw → Int × XSt} {T : XTw} (e : sT S = some T) : onT S f = f T := by unfold onT; rw [e]
theorem onH_no {S : XSt} {i : Int} {f : XTw → Int × XSt} (h : ¬ isHou S i) : onH S i f = sNo S 1 := by
  unfold onH onT
  cases e : sT S with
  | none => rfl
  | some T => exact if_neg (fun q => h ⟨T, e, q⟩)
theorem onH_yes {S : XSt} {i : Int} {f : XTw → Int × XSt} {T : XTw} (e : sT S = some T) (h : 0 ≤ i ∧ i < tnh T) : onH S i f = f T := by
  unfold onH onT
  rw [e]
  exact if_pos h
theorem onP_no {S : XSt} {i : Int} {f : XTw → Int × XSt} (h : ¬ isPer S i) : onP S i f = sNo S 1 := by
  unfold onP onT
  cases e : sT S with
  | none => rfl
  | some T => exact if_neg (fun q => h ⟨T, e, q⟩)
theorem onP_yes {S : XSt} {i : Int} {f : XTw → Int × XSt} {T : XTw} (e : sT S = some T) (h : 0 ≤ i ∧ i < tpm T) : onP S i f = f T := by
  unfold onP onT
  rw [e]
  exact if_pos h
abbrev XAn (B s : Int) (h : XH) (v : XV) (S' : XSt) : XO → XH → Prop := XAns (fun h' S' => Rx h' B s S') (XW s) (XA s) (some v) S' h
abbrev MAn (B m : Int) (h : XH) (v : XV) (S' : XSt) : XO → XH → Prop := XAns (fun h' S' => Rm h' B m S') (MW m) (MA m) (some v) S' h
/-- an op of WrongRoom that began at h0 stands at h with S -/
def XU (B s n : Int) (h0 h : XH) (S : XSt) : Prop := Rx h B s S ∧ SOK n S ∧ XFr (XW s) (XA s) h0 h ∧ xsz h = xsz h0 ∧ xsl h = xsl h0
theorem XU.ret {B s n : Int} {h0 h : XH} {S : XSt} {v : XV} (U : XU B s n h0 h S) : XAn B s h0 v S (.inl (some v)) h := XAns.mk U.1 U.2.2.1 U.2.2.2.1 U.2.2.2.2
theorem XU.ts {B s n : Int} {h0 h : XH} {S : XSt} (U : XU B s n h0 h S) : xty h s = some (true, 0, none) := U.1.2.1.2.1
theorem XU.anew {d M pc np : Nat} {ls : XL} {st rest : XS} {B s n : Int} {h : XH} {S : XSt} {Q : XO → XH → Prop} (R : Rx h B s S) (O : SOK n S) (e : xstK M pc 0 st = some (np, some 0, 5, [.inr (.inr s)], rest)) (hw : xwords rest ≤ 8) (k : ∀ h1, XU B s n h h1 (sSet S 0 (-1)) → Wp (d + 1) M np ls rest h1 Q) : Wp (d + 1) M pc ls st h Q :=
  Wp.callR e hw ⟨true, R.2.1.2.1⟩ (x_anew R O) (fun v h1 q => by
    obtain ⟨rfl, R1, p1, z1, z2⟩ := q
    exact k h1 ⟨R1, O.set, p1.mono (fun z f _ w => w46_xw z f w) (fun _ _ w => w.elim), z1, z2⟩)
theorem XU.noK {d M pc np : Nat} {ls : XL} {st rest : XS} {B s n k : Int} {h0 h : XH} {S : XSt} {Q : XO → XH → Prop} (U : XU B s n h0 h (sSet S 0 (-1))) (k4 : k ≠ 4) (e : xstK M pc 0 st = some (np, some 0, 7, [.inr (.inr s), .inl k], rest)) (hw : xwords rest ≤ 8) (c : ∀ h1, XU B s n h0 h1 (sSet S k (-1)) → Wp (d + 1) M np ls (.inl (-1) :: rest) h1 Q) : Wp (d + 1) M pc ls st h Q :=
  Wp.callR e hw ⟨true, U.ts⟩ (x_no (S := sSet S 0 (-1)) U.1 U.2.1 k4 rfl) (fun v h1 q => by
    obtain ⟨rfl, R1, p1, z1, z2⟩ := q
    exact c h1 ⟨R1, U.2.1.set, U.2.2.1.trans p1 (fun z f _ w => w46_xw z f w) (fun _ _ w => w.elim), z1.trans U.2.2.2.1, z2.trans U.2.2.2.2⟩)
theorem XU.no {d M pc np np' : Nat} {ls : XL} {st : XS} {B s n k : Int} {h0 h : XH} {S : XSt} (U : XU B s n h0 h (sSet S 0 (-1))) (k4 : k ≠ 4) (e : xstK M pc 0 st = some (np, some 0, 7, [.inr (.inr s), .inl k], [])) (e2 : ∀ h2, xrun 3 M np ls [.inl (-1)] h2 True = some (True, np', ls, [.inl (-1)], h2)) (r : xstR M np' [.inl (-1)] = some (True, some (.inl (-1)))) : Wp (d + 1) M pc ls st h (XAn B s h0 (.inl (sNo S k).1) (sNo S k).2) :=
  U.noK k4 e (Nat.zero_le _) (fun h1 U1 => Wp.run 3 (e2 h1) trivial (Wp.rt r trivial U1.ret))
theorem XU.hou {d M pc np : Nat} {ls : XL} {st rest : XS} {B s n i : Int} {h0 h : XH} {S : XSt} {Q : XO → XH → Prop} (U : XU B s n h0 h S) (e : xstK M pc 0 st = some (np, some 0, 11, [.inr (.inr s), .inl i], rest)) (hw : xwords rest ≤ 8) (k1 : ∀ T, sT S = some T → (0 ≤ i ∧ i < tnh T) → Wp (d + 2) M np ls (.inl 1 :: rest) h Q) (k0 : ¬ isHou S i → Wp (d + 2) M np ls (.inl 0 :: rest) h Q) : Wp (d + 2) M pc ls st h Q := by
  refine Wp.callE e hw ⟨true, U.ts⟩ (x_isHouse U.1 U.2.1) ?_
  by_cases hp : isHou S i
  · rw [xb_pos hp]
    obtain ⟨T, e, i0⟩ := hp
    exact k1 T e i0
  · rw [xb_neg hp]
    exact k0 hp
theorem XU.per {d M pc np : Nat} {ls : XL} {st rest : XS} {B s n i : Int} {h0 h : XH} {S : XSt} {Q : XO → XH → Prop} (U : XU B s n h0 h S) (e : xstK M pc 0 st = some (np, some 0, 17, [.inr (.inr s), .inl i], rest)) (hw : xwords rest ≤ 8) (k1 : ∀ T, sT S = some T → (0 ≤ i ∧ i < tpm T) → Wp (d + 2) M np ls (.inl 1 :: rest) h Q) (k0 : ¬ isPer S i → Wp (d + 2) M np ls (.inl 0 :: rest) h Q) : Wp (d + 2) M pc ls st h Q := by
  refine Wp.callE e hw ⟨true, U.ts⟩ (x_isPerson U.1 U.2.1) ?_
  by_cases hp : isPer S i
  · rw [xb_pos hp]
    obtain ⟨T, e, i0⟩ := hp
    exact k1 T e i0
  · rw [xb_neg hp]
    exact k0 hp
theorem XU.scr {B s n : Int} {h0 h g : XH} {S : XSt} (U : XU B s n h0 h S) (p : XFr (XScr s) (AScrX s) h g) (z1 : xsz g = xsz h) (z2 : xsl g = xsl h) : XU B s n h0 g S :=
  ⟨U.1.scr U.2.1 p, U.2.1, U.2.2.1.trans p (fun z f _ w => xscr_xw z f w) (fun z _ w => ascr_xa z w), z1.trans U.2.2.2.1, z2.trans U.2.2.2.2⟩
/-- what a state with a town gives -/
theorem XU.rooms {B s n : Int} {h0 h : XH} {S : XSt} {T : XTw} (U : XU B s n h0 h S) (e : sT S = some T) : RoomsT h (s + 5) (xfl h s 3) (tnh T) ∧ (∀ i : Int, 0 ≤ i → i < tnh T → xar h (s + 5 + 1) i = sV S i) ∧ xfl h s 3 ≠ 0 ∧ TownX h B (xfl h s 3) T ∧ SnapX h T (s + 5) (xfl h s 3) (sV S) := U.1.rooms U.2.1 e
theorem XU.ok {B s n : Int} {h0 h : XH} {S : XSt} {T : XTw} (U : XU B s n h0 h S) (e : sT S = some T) : TOK T ∧ VOK T n (sV S) := ⟨(U.2.1.1 T e).1, (U.2.1.1 T e).2.1⟩
theorem XU.f9 {B s n : Int} {h0 h : XH} {S : XSt} (U : XU B s n h0 h S) : xfl h s 9 = s + 5 := U.1.2.1.2.2.2.2.1.1
theorem XU.r5 {B s n : Int} {h0 h : XH} {S : XSt} (U : XU B s n h0 h S) : RoomsL h (s + 5) := U.1.2.1.2.2.2.2.1.2
theorem XU.lay {B s n : Int} {h0 h : XH} {S : XSt} (U : XU B s n h0 h S) : XLay h s := U.1.2.1
theorem XU.bnd {B s n : Int} {h0 h : XH} {S : XSt} (U : XU B s n h0 h S) : 1 ≤ s ∧ s + 126 ≤ B ∧ B ≤ xsz h := U.1.1
/-- the model's side -/
def MU (B m n : Int) (h0 h : XH) (S : XSt) : Prop := Rm h B m S ∧ SOK n S ∧ XFr (MW m) (MA m) h0 h ∧ xsz h = xsz h0 ∧ xsl h = xsl h0
theorem MU.ret {B m n : Int} {h0 h : XH} {S : XSt} {v : XV} (U : MU B m n h0 h S) : MAn B m h0 v S (.inl (some v)) h := XAns.mk U.1 U.2.2.1 U.2.2.2.1 U.2.2.2.2
theorem MU.tm {B m n : Int} {h0 h : XH} {S : XSt} (U : MU B m n h0 h S) : xty h m = some (true, 9, none) := U.1.2.1.1
theorem MU.start {d M np : Nat} {le : XL} {B m n : Int} {h : XH} {S : XSt} {Q : XO → XH → Prop} (R : Rm h B m S) (O : SOK n S) (e : xrun 3 M 0 le [] h True = some ((True ∧ xIsW h m 66), np, le, [], xputf h m 66 0)) (k : ∀ g, MU B m n h g S → Wp d M np le [] g Q) : Wp d M 0 le [] h Q := by
  obtain ⟨R0, p0, tm⟩ := R.begin
  exact Wp.run 3 e ⟨trivial, isW tm rfl⟩ (k _ ⟨R0, O, p0, rfl, rfl⟩)
theorem MU.refK {d M pc np : Nat} {ls : XL} {st rest : XS} {B m n k : Int} {h0 h : XH} {S : XSt} {Q : XO → XH → Prop} (U : MU B m n h0 h S) (e : xstK M pc 0 st = some (np, some 9, 142, [.inr (.inr m), .inl k], rest)) (hw : xwords rest ≤ 8) (c : ∀ h1, MU B m n h0 h1 (sSet S k (-1)) → Wp (d + 1) M np ls (.inl (-1) :: rest) h1 Q) : Wp (d + 1) M pc ls st h Q :=
  Wp.callR e hw ⟨true, U.tm⟩ (m_refused U.1) (fun v h1 q => by
    obtain ⟨rfl, R1, p1, z1, z2⟩ := q
    exact c h1 ⟨R1, U.2.1.set, U.2.2.1.trans p1 (fun z f _ w => w678_mw z f w) (fun _ _ w => w.elim), z1.trans U.2.2.2.1, z2.trans U.2.2.2.2⟩)
theorem MU.goodK {d M pc np : Nat} {ls : XL} {st rest : XS} {B m n k : Int} {h0 h : XH} {S : XSt} {Q : XO → XH → Prop} (U : MU B m n h0 h S) (e : xstK M pc 0 st = some (np, some 9, 174, [.inr (.inr m), .inl k], rest)) (hw : xwords rest ≤ 8) (c : ∀ h1, MU B m n h0 h1 (sSet S 0 (-1)) → Wp (d + 1) M np ls (.inl k :: rest) h1 Q) : Wp (d + 1) M pc ls st h Q :=
  Wp.callR e hw ⟨true, U.tm⟩ (m_good U.1) (fun v h1 q => by
    obtain ⟨rfl, R1, p1, z1, z2⟩ := q
    exact c h1 ⟨R1, U.2.1.set, U.2.2.1.trans p1 (fun z f _ w => w678_mw z f w) (fun _ _ w => w.elim), z1.trans U.2.2.2.1, z2.trans U.2.2.2.2⟩)
theorem MU.ref {d M pc np np' : Nat} {ls : XL} {st : XS} {B m n k : Int} {h0 h : XH} {S : XSt} (U : MU B m n h0 h S) (e : xstK M pc 0 st = some (np, some 9, 142, [.inr (.inr m), .inl k], [])) (e2 : ∀ h2, xrun 3 M np ls [.inl (-1)] h2 True = some (True, np', ls, [.inl (-1)], h2)) (r : xstR M np' [.inl (-1)] = some (True, some (.inl (-1)))) : Wp (d + 1) M pc ls st h (MAn B m h0 (.inl (sNo S k).1) (sNo S k).2) :=
  U.refK e (Nat.zero_le _) (fun h1 U1 => Wp.run 3 (e2 h1) trivial (Wp.rt r trivial U1.ret))
theorem MU.good {d M pc np np' : Nat} {ls : XL} {st : XS} {B m n k : Int} {h0 h : XH} {S : XSt} (U : MU B m n h0 h S) (e : xstK M pc 0 st = some (np, some 9, 174, [.inr (.inr m), .inl k], [])) (e2 : ∀ h2, xrun 3 M np ls [.inl k] h2 True = some (True, np', ls, [.inl k], h2)) (r : xstR M np' [.inl k] = some (True, some (.inl k))) : Wp (d + 1) M pc ls st h (MAn B m h0 (.inl (sOk S k).1) (sOk S k).2) :=
  U.goodK e (Nat.zero_le _) (fun h1 U1 => Wp.run 3 (e2 h1) trivial (Wp.rt r trivial U1.ret))
theorem MU.hou {d M pc np : Nat} {ls : XL} {st rest : XS} {B m n i : Int} {h0 h : XH} {S : XSt} {Q : XO → XH → Prop} (U : MU B m n h0 h S) (e : xstK M pc 0 st = some (np, some 9, 178, [.inr (.inr m), .inl i], rest)) (hw : xwords rest ≤ 8) (k1 : ∀ T, sT S = some T → (0 ≤ i ∧ i < tnh T) → Wp (d + 1) M np ls (.inl 1 :: rest) h Q) (k0 : ¬ isHou S i → Wp (d + 1) M np ls (.inl 0 :: rest) h Q) : Wp (d + 1) M pc ls st h Q := by
  refine Wp.callE e hw ⟨true, U.tm⟩ (m_isHouse U.1) ?_
  by_cases hp : isHou S i
  · rw [xb_pos hp]
    obtain ⟨T, e, i0⟩ := hp
    exact k1 T e i0
  · rw [xb_neg hp]
    exact k0 hp
theorem MU.per {d M pc np : Nat} {ls : XL} {st rest : XS} {B m n i : Int} {h0 h : XH} {S : XSt} {Q : XO → XH → Prop} (U : MU B m n h0 h S) (e : xstK M pc 0 st = some (np, some 9, 185, [.inr (.inr m), .inl i], rest)) (hw : xwords rest ≤ 8) (k1 : ∀ T, sT S = some T → (0 ≤ i ∧ i < tpm T) → Wp (d + 1) M np ls (.inl 1 :: rest) h Q) (k0 : ¬ isPer S i → Wp (d + 1) M np ls (.inl 0 :: rest) h Q) : Wp (d + 1) M pc ls st h Q := by
  refine Wp.callE e hw ⟨true, U.tm⟩ (m_isPerson U.1) ?_
  by_cases hp : isPer S i
  · rw [xb_pos hp]
    obtain ⟨T, e, i0⟩ := hp
    exact k1 T e i0
  · rw [xb_neg hp]
    exact k0 hp
theorem MU.scr {B m n : Int} {h0 h g : XH} {S : XSt} (U : MU B m n h0 h S) (p : XFr (WScr m) (AScr m) h g) (z1 : xsz g = xsz h) (z2 : xsl g = xsl h) : MU B m n h0 g S :=
  ⟨U.1.scr p, U.2.1, U.2.2.1.trans p (fun z f _ w => wscr_mw z f w) (fun z _ w => ⟨by omega, by omega⟩), z1.trans U.2.2.2.1, z2.trans U.2.2.2.2⟩
theorem MU.hasT {B m n : Int} {h0 h : XH} {S : XSt} {T : XTw} (U : MU B m n h0 h S) (e : sT S = some T) : xfl h m 69 ≠ 0 ∧ TownM h B (xfl h m 69) T ∧ (∀ i : Int, 0 ≤ i → i < 8 → xar h (m + 2) i = sV S i) ∧ (∀ q : Int, 0 ≤ q → q < tpm T → xar h (m + 2) (8 + q) = sV S (8 + q) ∧ xar h (m + 2) (12 + q) = sV S (12 + q)) := U.1.hasT e
theorem MU.ok {B m n : Int} {h0 h : XH} {S : XSt} {T : XTw} (U : MU B m n h0 h S) (e : sT S = some T) : TOK T ∧ VOK T n (sV S) := ⟨(U.2.1.1 T e).1, (U.2.1.1 T e).2.1⟩
theorem MU.lay {B m n : Int} {h0 h : XH} {S : XSt} (U : MU B m n h0 h S) : ModelL h m := U.1.2.1
theorem MU.v2 {B m n : Int} {h0 h : XH} {S : XSt} (U : MU B m n h0 h S) : xty h (m + 2) = some (true, 0, some 16) ∧ xfl h m 81 = m + 2 := U.1.2.1.2.2.1
theorem MU.bnd {B m n : Int} {h0 h : XH} {S : XSt} (U : MU B m n h0 h S) : 1 ≤ m ∧ m + 16 ≤ B ∧ B ≤ xsz h := U.1.1
/-- a town is there or not: the field is asked -/
theorem XU.noT {B s n : Int} {h0 h : XH} {S : XSt} (U : XU B s n h0 h S) (e : sT S = none) : xfl h s 3 = 0 := U.1.noT e
theorem MU.noT {B m n : Int} {h0 h : XH} {S : XSt} (U : MU B m n h0 h S) (e : sT S = none) : xfl h m 69 = 0 := U.1.noT e
