set_option maxRecDepth 100000
/-! RUNS of the mini-machine: the least relation closed under its rules; d bounds the depth of the calls -/
abbrev XO : Type := Option XV ⊕ Int
abbrev XP : Type := Nat → Nat → Nat → XL → XS → XH → XO → XH → Prop
def xalt (l : List (Option Nat × Nat)) (j : Nat) : Option (Option Nat × Nat) := l[j]?
/-- a receiver of the class that a call's row asks for -/
def xrecv (h : XH) (g : Option Nat) (args : XS) : Prop := match g with
  | none => True
  | some c => match args with
    | .inr (.inr a) :: _ => ∃ w : Bool, xty h a = some (w, c, none)
    | _ => False
def xpush (o : Option XV) (st : XS) : XS := match o with
  | none => st
  | some v => v :: st
/-- where an exception of class c goes that comes at pc: a handler, or out -/
def xgoes (M pc c : Nat) (hp : Nat) : Prop := ∃ q ∈ xhnd M, q.1 ≤ pc ∧ pc < q.2.1 ∧ q.2.2.1 = hp ∧ q.2.2.2 = c
def xleaves (M pc : Nat) : Prop := ∀ q ∈ xhnd M, ¬ (q.1 ≤ pc ∧ pc < q.2.1)
def XClosed (P : XP) : Prop :=
  (∀ d M pc ls st h o h' act pc' ls' st' h1, xcode M pc = some (.inl act) → act ls st h = some (pc', ls', st', h1) → P d M pc' ls' st' h1 o h' → P d M pc ls st h o h') ∧
  (∀ d M pc ls st h o h' act g pc' ls' st' h1, xcode M pc = some (.inr (.inl act)) → act ls st h = some (g, pc', ls', st', h1) → g → P d M pc' ls' st' h1 o h' → P d M pc ls st h o h') ∧
  (∀ d M pc ls st h o h' b c t f st', xcode M pc = some (.inr (.inr (.inl b))) → b st = some (c, t, f, st') → (c → P d M t ls st' h o h') → (¬ c → P d M f ls st' h o h') → P d M pc ls st h o h') ∧
  (∀ d M pc ls st h rt g v, xcode M pc = some (.inr (.inr (.inr (.inr (.inl rt))))) → rt st = some (g, v) → g → P d M pc ls st h (.inl v) h) ∧
  (∀ d M pc ls st h n np alts j g y args rest le v h1 o h', xcode M pc = some (.inr (.inr (.inr (.inl (n, np, alts))))) → xalt alts j = some (g, y) → xpop n st [] = some (args, rest) → xwords rest ≤ 8 → xrecv h g args → xent (xloc y) args some = some le → P d y 0 le [] h (.inl v) h1 → P (d + 1) M np ls (xpush v rest) h1 o h' → P (d + 1) M pc ls st h o h') ∧
  (∀ d M pc ls st h n np alts j g y args rest le q c hp h1 o h', xcode M pc = some (.inr (.inr (.inr (.inl (n, np, alts))))) → xalt alts j = some (g, y) → xpop n st [] = some (args, rest) → xwords rest ≤ 8 → xrecv h g args → xent (xloc y) args some = some le → P d y 0 le [] h (.inr q) h1 → xty h1 q = some (true, c, none) → xgoes M pc c hp → P (d + 1) M hp ls [.inr (.inr q)] h1 o h' → P (d + 1) M pc ls st h o h') ∧
  (∀ d M pc ls st h n np alts j g y args rest le q c h1, xcode M pc = some (.inr (.inr (.inr (.inl (n, np, alts))))) → xalt alts j = some (g, y) → xpop n st [] = some (args, rest) → xwords rest ≤ 8 → xrecv h g args → xent (xloc y) args some = some le → P d y 0 le [] h (.inr q) h1 → xty h1 q = some (true, c, none) → xleaves M pc → P (d + 1) M pc ls st h (.inr q) h1) ∧
  (∀ d M pc ls h q rest c, xcode M pc = some (.inr (.inr (.inr (.inr (.inr ()))))) → xty h q = some (true, c, none) → xleaves M pc → P d M pc ls (.inr (.inr q) :: rest) h (.inr q) h)
def XRuns : XP := fun d M pc ls st h o h' => ∀ P : XP, XClosed P → P d M pc ls st h o h'
theorem XRuns.closed : XClosed XRuns := by
  refine ⟨?_, ?_, ?_, ?_, ?_, ?_, ?_, ?_⟩
  · intro d M pc ls st h o h' act pc' ls' st' h1 a b k P hP
    exact hP.1 d M pc ls st h o h' act pc' ls' st' h1 a b (k P hP)
  · intro d M pc ls st h o h' act g pc' ls' st' h1 a b c k P hP
    exact hP.2.1 d M pc ls st h o h' act g pc' ls' st' h1 a b c (k P hP)
  · intro d M pc ls st h o h' b c t f st' a e k1 k2 P hP
    exact hP.2.2.1 d M pc ls st h o h' b c t f st' a e (fun q => k1 q P hP) (fun q => k2 q P hP)
  · intro d M pc ls st h rt g v a b c P hP
    exact hP.2.2.2.1 d M pc ls st h rt g v a b c
  · intro d M pc ls st h n np alts j g y args rest le v h1 o h' a b c w e f k1 k2 P hP
    exact hP.2.2.2.2.1 d M pc ls st h n np alts j g y args rest le v h1 o h' a b c w e f (k1 P hP) (k2 P hP)
  · intro d M pc ls st h n np alts j g y args rest le q c hp h1 o h' a b c' ww e f k1 t u k2 P hP
    exact hP.2.2.2.2.2.1 d M pc ls st h n np alts j g y args rest le q c hp h1 o h' a b c' ww e f (k1 P hP) t u (k2 P hP)
  · intro d M pc ls st h n np alts j g y args rest le q c h1 a b c' ww e f k1 t u P hP
    exact hP.2.2.2.2.2.2.1 d M pc ls st h n np alts j g y args rest le q c h1 a b c' ww e f (k1 P hP) t u
  · intro d M pc ls h q rest c a b k P hP
    exact hP.2.2.2.2.2.2.2 d M pc ls h q rest c a b k
/-- a run that comes to an end with Q -/
def Wp (d M pc : Nat) (ls : XL) (st : XS) (h : XH) (Q : XO → XH → Prop) : Prop := ∃ (o : XO) (h' : XH), XRuns d M pc ls st h o h' ∧ Q o h'
/-- a method's run from its entry -/
def WpM (d y : Nat) (args : XS) (h : XH) (Q : XO → XH → Prop) : Prop := ∃ le : XL, xent (xloc y) args some = some le ∧ Wp d y 0 le [] h Q
theorem Wp.imp {d M pc : Nat} {ls : XL} {st : XS} {h : XH} {Q Q' : XO → XH → Prop} (k : Wp d M pc ls st h Q) (hq : ∀ o h', Q o h' → Q' o h') : Wp d M pc ls st h Q' := by
  obtain ⟨o, h', a, b⟩ := k
  exact ⟨o, h', a, hq o h' b⟩
theorem WpM.imp {d y : Nat} {args : XS} {h : XH} {Q Q' : XO → XH → Prop} (k : WpM d y args h Q) (hq : ∀ o h', Q o h' → Q' o h') : WpM d y args h Q' := by
  obtain ⟨le, a, b⟩ := k
  exact ⟨le, a, b.imp hq⟩
theorem WpM.of {d y : Nat} {args : XS} {h : XH} {Q : XO → XH → Prop} {le : XL} (e : xent (xloc y) args some = some le) (k : Wp d y 0 le [] h Q) : WpM d y args h Q := ⟨le, e, k⟩
/-- steps without a question: one, or many -/
def xst0 (M pc : Nat) (ls : XL) (st : XS) (h : XH) : Option (Nat × XL × XS × XH) := match xcode M pc with
  | some (.inl act) => act ls st h
  | _ => none
def xst1 (M pc : Nat) (ls : XL) (st : XS) (h : XH) : Option (Prop × Nat × XL × XS × XH) := match xcode M pc with
  | some (.inr (.inl act)) => act ls st h
  | _ => none
def xstB (M pc : Nat) (st : XS) : Option (Prop × Nat × Nat × XS) := match xcode M pc with
  | some (.inr (.inr (.inl b))) => b st
  | _ => none
def xstR (M pc : Nat) (st : XS) : Option (Prop × Option XV) := match xcode M pc with
  | some (.inr (.inr (.inr (.inr (.inl r))))) => r st
  | _ => none
def xstK (M pc j : Nat) (st : XS) : Option (Nat × Option Nat × Nat × XS × XS) := match xcode M pc with
  | some (.inr (.inr (.inr (.inl (n, np, alts))))) => match xalt alts j with
    | some (g, y) => match xpop n st [] with
      | some (args, rest) => some (np, g, y, args, rest)
      | none => none
    | none => none
  | _ => none
theorem Wp.s0 {d M pc : Nat} {ls : XL} {st : XS} {h : XH} {Q : XO → XH → Prop} {pc' : Nat} {ls' : XL} {st' : XS} {h1 : XH} (e : xst0 M pc ls st h = some (pc', ls', st', h1)) (k : Wp d M pc' ls' st' h1 Q) : Wp d M pc ls st h Q := by
  obtain ⟨o, h', a, b⟩ := k
  unfold xst0 at e
  split at e
  · next act hc => exact ⟨o, h', XRuns.closed.1 d M pc ls st h o h' act pc' ls' st' h1 hc e a, b⟩
  · cases e
theorem Wp.s1 {d M pc : Nat} {ls : XL} {st : XS} {h : XH} {Q : XO → XH → Prop} {g : Prop} {pc' : Nat} {ls' : XL} {st' : XS} {h1 : XH} (e : xst1 M pc ls st h = some (g, pc', ls', st', h1)) (hg : g) (k : Wp d M pc' ls' st' h1 Q) : Wp d M pc ls st h Q := by
  obtain ⟨o, h', a, b⟩ := k
  unfold xst1 at e
  split at e
  · next act hc => exact ⟨o, h', XRuns.closed.2.1 d M pc ls st h o h' act g pc' ls' st' h1 hc e hg a, b⟩
  · cases e
theorem Wp.br {d M pc : Nat} {ls : XL} {st : XS} {h : XH} {Q : XO → XH → Prop} {c : Prop} {t f : Nat} {st' : XS} (e : xstB M pc st = some (c, t, f, st')) (k1 : c → Wp d M t ls st' h Q) (k2 : ¬ c → Wp d M f ls st' h Q) : Wp d M pc ls st h Q := by
  unfold xstB at e
  split at e
  · next b hc =>
    by_cases q : c
    · obtain ⟨o, h', x, y⟩ := k1 q
      exact ⟨o, h', XRuns.closed.2.2.1 d M pc ls st h o h' b c t f st' hc e (fun _ => x) (fun z => absurd q z), y⟩
    · obtain ⟨o, h', x, y⟩ := k2 q
      exact ⟨o, h', XRuns.closed.2.2.1 d M pc ls st h o h' b c t f st' hc e (fun z => absurd z q) (fun _ => x), y⟩
  · cases e
theorem Wp.brT {d M pc : Nat} {ls : XL} {st : XS} {h : XH} {Q : XO → XH → Prop} {c : Prop} {t f : Nat} {st' : XS} (e : xstB M pc st = some (c, t, f, st')) (hc : c) (k : Wp d M t ls st' h Q) : Wp d M pc ls st h Q := Wp.br e (fun _ => k) (fun q => absurd hc q)
theorem Wp.brF {d M pc : Nat} {ls : XL} {st : XS} {h : XH} {Q : XO → XH → Prop} {c : Prop} {t f : Nat} {st' : XS} (e : xstB M pc st = some (c, t, f, st')) (hc : ¬ c) (k : Wp d M f ls st' h Q) : Wp d M pc ls st h Q := Wp.br e (fun q => absurd q hc) (fun _ => k)
theorem Wp.rt {d M pc : Nat} {ls : XL} {st : XS} {h : XH} {Q : XO → XH → Prop} {g : Prop} {v : Option XV} (e : xstR M pc st = some (g, v)) (hg : g) (k : Q (.inl v) h) : Wp d M pc ls st h Q := by
  unfold xstR at e
  split at e
  · next r hc => exact ⟨.inl v, h, XRuns.closed.2.2.2.1 d M pc ls st h r g v hc e hg, k⟩
  · cases e
theorem xstK_of {M pc j : Nat} {st : XS} {np y : Nat} {g : Option Nat} {args rest : XS} (e : xstK M pc j st = some (np, g, y, args, rest)) : ∃ n alts, xcode M pc = some (.inr (.inr (.inr (.inl (n, np, alts))))) ∧ xalt alts j = some (g, y) ∧ xpop n st [] = some (args, rest) := by
  unfold xstK at e
  split at e
  · next n np' alts hc =>
    split at e
    · next g' y' ha =>
      split at e
      · next a' r' hp =>
        cases e
        exact ⟨n, alts, hc, ha, hp⟩
      · cases e
    · cases e
  · cases e
/-- a call of a method of which it is known that it returns -/
theorem Wp.call {d M pc j : Nat} {ls : XL} {st : XS} {h : XH} {Q Q1 : XO → XH → Prop} {np y : Nat} {g : Option Nat} {args rest : XS} (e : xstK M pc j st = some (np, g, y, args, rest)) (hw : xwords rest ≤ 8) (hr : xrecv h g args) (hm : WpM d y args h Q1)
    (k : ∀ (v : Option XV) (h1 : XH), Q1 (.inl v) h1 → Wp (d + 1) M np ls (xpush v rest) h1 Q) (kx : ∀ (q : Int) (h1 : XH), Q1 (.inr q) h1 → False) : Wp (d + 1) M pc ls st h Q := by
  obtain ⟨n, alts, hc, ha, hp⟩ := xstK_of e
  obtain ⟨le, he, o1, h1, x1, q1⟩ := hm
  cases o1 with
  | inl v =>
    obtain ⟨o, h', x2, q2⟩ := k v h1 q1
    exact ⟨o, h', XRuns.closed.2.2.2.2.1 d M pc ls st h n np alts j g y args rest le v h1 o h' hc ha hp hw hr he x1 x2, q2⟩
  | inr q => exact absurd (kx q h1 q1) not_false
/-- a call that may throw: to a handler, or out -/
theorem Wp.callX {d M pc j : Nat} {ls : XL} {st : XS} {h : XH} {Q Q1 : XO → XH → Prop} {np y : Nat} {g : Option Nat} {args rest : XS} (e : xstK M pc j st = some (np, g, y, args, rest)) (hw : xwords rest ≤ 8) (hr : xrecv h g args) (hm : WpM d y args h Q1)
    (k : ∀ (v : Option XV) (h1 : XH), Q1 (.inl v) h1 → Wp (d + 1) M np ls (xpush v rest) h1 Q)
    (kx : ∀ (q : Int) (h1 : XH), Q1 (.inr q) h1 → ∃ c : Nat, xty h1 q = some (true, c, none) ∧ ((xleaves M pc ∧ Q (.inr q) h1) ∨ ∃ hp : Nat, xgoes M pc c hp ∧ Wp (d + 1) M hp ls [.inr (.inr q)] h1 Q)) : Wp (d + 1) M pc ls st h Q := by
  obtain ⟨n, alts, hc, ha, hp⟩ := xstK_of e
  obtain ⟨le, he, o1, h1, x1, q1⟩ := hm
  cases o1 with
  | inl v =>
    obtain ⟨o, h', x2, q2⟩ := k v h1 q1
    exact ⟨o, h', XRuns.closed.2.2.2.2.1 d M pc ls st h n np alts j g y args rest le v h1 o h' hc ha hp hw hr he x1 x2, q2⟩
  | inr q =>
    obtain ⟨c, ht, ⟨hl, hq⟩ | ⟨hp', hg, o, h', x2, q2⟩⟩ := kx q h1 q1
    · exact ⟨.inr q, h1, XRuns.closed.2.2.2.2.2.2.1 d M pc ls st h n np alts j g y args rest le q c h1 hc ha hp hw hr he x1 ht hl, hq⟩
    · exact ⟨o, h', XRuns.closed.2.2.2.2.2.1 d M pc ls st h n np alts j g y args rest le q c hp' h1 o h' hc ha hp hw hr he x1 ht hg x2, q2⟩
theorem Wp.throw {d M pc : Nat} {ls : XL} {h : XH} {Q : XO → XH → Prop} {q : Int} {rest : XS} {c : Nat} (e : xcode M pc = some (.inr (.inr (.inr (.inr (.inr ())))))) (ht : xty h q = some (true, c, none)) (hl : xleaves M pc) (k : Q (.inr q) h) : Wp d M pc ls (.inr (.inr q) :: rest) h Q :=
  ⟨.inr q, h, XRuns.closed.2.2.2.2.2.2.2 d M pc ls h q rest c e ht hl, k⟩
/-- many steps at a time: those without a question, and those with one, whose questions gather -/
def xrun : Nat → Nat → Nat → XL → XS → XH → Prop → Option (Prop × Nat × XL × XS × XH)
  | 0, _, pc, ls, st, h, G => some (G, pc, ls, st, h)
  | n + 1, M, pc, ls, st, h, G => match xcode M pc with
    | some (.inl act) => match act ls st h with
      | some (pc', ls', st', h1) => xrun n M pc' ls' st' h1 G
      | none => none
    | some (.inr (.inl act)) => match act ls st h with
      | some (g, pc', ls', st', h1) => xrun n M pc' ls' st' h1 (G ∧ g)
      | none => none
    | _ => some (G, pc, ls, st, h)
theorem xrun_G : ∀ (n M pc : Nat) (ls : XL) (st : XS) (h : XH) (G g : Prop) (pc' : Nat) (ls' : XL) (st' : XS) (h1 : XH), xrun n M pc ls st h G = some (g, pc', ls', st', h1) → g → G := by
  intro n
  induction n with
  | zero =>
    intro M pc ls st h G g pc' ls' st' h1 e hg
    cases e
    exact hg
  | succ n ih =>
    intro M pc ls st h G g pc' ls' st' h1 e hg
    unfold xrun at e
    split at e
    · split at e
      · exact ih _ _ _ _ _ _ _ _ _ _ _ e hg
      · cases e
    · split at e
      · exact (ih _ _ _ _ _ _ _ _ _ _ _ e hg).1
      · cases e
    · cases e
      exact hg
theorem Wp.runG {d : Nat} {Q : XO → XH → Prop} : ∀ (n M pc : Nat) (ls : XL) (st : XS) (h : XH) (G g : Prop) (pc' : Nat) (ls' : XL) (st' : XS) (h1 : XH), xrun n M pc ls st h G = some (g, pc', ls', st', h1) → g → Wp d M pc' ls' st' h1 Q → Wp d M pc ls st h Q := by
  intro n
  induction n with
  | zero =>
    intro M pc ls st h G g pc' ls' st' h1 e hg k
    cases e
    exact k
  | succ n ih =>
    intro M pc ls st h G g pc' ls' st' h1 e hg k
    unfold xrun at e
    split at e
    · next act hc =>
      split at e
      · next p1 l1 s1 y1 ha =>
        exact Wp.s0 (by unfold xst0; rw [hc]; exact ha) (ih _ _ _ _ _ _ _ _ _ _ _ e hg k)
      · cases e
    · next act hc =>
      split at e
      · next g1 p1 l1 s1 y1 ha =>
        have hG := xrun_G _ _ _ _ _ _ _ _ _ _ _ _ e hg
        exact Wp.s1 (by unfold xst1; rw [hc]; exact ha) hG.2 (ih _ _ _ _ _ _ _ _ _ _ _ e hg k)
      · cases e
    · cases e
      exact k
theorem Wp.run (n : Nat) {d M pc : Nat} {ls : XL} {st : XS} {h : XH} {Q : XO → XH → Prop} {g : Prop} {pc' : Nat} {ls' : XL} {st' : XS} {h1 : XH} (e : xrun n M pc ls st h True = some (g, pc', ls', st', h1)) (hg : g) (k : Wp d M pc' ls' st' h1 Q) : Wp d M pc ls st h Q := Wp.runG n M pc ls st h True g pc' ls' st' h1 e hg k
