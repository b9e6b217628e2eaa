/-! WALKS, 1: a method's verification condition by computation; loops; frames -/
set_option maxRecDepth 100000
set_option maxHeartbeats 4000000
def xmem (pc : Nat) : List Nat → Bool
  | [] => false
  | k :: l => match Nat.beq pc k with
    | true => true
    | false => xmem pc l
/-- what is left to show from a place on: until a call, a cut, an end -/
def xvc : Nat → Bool → Nat → Nat → Nat → List Nat → XL → XS → XH → (XO → XH → Prop) → Option Prop
  | 0, _, d, M, pc, _, ls, st, h, Q => some (Wp d M pc ls st h Q)
  | n + 1, b, d, M, pc, cuts, ls, st, h, Q => match b && xmem pc cuts with
    | true => some (Wp d M pc ls st h Q)
    | false => match xcode M pc with
      | some (.inl act) => match act ls st h with
        | some (pc', ls', st', h1) => xvc n true d M pc' cuts ls' st' h1 Q
        | none => none
      | some (.inr (.inl act)) => match act ls st h with
        | some (g, pc', ls', st', h1) => match xvc n true d M pc' cuts ls' st' h1 Q with
          | some P => some (g ∧ P)
          | none => none
        | none => none
      | some (.inr (.inr (.inl br))) => match br st with
        | some (c, t, f, st') => match xvc n true d M t cuts ls st' h Q with
          | some P1 => match xvc n true d M f cuts ls st' h Q with
            | some P2 => some ((c → P1) ∧ (¬ c → P2))
            | none => none
          | none => none
        | none => none
      | some (.inr (.inr (.inr (.inl _)))) => some (Wp d M pc ls st h Q)
      | some (.inr (.inr (.inr (.inr (.inl r))))) => match r st with
        | some (g, v) => some (g ∧ Q (.inl v) h)
        | none => none
      | some (.inr (.inr (.inr (.inr (.inr _))))) => some (Wp d M pc ls st h Q)
      | none => some False
theorem xvc_ok : ∀ (n : Nat) (b : Bool) (d M pc : Nat) (cuts : List Nat) (ls : XL) (st : XS) (h : XH) (Q : XO → XH → Prop) (P : Prop), xvc n b d M pc cuts ls st h Q = some P → P → Wp d M pc ls st h Q := by
  intro n
  induction n with
  | zero =>
    intro b d M pc cuts ls st h Q P e hp
    cases e
    exact hp
  | succ n ih =>
    intro b d M pc cuts ls st h Q P e hp
    unfold xvc at e
    split at e
    · cases e; exact hp
    · split at e
      · next act hc =>
        split at e
        · next p1 l1 s1 h1 ha => exact Wp.s0 (by unfold xst0; rw [hc]; exact ha) (ih _ _ _ _ _ _ _ _ _ _ e hp)
        · cases e
      · next act hc =>
        split at e
        · next g p1 l1 s1 h1 ha =>
          split at e
          · next P1 hP =>
            cases e
            exact Wp.s1 (by unfold xst1; rw [hc]; exact ha) hp.1 (ih _ _ _ _ _ _ _ _ _ _ hP hp.2)
          · cases e
        · cases e
      · next br hc =>
        split at e
        · next c t f s1 ha =>
          split at e
          · next P1 hP1 =>
            split at e
            · next P2 hP2 =>
              cases e
              exact Wp.br (by unfold xstB; rw [hc]; exact ha) (fun q => ih _ _ _ _ _ _ _ _ _ _ hP1 (hp.1 q)) (fun q => ih _ _ _ _ _ _ _ _ _ _ hP2 (hp.2 q))
            · cases e
          · cases e
        · cases e
      · cases e; exact hp
      · next r hc =>
        split at e
        · next g v ha =>
          cases e
          exact Wp.rt (by unfold xstR; rw [hc]; exact ha) hp.1 hp.2
        · cases e
      · cases e; exact hp
      · cases e; exact hp.elim
theorem Wp.vc (n : Nat) (cuts : List Nat) {d M pc : Nat} {ls : XL} {st : XS} {h : XH} {Q : XO → XH → Prop} {P : Prop} (e : xvc n false d M pc cuts ls st h Q = some P) (hp : P) : Wp d M pc ls st h Q := xvc_ok _ _ _ _ _ _ _ _ _ _ _ e hp
/-- an exact end: this value, this heap -/
def XE (v : Option XV) (h1 : XH) : XO → XH → Prop := fun o h' => o = .inl v ∧ h' = h1
theorem XE.mk {v : Option XV} {h1 : XH} : XE v h1 (.inl v) h1 := ⟨rfl, rfl⟩
/-- a call of a method whose end is known exactly -/
theorem Wp.callE {d M pc j : Nat} {ls : XL} {st : XS} {h : XH} {Q : XO → XH → Prop} {np y : Nat} {g : Option Nat} {args rest : XS} {v : Option XV} {h1 : XH} (e : xstK M pc j st = some (np, g, y, args, rest)) (hw : xwords rest ≤ 8) (hr : xrecv h g args) (hm : WpM d y args h (XE v h1))
    (k : Wp (d + 1) M np ls (xpush v rest) h1 Q) : Wp (d + 1) M pc ls st h Q :=
  Wp.call e hw hr hm (fun v' h' q => by obtain ⟨q1, q2⟩ := q; cases q1; subst q2; exact k) (fun q h' q' => by cases q'.1)
/-- a call of a method that returns, and of which Q1 holds then -/
theorem Wp.callR {d M pc j : Nat} {ls : XL} {st : XS} {h : XH} {Q : XO → XH → Prop} {np y : Nat} {g : Option Nat} {args rest : XS} {Q1 : Option XV → XH → Prop} (e : xstK M pc j st = some (np, g, y, args, rest)) (hw : xwords rest ≤ 8) (hr : xrecv h g args) (hm : WpM d y args h (fun o h' => ∃ v, o = .inl v ∧ Q1 v h'))
    (k : ∀ (v : Option XV) (h1 : XH), Q1 v h1 → Wp (d + 1) M np ls (xpush v rest) h1 Q) : Wp (d + 1) M pc ls st h Q :=
  Wp.call e hw hr hm (fun v' h' q => by obtain ⟨v, q1, q2⟩ := q; cases q1; exact k v' h' q2) (fun q h' q' => by obtain ⟨v, q1, -⟩ := q'; cases q1)
/-- loops: up to n, or by a measure -/
theorem loopUp {G I : Int → XH → Prop} (n : Int) (hs : ∀ k h, I k h → k < n → (∀ h', I (k + 1) h' → G (k + 1) h') → G k h) (he : ∀ h, I n h → G n h) : ∀ (k : Int) (h : XH), k ≤ n → I k h → G k h := by
  have key : ∀ (m : Nat) (k : Int) (h : XH), (n - k).toNat = m → k ≤ n → I k h → G k h := by
    intro m
    induction m with
    | zero =>
      intro k h e hk hi
      have : k = n := by omega
      subst this
      exact he h hi
    | succ m ih =>
      intro k h e hk hi
      exact hs k h hi (by omega) (fun h' hi' => ih (k + 1) h' (by omega) (by omega) hi')
  intro k h hk hi
  exact key _ k h rfl hk hi
theorem loopM {σ : Type} {G I : σ → Prop} (μ : σ → Nat) (hs : ∀ s, I s → (∀ s', μ s' < μ s → I s' → G s') → G s) : ∀ s, I s → G s := by
  have key : ∀ (m : Nat) (s : σ), μ s < m → I s → G s := by
    intro m
    induction m with
    | zero => intro s e; omega
    | succ m ih =>
      intro s e hi
      exact hs s hi (fun s' e' hi' => ih s' (by omega) hi')
  intro s hi
  exact key _ s (Nat.lt_succ_self _) hi
/-- reading a heap that has been written -/
theorem xcs_putf (h : XH) (a : Int) (f : Nat) (z : Int) : xcs (xputf h a f z) = xcs h := Eq.trans rfl rfl
theorem xty_putf (h : XH) (a : Int) (f : Nat) (z : Int) : xty (xputf h a f z) = xty h := Eq.trans rfl rfl
theorem xar_putf (h : XH) (a : Int) (f : Nat) (z : Int) : xar (xputf h a f z) = xar h := Eq.trans rfl rfl
theorem xsz_putf (h : XH) (a : Int) (f : Nat) (z : Int) : xsz (xputf h a f z) = xsz h := Eq.trans rfl rfl
theorem xsl_putf (h : XH) (a : Int) (f : Nat) (z : Int) : xsl (xputf h a f z) = xsl h := Eq.trans rfl rfl
theorem xfl_putf (h : XH) (a : Int) (f : Nat) (z : Int) (a' : Int) (f' : Nat) : xfl (xputf h a f z) a' f' = if a' = a ∧ f' = f then z else xfl h a' f' := Eq.trans rfl rfl
theorem xcs_puta (h : XH) (a i z : Int) : xcs (xputa h a i z) = xcs h := Eq.trans rfl rfl
theorem xty_puta (h : XH) (a i z : Int) : xty (xputa h a i z) = xty h := Eq.trans rfl rfl
theorem xfl_puta (h : XH) (a i z : Int) : xfl (xputa h a i z) = xfl h := Eq.trans rfl rfl
theorem xsz_puta (h : XH) (a i z : Int) : xsz (xputa h a i z) = xsz h := Eq.trans rfl rfl
theorem xsl_puta (h : XH) (a i z : Int) : xsl (xputa h a i z) = xsl h := Eq.trans rfl rfl
theorem xar_puta (h : XH) (a i z a' i' : Int) : xar (xputa h a i z) a' i' = if a' = a ∧ i' = i then z else xar h a' i' := Eq.trans rfl rfl
theorem xcs_copy (h : XH) (s sp d dp n : Int) : xcs (xcopy h s sp d dp n) = xcs h := Eq.trans rfl rfl
theorem xty_copy (h : XH) (s sp d dp n : Int) : xty (xcopy h s sp d dp n) = xty h := Eq.trans rfl rfl
theorem xfl_copy (h : XH) (s sp d dp n : Int) : xfl (xcopy h s sp d dp n) = xfl h := Eq.trans rfl rfl
theorem xsz_copy (h : XH) (s sp d dp n : Int) : xsz (xcopy h s sp d dp n) = xsz h := Eq.trans rfl rfl
theorem xsl_copy (h : XH) (s sp d dp n : Int) : xsl (xcopy h s sp d dp n) = xsl h := Eq.trans rfl rfl
theorem xar_copy (h : XH) (s sp d dp n a i : Int) : xar (xcopy h s sp d dp n) a i = if a = d ∧ dp ≤ i ∧ i < dp + n then xar h s (sp + (i - dp)) else xar h a i := Eq.trans rfl rfl
theorem xcs_newo (h : XH) (c n : Nat) : xcs (xnewo h c n) = xcs h := Eq.trans rfl rfl
theorem xar_newo (h : XH) (c n : Nat) : xar (xnewo h c n) = xar h := Eq.trans rfl rfl
theorem xsz_newo (h : XH) (c n : Nat) : xsz (xnewo h c n) = xsz h + 1 := Eq.trans rfl rfl
theorem xsl_newo (h : XH) (c n : Nat) : xsl (xnewo h c n) = xsl h + n := Eq.trans rfl rfl
theorem xty_newo (h : XH) (c n : Nat) (a : Int) : xty (xnewo h c n) a = if a = xsz h then some (true, c, none) else xty h a := Eq.trans rfl rfl
theorem xfl_newo (h : XH) (c n : Nat) (a : Int) (f : Nat) : xfl (xnewo h c n) a f = if a = xsz h then 0 else xfl h a f := Eq.trans rfl rfl
theorem xcs_newa (h : XH) (e : Nat) (n : Int) : xcs (xnewa h e n) = xcs h := Eq.trans rfl rfl
theorem xfl_newa (h : XH) (e : Nat) (n : Int) : xfl (xnewa h e n) = xfl h := Eq.trans rfl rfl
theorem xsz_newa (h : XH) (e : Nat) (n : Int) : xsz (xnewa h e n) = xsz h + 1 := Eq.trans rfl rfl
theorem xsl_newa (h : XH) (e : Nat) (n : Int) : xsl (xnewa h e n) = xsl h + n := Eq.trans rfl rfl
theorem xty_newa (h : XH) (e : Nat) (n a : Int) : xty (xnewa h e n) a = if a = xsz h then some (true, e, some n) else xty h a := Eq.trans rfl rfl
theorem xar_newa (h : XH) (e : Nat) (n a i : Int) : xar (xnewa h e n) a i = if a = xsz h then 0 else xar h a i := Eq.trans rfl rfl
/-- typing guards out of a type -/
theorem isF {h : XH} {a : Int} {f c : Nat} {w : Bool} (ht : xty h a = some (w, c, none)) (hf : xhas c f = true) : xIsF h a f := ⟨w, c, ht, hf⟩
theorem isW {h : XH} {a : Int} {f c : Nat} (ht : xty h a = some (true, c, none)) (hf : xhas c f = true) : xIsW h a f := ⟨c, ht, hf⟩
theorem isA {h : XH} {a i n : Int} {e : Nat} {w : Bool} (ht : xty h a = some (w, e, some n)) (h0 : 0 ≤ i) (h1 : i < n) : xIsA h a e i := ⟨w, n, ht, h0, h1⟩
theorem isB {h : XH} {a i n : Int} {e : Nat} (ht : xty h a = some (true, e, some n)) (h0 : 0 ≤ i) (h1 : i < n) : xIsB h a e i := ⟨n, ht, h0, h1⟩
theorem isR {h : XH} {a i n : Int} {e : Nat} {w : Bool} (ht : xty h a = some (w, e, some n)) (h4 : 4 ≤ e) (h0 : 0 ≤ i) (h1 : i < n) : xIsR h a i := ⟨w, e, n, ht, h4, h0, h1⟩
theorem isS {h : XH} {a i v n : Int} {e c : Nat} {w : Bool} (ht : xty h a = some (true, e, some n)) (h0 : 0 ≤ i) (h1 : i < n) (hv : xty h v = some (w, c, none)) (ha : xasg e c = true) : xIsS h a i v := ⟨e, n, w, c, ht, h0, h1, hv, ha⟩
