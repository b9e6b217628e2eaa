/-! THE MINI-MACHINE IS SOUND: what a cell, a heap, a frame of the machine has to do with the mini-machine's -/
set_option maxRecDepth 100000
def xrv (z : Int) : Value := if z ≤ 0 then .null else .ref (z - 1).toNat
def xcv : XV → Value
  | .inl z => .int (Int32.ofInt z)
  | .inr (.inl z) => .long (Int64.ofInt z)
  | .inr (.inr z) => xrv z
def xok : XV → Prop
  | .inl z => -2147483648 ≤ z ∧ z < 2147483648
  | .inr (.inl z) => -9223372036854775808 ≤ z ∧ z < 9223372036854775808
  | .inr (.inr z) => 0 ≤ z
def xll : Nat → XL → List (Nat × Value)
  | _, [] => []
  | i, none :: l => xll (i + 1) l
  | i, some v :: l => (i, xcv v) :: xll (i + 1) l
def xokL (ls : XL) : Prop := ∀ v : XV, some v ∈ ls → xok v
def xokS (st : XS) : Prop := ∀ v ∈ st, xok v
theorem xcv_cat (v : XV) : (xcv v).category = if xc1 v then 1 else 2 := by
  obtain z | z | z := v
  · rfl
  · rfl
  · show (xrv z).category = 1
    unfold xrv
    split <;> rfl
theorem xrv_pos {z : Int} {a : Nat} (h : z = (a : Int) + 1) : xrv z = .ref a := by
  subst h
  unfold xrv
  have e : ((a : Int) + 1 - 1).toNat = a := by omega
  rw [if_neg (by omega), e]
theorem xll_get : ∀ (ls : XL) (k i : Nat) (v : XV), xget ls i = some v → (k + i, xcv v) ∈ xll k ls := by
  intro ls
  induction ls with
  | nil => intro k i v h; cases h
  | cons a l ih =>
    intro k i v h
    cases i with
    | zero =>
      have h : a = some v := h
      subst h
      exact List.mem_cons_self
    | succ i =>
      have h1 := ih (k + 1) i v h
      have e : k + 1 + i = k + (i + 1) := by omega
      rw [e] at h1
      cases a with
      | none => exact h1
      | some w => exact List.mem_cons_of_mem _ h1
theorem xget_ok : ∀ {ls : XL} {i : Nat} {v : XV}, xokL ls → xget ls i = some v → xok v := by
  intro ls
  induction ls with
  | nil => intro i v _ h; cases h
  | cons a l ih =>
    intro i v hk h
    cases i with
    | zero =>
      have h : a = some v := h
      subst h
      exact hk v List.mem_cons_self
    | succ i => exact ih (fun w hw => hk w (List.mem_cons_of_mem _ hw)) h
theorem xll_ge : ∀ (ls : XL) (k : Nat) (q : Nat × Value), q ∈ xll k ls → k ≤ q.1 := by
  intro ls
  induction ls with
  | nil => intro k q h; cases h
  | cons a l ih =>
    intro k q h
    cases a with
    | none =>
      have := ih (k + 1) q h
      omega
    | some w =>
      rcases List.mem_cons.mp h with e | h
      · rw [e]; exact Nat.le_refl _
      · have := ih (k + 1) q h
        omega
theorem xset_spec : ∀ (ls : XL) (k i : Nat) (v : XV) (ls' : XL), xset ls i v = some ls' → i < ls.length ∧ ls'.length = ls.length ∧ (∀ w : XV, some w ∈ ls' → w = v ∨ some w ∈ ls) ∧ ∀ q ∈ xll k ls', q = (k + i, xcv v) ∨ (q ∈ xll k ls ∧ q.1 ≠ k + i ∧ ¬ (q.1 + 1 = k + i ∧ q.2.category = 2)) := by
  intro ls
  induction ls with
  | nil => intro k i v ls' h; cases h
  | cons a l ih =>
    intro k i v ls' h
    cases i with
    | zero =>
      have h : some (some v :: l) = some ls' := h
      cases h
      refine ⟨Nat.zero_lt_succ _, rfl, fun w hw => ?_, fun q hq => ?_⟩
      · rcases List.mem_cons.mp hw with e | e
        · exact Or.inl (Option.some.inj e)
        · exact Or.inr (List.mem_cons_of_mem _ e)
      · rcases List.mem_cons.mp hq with e | e
        · exact Or.inl e
        · have := xll_ge l (k + 1) q e
          refine Or.inr ⟨?_, by omega, by omega⟩
          cases a with
          | none => exact e
          | some w => exact List.mem_cons_of_mem _ e
    | succ i =>
      unfold xset at h
      split at h
      · cases h
      · next hb =>
        split at h
        · next l' hl =>
          cases h
          obtain ⟨h1, h2, h3, h4⟩ := ih (k + 1) i v l' hl
          refine ⟨by simpa using h1, by simp [h2], fun w hw => ?_, fun q hq => ?_⟩
          · rcases List.mem_cons.mp hw with e | e
            · exact Or.inr (by rw [e]; exact List.mem_cons_self)
            · rcases h3 w e with e | e
              · exact Or.inl e
              · exact Or.inr (List.mem_cons_of_mem _ e)
          · have e1 : k + 1 + i = k + (i + 1) := by omega
            rw [e1] at h4
            cases a with
            | none => exact h4 q hq
            | some w =>
              rcases List.mem_cons.mp hq with e | e
              · refine Or.inr ⟨by rw [e]; exact List.mem_cons_self, by rw [e]; show k ≠ _; omega, fun z => ?_⟩
                rw [e] at z
                have z1 : k + 1 = k + (i + 1) := z.1
                have hi : i = 0 := by omega
                subst hi
                obtain w | w | w := w
                · have z2 : (xcv (Sum.inl w)).category = 2 := z.2
                  rw [xcv_cat] at z2
                  cases z2
                · simp [xlong] at hb
                · have z2 : (xcv (Sum.inr (Sum.inr w))).category = 2 := z.2
                  rw [xcv_cat] at z2
                  cases z2
              · rcases h4 q e with e | e
                · exact Or.inl e
                · exact Or.inr ⟨List.mem_cons_of_mem _ e.1, e.2⟩
        · cases h
theorem xset2_spec : ∀ (ls : XL) (k i : Nat) (z : Int) (ls' : XL), xset2 ls i z = some ls' → i + 1 < ls.length ∧ ls'.length = ls.length ∧ (∀ w : XV, some w ∈ ls' → w = .inr (.inl z) ∨ some w ∈ ls) ∧ ∀ q ∈ xll k ls', q = (k + i, xcv (.inr (.inl z))) ∨ (q ∈ xll k ls ∧ q.1 ≠ k + i ∧ q.1 ≠ k + i + 1 ∧ ¬ (q.1 + 1 = k + i ∧ q.2.category = 2)) := by
  intro ls
  induction ls with
  | nil => intro k i v ls' h; cases h
  | cons a l ih =>
    intro k i v ls' h
    cases i with
    | zero =>
      cases l with
      | nil => cases h
      | cons b l =>
        have h : some (some (.inr (.inl v)) :: none :: l) = some ls' := h
        cases h
        refine ⟨by simp, rfl, fun w hw => ?_, fun q hq => ?_⟩
        · rcases List.mem_cons.mp hw with e | e
          · exact Or.inl (Option.some.inj e)
          · rcases List.mem_cons.mp e with e | e
            · cases e
            · exact Or.inr (List.mem_cons_of_mem _ (List.mem_cons_of_mem _ e))
        · rcases List.mem_cons.mp hq with e | e
          · exact Or.inl e
          · have e : q ∈ xll (k + 1 + 1) l := e
            have := xll_ge l (k + 1 + 1) q e
            refine Or.inr ⟨?_, by omega, by omega, by omega⟩
            have e2 : q ∈ xll (k + 1) (b :: l) := by
              cases b with
              | none => exact e
              | some w => exact List.mem_cons_of_mem _ e
            cases a with
            | none => exact e2
            | some w => exact List.mem_cons_of_mem _ e2
    | succ i =>
      have h : (match Nat.beq i 0 && xlong a with
        | true => none
        | false => match xset2 l i v with
          | some l' => some (a :: l')
          | none => none) = some ls' := by
        cases l with
        | nil => exact h
        | cons b l => exact h
      split at h
      · cases h
      · next hb =>
        split at h
        · next l' hl =>
          cases h
          obtain ⟨h1, h2, h3, h4⟩ := ih (k + 1) i v l' hl
          refine ⟨by simp only [List.length_cons]; omega, by simp [h2], fun w hw => ?_, fun q hq => ?_⟩
          · rcases List.mem_cons.mp hw with e | e
            · exact Or.inr (by rw [e]; exact List.mem_cons_self)
            · rcases h3 w e with e | e
              · exact Or.inl e
              · exact Or.inr (List.mem_cons_of_mem _ e)
          · have e1 : k + 1 + i = k + (i + 1) := by omega
            rw [e1] at h4
            cases a with
            | none => exact h4 q hq
            | some w =>
              rcases List.mem_cons.mp hq with e | e
              · refine Or.inr ⟨by rw [e]; exact List.mem_cons_self, by rw [e]; show k ≠ _; omega, by rw [e]; show k ≠ _; omega, fun z => ?_⟩
                rw [e] at z
                have z1 : k + 1 = k + (i + 1) := z.1
                have hi : i = 0 := by omega
                subst hi
                obtain w | w | w := w
                · have z2 : (xcv (Sum.inl w)).category = 2 := z.2
                  rw [xcv_cat] at z2
                  cases z2
                · simp [xlong] at hb
                · have z2 : (xcv (Sum.inr (Sum.inr w))).category = 2 := z.2
                  rw [xcv_cat] at z2
                  cases z2
              · rcases h4 q e with e | e
                · exact Or.inl e
                · exact Or.inr ⟨List.mem_cons_of_mem _ e.1, e.2⟩
        · cases h
theorem xnones_eq : ∀ (n : Nat) (K : XL → Option XL), xnones n K = K (List.replicate n none) := by
  intro n
  induction n with
  | zero => intro K; rfl
  | succ n ih =>
    intro K
    show xnones n (fun l => K (none :: l)) = _
    rw [ih]
    rfl
theorem xll_none : ∀ (n k : Nat), xll k (List.replicate n none) = [] := by
  intro n
  induction n with
  | zero => intro k; rfl
  | succ n ih => intro k; exact ih (k + 1)
theorem xent_spec : ∀ (args : XS) (n k : Nat) (K : XL → Option XL) (r : XL), xent n args K = some r → ∃ le : XL, K le = some r ∧ le.length = n ∧ xll k le = lv_args k (args.map xcv) ∧ (lg_sl (args.map xcv)).length ≤ n ∧ ∀ w : XV, some w ∈ le → w ∈ args := by
  intro args
  induction args with
  | nil =>
    intro n k K r h
    have h : xnones n K = some r := by
      cases n with
      | zero => exact h
      | succ n =>
        cases n with
        | zero => exact h
        | succ n => exact h
    rw [xnones_eq] at h
    exact ⟨_, h, List.length_replicate, xll_none n k, by simp [lg_sl], fun w hw => by simp at hw⟩
  | cons v l ih =>
    intro n k K r h
    obtain v | v | v := v
    · cases n with
      | zero => cases h
      | succ n =>
        have h : xent n l (fun l => K (some (.inl v) :: l)) = some r := by
          cases n with
          | zero => exact h
          | succ n => exact h
        obtain ⟨le, h1, h2, h3, h4, h5⟩ := ih n (k + 1) _ r h
        refine ⟨_, h1, by simp [h2], ?_, ?_, fun w hw => ?_⟩
        · show (k, xcv (.inl v)) :: xll (k + 1) le = _
          rw [h3]
          rfl
        · show (lg_sl (xcv (.inl v) :: l.map xcv)).length ≤ _
          have e : lg_sl (xcv (.inl v) :: l.map xcv) = [.val (xcv (.inl v))] ++ lg_sl (l.map xcv) := by
            simp [lg_sl, xcv, Value.category]
          rw [e, List.length_append]
          simp only [List.length_cons, List.length_nil]
          omega
        · rcases List.mem_cons.mp hw with e | e
          · rw [Option.some.inj e]; exact List.mem_cons_self
          · exact List.mem_cons_of_mem _ (h5 w e)
    · cases n with
      | zero => cases h
      | succ n =>
        cases n with
        | zero => cases h
        | succ n =>
          have h : xent n l (fun l => K (some (.inr (.inl v)) :: none :: l)) = some r := h
          obtain ⟨le, h1, h2, h3, h4, h5⟩ := ih n (k + 2) _ r h
          refine ⟨_, h1, by simp [h2], ?_, ?_, fun w hw => ?_⟩
          · show (k, xcv (.inr (.inl v))) :: xll (k + 2) le = _
            rw [h3]
            rfl
          · have e : lg_sl (xcv (.inr (.inl v)) :: l.map xcv) = [.val (xcv (.inr (.inl v))), .second] ++ lg_sl (l.map xcv) := by
              simp [lg_sl, xcv, Value.category]
            show (lg_sl (xcv (.inr (.inl v)) :: l.map xcv)).length ≤ _
            rw [e, List.length_append]
            simp only [List.length_cons, List.length_nil]
            omega
          · rcases List.mem_cons.mp hw with e | e
            · rw [Option.some.inj e]; exact List.mem_cons_self
            · rcases List.mem_cons.mp e with e | e
              · cases e
              · exact List.mem_cons_of_mem _ (h5 w e)
    · cases n with
      | zero => cases h
      | succ n =>
        have h : xent n l (fun l => K (some (.inr (.inr v)) :: l)) = some r := by
          cases n with
          | zero => exact h
          | succ n => exact h
        have hcat : (xcv (.inr (.inr v))).category = 1 := xcv_cat _
        obtain ⟨le, h1, h2, h3, h4, h5⟩ := ih n (k + 1) _ r h
        refine ⟨_, h1, by simp [h2], ?_, ?_, fun w hw => ?_⟩
        · show (k, xcv (.inr (.inr v))) :: xll (k + 1) le = (k, xcv (.inr (.inr v))) :: lv_args (if (xcv (.inr (.inr v))).category = 2 then k + 2 else k + 1) (l.map xcv)
          rw [h3, hcat]
          rfl
        · show (lg_sl (xcv (.inr (.inr v)) :: l.map xcv)).length ≤ _
          have e : lg_sl (xcv (.inr (.inr v)) :: l.map xcv) = [.val (xcv (.inr (.inr v)))] ++ lg_sl (l.map xcv) := by
            simp [lg_sl, hcat]
          rw [e, List.length_append]
          simp only [List.length_cons, List.length_nil]
          omega
        · rcases List.mem_cons.mp hw with e | e
          · rw [Option.some.inj e]; exact List.mem_cons_self
          · exact List.mem_cons_of_mem _ (h5 w e)
theorem xpop_spec : ∀ (n : Nat) (st acc args rest : XS), xpop n st acc = some (args, rest) → ∃ a : XS, args = a ++ acc ∧ a.length = n ∧ st = a.reverse ++ rest := by
  intro n
  induction n with
  | zero =>
    intro st acc args rest h
    cases h
    exact ⟨[], rfl, rfl, rfl⟩
  | succ n ih =>
    intro st acc args rest h
    cases st with
    | nil => cases h
    | cons v st =>
      obtain ⟨a, h1, h2, h3⟩ := ih st (v :: acc) args rest h
      refine ⟨a ++ [v], by rw [h1]; simp, by simp [h2], ?_⟩
      rw [h3]
      simp
/-- a field's and an element's kind -/
def xfk (f : Nat) : Nat := xnth 4 xfkT f
def xkv (k : Nat) (z : Int) : Value := match k with
  | 3 => .long (Int64.ofInt z)
  | 4 => xrv z
  | _ => .int (Int32.ofInt z)
def xkok (k : Nat) (z : Int) : Prop := match k with
  | 0 => -2147483648 ≤ z ∧ z < 2147483648
  | 1 => 0 ≤ z ∧ z ≤ 1
  | 2 => -128 ≤ z ∧ z ≤ 127
  | 3 => -9223372036854775808 ≤ z ∧ z < 9223372036854775808
  | _ => 0 ≤ z
def xeT : Nat → FieldType
  | 0 => .int
  | 1 => .byte
  | 2 => .char
  | 3 => .long
  | 4 => .object "WrongRoom$Rooms"
  | 5 => .object "WrongRoom$House"
  | 6 => .object "WrongRoom$Person"
  | _ => .object "WrongRoom$Notice"
def xev (e : Nat) (z : Int) : Value := match e with
  | 0 => .int (Int32.ofInt z)
  | 1 => .int (Int32.ofInt z)
  | 2 => .int (Int32.ofInt z)
  | 3 => .long (Int64.ofInt z)
  | _ => xrv z
def xeok (e : Nat) (z : Int) : Prop := match e with
  | 0 => -2147483648 ≤ z ∧ z < 2147483648
  | 1 => -128 ≤ z ∧ z ≤ 127
  | 2 => 0 ≤ z ∧ z ≤ 65535
  | 3 => -9223372036854775808 ≤ z ∧ z < 9223372036854775808
  | _ => 0 ≤ z
