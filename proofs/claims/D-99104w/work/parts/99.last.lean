/-! THE LAW, 5: the whole -/
set_option maxRecDepth 100000
set_option maxHeartbeats 4000000
theorem cst_key : ∀ k : Fin 41, (xcsD[k.val]?.map (·.1)) = some (cw k.val) ∧ (cw k.val).length ≤ 8 := by decide +kernel
theorem cst_start {h : XH} {scr : Int} {L : Nat} {xs : Nat → Int} (S : XStart h scr L xs) : CstOK h (xsz h) := by
  intro k hk
  obtain ⟨z, cs, -⟩ := S
  obtain ⟨e, l⟩ := cst_key ⟨k, hk⟩
  have e : (xcsD[k]?.map (·.1)) = some (cw k) := e
  have l : (cw k).length ≤ 8 := l
  cases hr : xcsD[k]? with
  | none =>
    rw [hr] at e
    cases e
  | some r =>
    rw [hr] at e
    have e : some r.1 = some (cw k) := e
    have e := Option.some.inj e
    obtain ⟨t, f161, -, -, tb, by_⟩ := cs k r hr
    rw [e] at tb by_
    have a := z _ _ t
    have b := z _ _ tb
    exact ⟨⟨⟨_, t⟩, f161, l, ⟨_, tb⟩, by_⟩, ⟨a.1, a.2.1⟩, b.1, b.2.1⟩
theorem xlaw_runs : XLawRuns := by
  intro h scr L xs S hL
  have C := cst_start S
  obtain ⟨z, -, ts, hx, hz, -⟩ := S
  have n0 : xty h 0 = none := by
    cases e : xty h 0 with
    | none => rfl
    | some t =>
      have := (z 0 t e).1
      omega
  have s0 := z _ _ ts
  obtain ⟨o, h', r, v, e1, e2, b1, b2⟩ := law_run (d := 887) (h := h) (L := (L : Int)) (xs := xs) rfl hz n0 C ⟨s0.1, s0.2.1⟩ ts ⟨by omega, by omega⟩ (fun j hj => hx j (by omega))
  subst e1
  subst e2
  exact ⟨h', r, by omega, by omega⟩
theorem i_vc : Claimed_1_1 ∧ Claimed_1_2 := i_vc_of xlaw_runs
