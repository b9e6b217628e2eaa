/-! WALKS, 51: rows of exchanges: WrongRoomModel's tries -/
set_option maxRecDepth 100000
set_option maxHeartbeats 4000000
def Fr5 (m : Int) (h g : XH) : Prop := XFr (fun _ _ => False) (fun z => z = m + 5) h g ∧ xsz g = xsz h ∧ xsl g = xsl h
theorem Fr5.refl {m : Int} (h : XH) : Fr5 m h h := ⟨XFr.refl h, rfl, rfl⟩
theorem Fr5.trans {m : Int} {h g k : XH} (p : Fr5 m h g) (q : Fr5 m g k) : Fr5 m h k := ⟨p.1.trans q.1 (fun _ _ _ e => e) (fun _ _ e => e), q.2.1.trans p.2.1, q.2.2.trans p.2.2⟩
theorem Fr5.frs {m : Int} {h g : XH} (p : Fr5 m h g) : FrS m h g := ⟨p.1.mono (fun _ _ _ w => w.elim) (fun z _ w => by omega), p.2⟩
def Row5 (h : XH) (m n : Int) (ρ : Int → Int) : Prop := (∀ i : Int, 0 ≤ i → i < n → xar h (m + 5) i = ρ i) ∧ ∀ i : Int, n ≤ i → i < 7 → xar h (m + 5) i = -2
def Pair3 (h : XH) (m : Int) (l : List Int) : Prop := ∀ j : Nat, j < l.length → xar h (m + 13) (j : Int) = l.getD j 0
theorem m_areDone {d : Nat} {h : XH} {B m n : Int} {T : XTw} {V : Int → Int} {l : List Int} {ρ : Int → Int} (C : MCtx h B m n T V) (l3 : l.length ≤ 3) (lr : ∀ c ∈ l, 0 ≤ c ∧ c < 49) (P : Pair3 h m l) (R : Row5 h m (tnh T) ρ) (RO : RowOK ρ (tnh T)) : WpM (d + 1) 223 [.inr (.inr m), .inl (l.length : Int)] h (XRet fun v h' => v = some (.inl (if (runE (tnh T) l ρ).isSome then 1 else 0)) ∧ Fr5 m h h' ∧ ∀ w, runE (tnh T) l ρ = some w → Row5 h' m (tnh T) w ∧ RowOK w (tnh T)) := by
  have hn := C.2.2.2.1.2.2.1
  have key : ∀ (cs pre : List Int) (h2 : XH) (ρ2 : Int → Int) (l3 l4 : Option XV), l = pre ++ cs → Fr5 m h h2 → Row5 h2 m (tnh T) ρ2 → RowOK ρ2 (tnh T) → runE (tnh T) l ρ = runE (tnh T) cs ρ2 → Wp (d + 1) 223 2 [some (.inr (.inr m)), some (.inl (l.length : Int)), some (.inl (pre.length : Int)), l3, l4] [] h2 (XRet fun v h' => v = some (.inl (if (runE (tnh T) l ρ).isSome then 1 else 0)) ∧ Fr5 m h h' ∧ ∀ w, runE (tnh T) l ρ = some w → Row5 h' m (tnh T) w ∧ RowOK w (tnh T)) := by
    intro cs
    induction cs with
    | nil =>
      intro pre h2 ρ2 x3 x4 el F R2 RO2 er
      rw [List.append_nil] at el
      subst el
      refine Wp.vc 400 [7] rfl ?_
      refine ⟨fun _ => ⟨⟨by decide, by decide⟩, _, rfl, ?_, F, fun w hw => ?_⟩, fun c => absurd (Int.le_refl _) c⟩
      · rw [er]
        rfl
      · rw [er] at hw
        cases hw
        exact ⟨R2, RO2⟩
    | cons c cs ih =>
      intro pre h2 ρ2 x3 x4 el F R2 RO2 er
      have C2 := C.keep F.frs
      have tm := C2.2.1.1
      obtain ⟨t5, f86⟩ := C2.2.1.2.2.2.2.2.1
      obtain ⟨t13, f99⟩ := C2.2.1.2.2.2.2.2.2.2.2.2.2.2.2.2.1
      have TX := C2.2.2.1
      have f135 := TX.2.2.1.2.2.1
      have tt := TX.1.2.2
      have hl : l.length = pre.length + (cs.length + 1) := by rw [el, List.length_append]; rfl
      have pc : xar h2 (m + 13) (pre.length : Int) = c := by
        rw [F.1.2.2.2.2 (m + 13) _ (by have := C.1; omega) (fun w => by omega), P pre.length (by omega), el, List.getD_eq_getElem?_getD, List.getElem?_append_right (Nat.le_refl _), Nat.sub_self]
        rfl
      have c0 := lr c (by rw [el]; exact List.mem_append_right _ (List.mem_cons_self ..))
      have re : runE (tnh T) (c :: cs) ρ2 = if exOK (tnh T) ρ2 c then runE (tnh T) cs (swp ρ2 (c / 7) (c % 7)) else none := rfl
      have at59 : ¬ exOK (tnh T) ρ2 c → Wp (d + 1) 223 59 [some (.inr (.inr m)), some (.inl (l.length : Int)), some (.inl (pre.length : Int)), some (.inl (c / 7)), some (.inl (c % 7))] [] h2 (XRet fun v h' => v = some (.inl (if (runE (tnh T) l ρ).isSome then 1 else 0)) ∧ Fr5 m h h' ∧ ∀ w, runE (tnh T) l ρ = some w → Row5 h' m (tnh T) w ∧ RowOK w (tnh T)) := by
        intro no
        rw [er, re, if_neg no]
        refine Wp.vc 400 [] rfl ?_
        exact ⟨⟨by decide, by decide⟩, _, rfl, rfl, F, fun w hw => by cases hw⟩
      have cx : (0 ≤ c / 7 ∧ c / 7 < 7) ∧ (0 ≤ c % 7 ∧ c % 7 < 7) := by omega
      have cE := m_canExchange (d := d) (hp := h2) t5 cx.1 cx.2
      refine Wp.vc 400 [2, 59, 61] rfl ?_
      rw [f99, pc, Int.tdiv_eq_ediv_of_nonneg c0.1, Int.tmod_eq_emod_of_nonneg c0.1, f135, f86]
      refine ⟨fun w => absurd w (by omega), fun _ => ⟨isF tm rfl, isA t13 (by omega) (by omega), ⟨by decide, Or.inl c0.1⟩, isF tm rfl, isA t13 (by omega) (by omega), ⟨by decide, Or.inl c0.1⟩, fun w => at59 (fun ok => absurd ok.1 (by omega)), fun w1 => ⟨isF tm rfl, isF tt rfl, fun w => at59 (fun ok => absurd ok.2.1 (by have : tnh T = tsc T 2 := rfl; omega)), fun w2 => ⟨isF tm rfl, ?_⟩⟩⟩⟩
      have w3 : c / 7 < c % 7 ∧ c % 7 < tnh T := ⟨by omega, by have : tnh T = tsc T 2 := rfl; omega⟩
      have eqv := canEx_congr (V := xar h2 (m + 5)) (W := ρ2) R2.1 (i := c / 7) (j := c % 7) ⟨by omega, by omega⟩ ⟨by omega, by omega⟩
      refine Wp.callE (j := 0) rfl (Nat.le_of_ble_eq_true rfl) trivial cE ?_
      by_cases cc : canEx ρ2 (c / 7) (c % 7)
      · rw [if_pos (eqv.mpr cc)]
        have ok : exOK (tnh T) ρ2 c := ⟨w3.1, w3.2, cc⟩
        have xE := m_exchanges (d := d) (hp := h2) t5 cx.1 cx.2
        have F3 : Fr5 m h2 (xputa (xputa h2 (m + 5) (c / 7) (xar h2 (m + 5) (c % 7))) (m + 5) (c % 7) (xar h2 (m + 5) (c / 7))) := ⟨by refine XFr.puta (XFr.puta (XFr.refl _) ?_) ?_ <;> exact Or.inr rfl, rfl, rfl⟩
        have nx := ih (pre ++ [c]) _ (swp ρ2 (c / 7) (c % 7)) (some (.inl (c / 7))) (some (.inl (c % 7))) (by rw [el, List.append_assoc]; rfl) (F.trans F3) ⟨fun i i0 i1 => xputa_swp R2.1 ⟨by omega, by omega⟩ ⟨by omega, w3.2⟩ ⟨i0, i1⟩, fun i i0 i1 => by
          rw [xar_puta, if_neg (fun w => by omega), xar_puta, if_neg (fun w => by omega)]
          exact R2.2 i i0 i1⟩ (swp_ok RO2 ⟨by omega, by omega⟩ ⟨by omega, w3.2⟩) (er.trans (re.trans (if_pos ok)))
        rw [show ((pre ++ [c]).length : Int) = (pre.length : Int) + 1 by rw [List.length_append]; rfl] at nx
        refine Wp.vc 400 [2, 59] rfl ?_
        rw [f86]
        refine ⟨fun _ => ⟨isF tm rfl, ?_⟩, fun w => absurd (show ¬ (1 : Int) = 0 by decide) w⟩
        refine Wp.callE (j := 0) rfl (Nat.le_of_ble_eq_true rfl) trivial xE ?_
        refine Wp.vc 400 [2] rfl ?_
        exact ⟨by omega, nx⟩
      · rw [if_neg (fun w => cc (eqv.mp w))]
        refine Wp.vc 400 [59, 61] rfl ?_
        exact ⟨fun w => absurd rfl w, fun _ => at59 (fun ok => cc ok.2.2)⟩
  have k0 := key l [] h ρ none none rfl (Fr5.refl h) R RO rfl
  refine WpM.of rfl (Wp.vc 400 [2] rfl ?_)
  exact k0
