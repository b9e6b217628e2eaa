/-! WALKS, 96: the state after an op is a state -/
set_option maxRecDepth 100000
set_option maxHeartbeats 4000000
section
variable {n : Int} {S : XSt}
theorem sk_ite {p : Prop} [Decidable p] {a b : Int × XSt} (ha : p → SOK n a.2) (hb : SOK n b.2) : SOK n (if p then a else b).2 := by
  by_cases c : p
  · rw [if_pos c]
    exact ha c
  · rw [if_neg c]
    exact hb
theorem sk_no {k : Int} (O : SOK n S) : SOK n (sNo S k).2 := O.set
theorem sk_ok {v : Int} (O : SOK n S) : SOK n (sOk S v).2 := O.set
theorem sk_onT {f : XTw → Int × XSt} (O : SOK n S) (h : ∀ T, sT S = some T → SOK n (f T).2) : SOK n (onT S f).2 := by
  unfold onT
  cases e : sT S with
  | none => exact O.set
  | some T => exact h T e
theorem sk_onH {i : Int} {f : XTw → Int × XSt} (O : SOK n S) (h : ∀ T, sT S = some T → 0 ≤ i ∧ i < tnh T → SOK n (f T).2) : SOK n (onH S i f).2 := sk_onT O fun T e => sk_ite (fun c => h T e c) O.set
theorem sk_onP {i : Int} {f : XTw → Int × XSt} (O : SOK n S) (h : ∀ T, sT S = some T → 0 ≤ i ∧ i < tpm T → SOK n (f T).2) : SOK n (onP S i f).2 := sk_onT O fun T e => sk_ite (fun c => h T e c) O.set
theorem sk_on2 {i j : Int} {f : XTw → Int × XSt} (O : SOK n S) (h : ∀ T, SOK n (f T).2) : SOK n (on2 S i j f).2 := sk_onH O fun T _ _ => sk_ite (fun _ => h T) O.set
theorem sk_onW {i j m : Int} {f : XTw → Int × XSt} (O : SOK n S) (h : ∀ T, SOK n (f T).2) : SOK n (onW S i j m f).2 := sk_onH O fun T _ _ => sk_ite (fun _ => sk_ite (fun _ => h T) O.set) O.set
theorem sk_onB {seed k : Int} {r : Int × XSt} (O : SOK n S) (h : SOK n r.2) : SOK n (onB seed k r S).2 := sk_ite (fun _ => h) O.set
theorem SOK.act {T : XTw} {V : Int → Int} (O : SOK n S) (e : sT S = some T) (VO : VOK T n V) : SOK n (sAct S V) := by
  refine SOK.putU (T := T) (S := sPutV (sSet S 0 (-1)) V) (SOK.putV (T := T) (S := sSet S 0 (-1)) O.set e VO) e (fun W hW => ?_) ?_
  · rcases List.mem_append.mp hW with w | w
    · refine (O.1 T e).2.2.1 W ?_
      unfold cutU at w
      split at w
      · exact List.mem_of_mem_drop w
      · exact w
    · rw [List.mem_singleton.mp w]
      exact (O.1 T e).2.1
  · have := cutU_len O.2.1.1
    rw [List.length_append]
    show _ + 1 ≤ 16
    omega
theorem sk_feed {a b c d e : Int} (O : SOK n S) : SOK n (opFeed S a b c d e).2 := by
  unfold opFeed
  by_cases h : ((sTp S).length : Int) + 20 ≤ 1100
  · rw [if_pos h]
    obtain ⟨o1, o2, o3, o4, o5, o6⟩ := O
    refine ⟨o1, o2, ?_, o4, o5, o6⟩
    show (sTp S ++ fb5 a b c d e).length ≤ 1100
    rw [List.length_append]
    show _ + 20 ≤ 1100
    omega
  · rw [if_neg h]
    exact O
theorem sk_fault (O : SOK n S) : SOK n (opFault S).2 := O
theorem sk_where (O : SOK n S) : SOK n (opWhere S).2 := O
theorem sk_trouble (O : SOK n S) : SOK n (opTrouble S).2 := O
theorem sk_size {w : Int} (O : SOK n S) : SOK n (opSize S w).2 := O
theorem sk_house {i w : Int} (O : SOK n S) : SOK n (opHouse S i w).2 := by
  unfold opHouse
  repeat' split
  all_goals exact O.set
theorem sk_open {i w : Int} (O : SOK n S) : SOK n (opOpen S i w).2 := by
  unfold opOpen
  repeat' split
  all_goals exact O.set
theorem sk_street {i w : Int} (O : SOK n S) : SOK n (opStreet S i w).2 := by
  unfold opStreet
  repeat' split
  all_goals exact O.set
theorem sk_person {i w : Int} (O : SOK n S) : SOK n (opPerson S i w).2 := by
  unfold opPerson
  repeat' split
  all_goals exact O.set
theorem sk_candle {i : Int} (O : SOK n S) : SOK n (opCandle S i).2 := sk_onH O fun _ _ _ => sk_ok O
theorem sk_candleAt {i w : Int} (O : SOK n S) : SOK n (opCandleAt S i w).2 := by
  unfold opCandleAt
  repeat' split
  all_goals exact O.set
theorem sk_mutual (O : SOK n S) : SOK n (opMutual S).2 := by
  unfold opMutual
  repeat' split
  all_goals exact O.set
theorem sk_judge (O : SOK n S) : SOK n (opJudge S).2 := sk_onT O fun _ _ => sk_ok O
theorem sk_way {i j m : Int} (O : SOK n S) : SOK n (opWay S i j m).2 := sk_onW O fun _ => sk_ok O
theorem sk_wayAt {i j m k : Int} (O : SOK n S) : SOK n (opWayAt S i j m k).2 := by
  refine sk_onW O fun _ => ?_
  repeat' split
  all_goals exact O.set
theorem sk_saves {i j m : Int} (O : SOK n S) : SOK n (opSaves S i j m).2 := sk_onW O fun _ => sk_ok O
theorem sk_farthest {i m : Int} (O : SOK n S) : SOK n (opFarthest S i m).2 := sk_onH O fun _ _ _ => sk_ite (fun _ => sk_ok O) (sk_no O)
theorem sk_homeIn {p : Int} (O : SOK n S) : SOK n (opHomeIn S p).2 := sk_onP O fun _ _ _ => sk_ok O
theorem sk_fits (O : SOK n S) : SOK n (opFits S).2 := sk_onT O fun _ _ => sk_ok O
theorem sk_could {i : Int} (O : SOK n S) : SOK n (opCould S i).2 := sk_onH O fun _ _ _ => sk_ok O
theorem sk_surely {i : Int} (O : SOK n S) : SOK n (opSurely S i).2 := sk_onH O fun _ _ _ => sk_ok O
theorem sk_firstOf {i : Int} (O : SOK n S) : SOK n (opFirstOf S i).2 := sk_onH O fun _ _ _ => sk_ok O
theorem sk_ask (O : SOK n S) : SOK n (opAsk S).2 := sk_onT O fun _ _ => sk_ok O
theorem sk_askLeaves (O : SOK n S) : SOK n (opAskLeaves S).2 := sk_onT O fun _ _ => sk_ok O
theorem sk_owes {i l : Int} (O : SOK n S) : SOK n (opOwes S i l).2 := sk_onH O fun _ _ _ => sk_ok O
theorem sk_net {i l : Int} (O : SOK n S) : SOK n (opNet S i l).2 := by
  unfold opNet
  repeat' split
  all_goals exact O.set
theorem sk_debtor (O : SOK n S) : SOK n (opDebtor S).2 := sk_onT O fun _ _ => sk_ok O
theorem sk_paired (O : SOK n S) : SOK n (opPaired S).2 := sk_onT O fun _ _ => sk_ok O
theorem sk_fewest (O : SOK n S) : SOK n (opFewest S).2 := sk_onT O fun _ _ => sk_ok O
theorem sk_exchangeAt {i : Int} (O : SOK n S) : SOK n (opExchangeAt S i).2 := sk_onT O fun _ _ => sk_ite (fun _ => sk_ok O) (sk_no O)
theorem sk_stands {i : Int} (O : SOK n S) : SOK n (opStands S i).2 := sk_onT O fun _ _ => sk_ite (fun _ => sk_ok O) (sk_no O)
theorem sk_gain {i a j b o : Int} (O : SOK n S) : SOK n (opGain S i a j b o).2 := sk_onH O fun _ _ _ => sk_ite (fun _ => sk_ite (fun _ => sk_ok O) (sk_no O)) (sk_no O)
theorem sk_rests {i j : Int} (O : SOK n S) : SOK n (opRests S i j).2 := sk_on2 O fun _ => sk_ok O
theorem sk_rest {i j : Int} (O : SOK n S) : SOK n (opRest S i j).2 := sk_on2 O fun _ => sk_ok O
theorem sk_builders {a b : Int} (O : SOK n S) : SOK n (opBuilders S a b).2 := sk_onT O fun _ _ => sk_onB O (sk_ok O)
theorem sk_builtOf {i a b : Int} (O : SOK n S) : SOK n (opBuiltOf S i a b).2 := sk_onH O fun _ _ _ => sk_onB O (sk_ok O)
theorem sk_exchange {i j : Int} (O : SOK n S) : SOK n (opExchange S i j).2 := by
  unfold opExchange
  cases e : sT S with
  | none => exact O.set
  | some T => exact sk_ite (fun c => sk_ite (fun x => O.act e ((O.1 T e).2.1.swpd (O.1 T e).1.2.2.1.2 c.1 c.2.1 x)) O.set) O.set
theorem sk_shut {i b : Int} (O : SOK n S) : SOK n (opShut S i b).2 := by
  unfold opShut
  cases e : sT S with
  | none => exact O.set
  | some T => exact sk_ite (fun c => sk_ite (fun x => O.set) (O.act e ((O.1 T e).2.1.shut ⟨by have := (O.1 T e).1.2.2.1; omega, (O.1 T e).1.2.2.1.2⟩ c))) O.set
theorem sk_waits {p m : Int} (O : SOK n S) (h : n ≤ 63) : SOK (n + 1) (opWaits S p m).2 := by
  have O1 := O.mono (show n ≤ n + 1 by omega) (by omega)
  refine sk_onP O1 fun T e c => sk_ite (fun x => ?_) O1.set
  obtain ⟨TO, VO, -⟩ := O.1 T e
  have w := VO.2.2.2.2 p c.1 c.2
  exact O1.act e (VO.go ⟨by have := TO.2.2.1; omega, TO.2.2.1.2⟩ TO.2.2.2.1.2 c w.1 (by omega) O.2.2.2.2.2.1)
theorem sk_go {p g : Int} (O : SOK n S) (h : n ≤ 63) : SOK (n + 1) (opGo S p g).2 := by
  have O1 := O.mono (show n ≤ n + 1 by omega) (by omega)
  refine sk_onP O1 fun T e c => sk_ite (fun g0 => sk_ite (fun _ => O1.set) ?_) O1.set
  obtain ⟨TO, VO, -⟩ := O.1 T e
  have w := VO.2.2.2.2 p c.1 c.2
  have a := (ariv_go (V := sV S) (p := p) (g := g) TO w.1 g0).2
  exact O1.act e (VO.go ⟨by have := TO.2.2.1; omega, TO.2.2.1.2⟩ TO.2.2.2.1.2 c g0 (by omega) O.2.2.2.2.2.1)
theorem SOK.some {V : Int → Int} (O : SOK n S) (h : V ∈ sU S ∨ V ∈ sM S) : ∃ T, sT S = some T ∧ VOK T n V := by
  cases e : sT S with
  | none =>
    have := O.2.2.2.2.1 e
    rw [this.1, this.2] at h
    simp at h
  | some T =>
    refine ⟨T, rfl, ?_⟩
    rcases h with h | h
    · exact (O.1 T e).2.2.1 V h
    · exact (O.1 T e).2.2.2 V h
theorem sk_undo (O : SOK n S) : SOK n (opUndo S).2 := by
  unfold opUndo
  cases e : (sU S).getLast? with
  | none => exact O.set
  | some V =>
    obtain ⟨T, eT, VO⟩ := O.some (Or.inl (List.mem_of_getLast? e))
    refine SOK.back (T := T) (S := sSet S 0 (-1)) O.set eT VO (fun W hW => (O.1 T eT).2.2.1 W (List.dropLast_subset _ hW)) ?_
    have := O.2.1.1
    rw [List.length_dropLast]
    omega
theorem sk_mark (O : SOK n S) : SOK n (opMark S).2 := sk_onT O fun T e => by
  by_cases c : (sM S).length = 3
  · rw [if_pos c]
    exact O.set
  · rw [if_neg c]
    exact SOK.mark (S := sSet S 0 (-1)) O.set e c
theorem sk_back {k : Int} (O : SOK n S) : SOK n (opBack S k).2 := by
  unfold opBack
  split
  · exact O.set
  · next V e =>
    split at e
    · obtain ⟨T, eT, VO⟩ := O.some (Or.inr (List.mem_of_getElem? e))
      exact SOK.back (T := T) (S := sSet S 0 (-1)) O.set eT VO (fun W hW => by cases hW) (by decide)
    · cases e
end
theorem lAll_ok {tp : List Int} {n : Int} : ∀ (k : Nat) (P : PT) (l : LTk) (q : PT × LTk), lAll tp n k P l = .inl q → PI P (le_ l) → LOK n l → PI q.1 (le_ q.2)
  | 0, P, l, q, h, I, L => by cases h; exact I
  | k + 1, P, l, q, h, I, L => by
    unfold lAll at h
    cases e : lLine tp n P l with
    | inr f =>
      rw [e] at h
      cases h
    | inl w =>
      rw [e] at h
      obtain ⟨-, I2, L2, -⟩ := lLine_ok e I L
      have h : (if lk w.2 = 59 then lAll tp n k w.1 (ga tp n w.2) else .inl w : Re (PT × LTk)) = .inl q := h
      split at h
      · have ad := ga_adv (tp := tp) L2
        exact lAll_ok k _ _ q h (I2.mono ad.2) ad.1
      · cases h
        exact I2
theorem rTown_ok {tp : List Int} {n : Int} {T : XTw} (h : rTown tp n = .inl T) (n0 : 0 ≤ n) : TOK T := by
  unfold rTown at h
  cases e : lAll tp n (n.toNat + 2) pt0 (nxt tp n 0) with
  | inr f =>
    rw [e] at h
    cases h
  | inl q =>
    rw [e] at h
    have h : (if lk q.2 ≠ 0 then .inr (1, la q.2) else if tnh (pT q.1) < 2 then .inr (6, la q.2) else .inl (pT q.1) : Re XTw) = .inl T := h
    have L := nxt_ok (tp := tp) (n := n) (e := 0) ⟨Int.le_refl _, n0⟩
    have I := lAll_ok _ _ _ q e (PI.first (by have := L.1.1; omega)) L.1
    split at h
    · cases h
    · split at h
      · cases h
      · cases h
        exact I.ok (by omega)
theorem V0_ok {T : XTw} {n : Int} (O : TOK T) (n0 : 0 ≤ n) : VOK T n (V0 T) := by
  have hn := O.2.2.1
  have hp := O.2.2.2.1
  have v : ∀ i : Int, 0 ≤ i → i < tnh T → V0 T i = thv T 3 i := fun i i0 i1 => by
    unfold V0
    rw [if_pos (by omega), if_pos i1]
  have v7 : V0 T 7 = 0 := by
    unfold V0
    rw [if_neg (by omega), if_pos rfl]
  refine ⟨fun i i0 i1 => ?_, fun i j i0 i1 j0 j1 => ?_, fun i i0 i1 => ?_, ?_, fun q q0 q1 => ⟨?_, ?_⟩⟩
  · rw [v i i0 i1]
    exact (O.2.2.2.2.1 i i0 i1).2.2.2.1
  · rw [v i i0 i1, v j j0 j1]
    exact O.2.2.2.2.2.1 i j i0 i1 j0 j1
  · unfold V0
    rw [if_pos i1, if_neg (by omega)]
  · rw [v7]
    refine ⟨by decide, by decide, fun i i0 i1 => ?_⟩
    have key : ∀ k : Fin 7, ¬ xbit 0 (k.val : Int) := by decide
    have := key ⟨i.toNat, by omega⟩
    rwa [show (((⟨i.toNat, by omega⟩ : Fin 7).val : Nat) : Int) = i from Int.toNat_of_nonneg (by omega)] at this
  · have e : V0 T (8 + q) = thv T 8 q := by
      unfold V0
      rw [if_neg (by omega), if_neg (by omega), if_pos (by omega), show 8 + q - 8 = q by omega]
    rw [e]
    exact (O.2.2.2.2.2.2.2.2.1 q q0 q1).2
  · have e : V0 T (12 + q) = 0 := by
      unfold V0
      rw [if_neg (by omega), if_neg (by omega), if_neg (by omega)]
    rw [e]
    omega
theorem sk_town {n k : Int} {S : XSt} (O : SOK n S) : SOK n (opTown S k).2 := by
  unfold opTown
  refine sk_ite (fun c => ?_) O.set
  have n0 := O.2.2.2.2.2
  cases e : rTown (sTp S) k with
  | inr f =>
    obtain ⟨o1, o2, o3, o4, o5, o6⟩ := O
    exact ⟨o1, o2, Nat.zero_le _, fun w => absurd rfl w, o5, o6⟩
  | inl T =>
    have TO := rTown_ok e c.1
    show SOK n (some T, V0 T, [], [], (0, -1, 0), [])
    refine ⟨fun T' e' => ?_, ⟨Nat.zero_le _, Nat.zero_le _⟩, Nat.zero_le _, fun _ => rfl, fun _ => ⟨rfl, rfl⟩, n0⟩
    cases e'
    exact ⟨TO, V0_ok TO n0.1, (fun V (hV : V ∈ ([] : List (Int → Int))) => by cases hV), (fun V (hV : V ∈ ([] : List (Int → Int))) => by cases hV)⟩
