/-! WALKS, 65: what a reading does, step by step -/
set_option maxRecDepth 100000
set_option maxHeartbeats 4000000
/-- the constant words: 0..20 WrongRoom's, 21..40 the model's -/
def cws : List (List Int) := [[], [116, 111, 119, 110], [104, 111, 117, 115, 101], [119, 114, 111, 110, 103], [111, 112, 101, 110], [115, 116, 114, 101, 101, 116], [112, 101, 114, 115, 111, 110], [115, 105, 103, 110], [110, 111, 105, 115, 101], [100, 111, 111, 114], [108, 105, 107, 101], [114, 111, 111, 109, 115], [114, 101, 110, 116], [98, 105, 108, 108], [115, 109, 101, 108, 108, 115], [111, 102], [102, 114, 111, 109], [116, 111], [109, 105, 110, 117, 116, 101, 115], [104, 111, 109, 101], [97, 116], [116, 111, 119, 110], [104, 111, 117, 115, 101], [119, 114, 111, 110, 103], [111, 112, 101, 110], [115, 116, 114, 101, 101, 116], [112, 101, 114, 115, 111, 110], [115, 105, 103, 110], [110, 111, 105, 115, 101], [100, 111, 111, 114], [108, 105, 107, 101], [114, 111, 111, 109, 115], [114, 101, 110, 116], [98, 105, 108, 108], [115, 109, 101, 108, 108, 115], [111, 102], [102, 114, 111, 109], [116, 111], [109, 105, 110, 117, 116, 101, 115], [104, 111, 109, 101], [97, 116]]
def cw (k : Nat) : List Int := cws.getD k []
/-- the place of a word among the eight that begin a line -/
def kwi (w : List Int) : Int := if w = cw 1 then 0 else if w = cw 2 then 1 else if w = cw 3 then 2 else if w = cw 4 then 3 else if w = cw 5 then 4 else if w = cw 6 then 5 else if w = cw 7 then 6 else if w = cw 8 then 7 else -1
abbrev Re (α : Type) : Type := α ⊕ (Int × Int)
def rb {α β : Type} (r : Re α) (k : α → Re β) : Re β := match r with
  | .inl a => k a
  | .inr f => .inr f
abbrev PT : Type := XTw × List (List Int) × List (List Int) × List (List Int × Int × Int)
def pT (P : PT) : XTw := P.1
def pH (P : PT) : List (List Int) := P.2.1
def pP (P : PT) : List (List Int) := P.2.2.1
def pN (P : PT) : List (List Int × Int × Int) := P.2.2.2
section
variable (tp : List Int) (n : Int)
def ga (l : LTk) : LTk := nxt tp n (le_ l)
def rMust (w : List Int) (l : LTk) : Re LTk := if lk l = 2 ∧ lw l = w then .inl (ga tp n l) else .inr (1, la l)
def rNum (lo hi : Int) (l : LTk) : Re (Int × LTk) := if lk l ≠ 3 then .inr (1, la l) else if lo ≤ lv l ∧ lv l ≤ hi then .inl (lv l, ga tp n l) else .inr (4, la l)
def rAft (w : List Int) (lo hi : Int) (l : LTk) : Re (Int × LTk) := rb (rMust tp n w l) (rNum tp n lo hi)
def rWord (l : LTk) : Re (List Int × LTk) := if lk l = 2 then .inl (lw l, ga tp n l) else .inr (1, la l)
abbrev isNm (l : LTk) : Prop := lk l = 2 ∧ kwi (lw l) = -1
def pFind (P : PT) (w : List Int) : Option (List Int × Int × Int) := (pN P).find? fun q => decide (q.1 = w)
def rFresh (P : PT) (l : LTk) : Re (List Int × LTk) := if isNm l then (if pFind P (lw l) = none then .inl (lw l, ga tp n l) else .inr (3, la l)) else .inr (1, la l)
/-- a house that is told; it isn't gone over -/
def rHere (P : PT) (l : LTk) : Re (Int × LTk) := if isNm l then (match pFind P (lw l) with
  | some (_, 0, i) => .inl (i, l)
  | _ => .inr (2, la l)) else .inr (1, la l)
def rHouse (P : PT) (l : LTk) : Re (Int × LTk) := rb (rHere P l) fun q => .inl (q.1, ga tp n q.2)
def rBegins (can : Prop) [Decidable can] (T : XTw) (l : LTk) : Re LTk := if can then (if tsc T 0 = 0 then .inr (6, la l) else .inl (ga tp n l)) else .inr (5, la l)
def scp (T : XTw) (k : Nat) (v : Int) : XTw := (fun q => if q = k then v else T.1 q, T.2)
def hvp (T : XTw) (k : Nat) (i v : Int) : XTw := (T.1, fun q j => if q = k ∧ j = i then v else T.2.1 q j, T.2.2)
def stp_ (T : XTw) (i j v : Int) : XTw := (T.1, T.2.1, fun a b => if a = i ∧ b = j then v else T.2.2.1 a b, T.2.2.2)
def ntp (T : XTw) (q : Int × Int × Int) : XTw := (T.1, T.2.1, T.2.2.1, T.2.2.2 ++ [q])
def lTown (P : PT) (l : LTk) : Re (PT × LTk) := if tsc (pT P) 0 = 0 then
  rb (rAft tp n (cw 9) 1 9 (ga tp n l)) fun a => rb (rAft tp n (cw 10) 0 9 a.2) fun b => .inl ((scp (scp (pT P) 0 a.1) 1 b.1, P.2), b.2) else .inr (3, la l)
def addH (P : PT) (w : List Int) (r t b : Int) (sm : List Int) : PT := (scp (hvp (hvp (hvp (hvp (hvp (hvp (hvp (hvp (pT P) 0 (tnh (pT P)) r) 1 (tnh (pT P)) t) 2 (tnh (pT P)) b) 3 (tnh (pT P)) (-2)) 4 (tnh (pT P)) 0) 5 (tnh (pT P)) 23) 6 (tnh (pT P)) (xpack sm)) 9 (tnh (pT P)) 0) 2 (tnh (pT P) + 1), pH P ++ [w], pP P, pN P ++ [(w, 0, tnh (pT P))])
def lHouse (P : PT) (l : LTk) : Re (PT × LTk) := rb (rBegins tp n (tnh (pT P) < 7) (pT P) l) fun l1 => rb (rFresh tp n P l1) fun w => rb (rAft tp n (cw 11) 1 9 w.2) fun r => rb (rAft tp n (cw 12) 1 99 r.2) fun t => rb (rAft tp n (cw 13) 0 999 t.2) fun b => rb (rMust tp n (cw 14) b.2) fun l6 => rb (rWord tp n l6) fun sm => .inl (addH P w.1 r.1 t.1 b.1 sm.1, sm.2)
/-- whether a house is already somebody's wrong room's -/
def lentT (T : XTw) (g : Int) : Prop := ∃ i : Int, 0 ≤ i ∧ i < tnh T ∧ thv T 3 i = g
def lentB (T : XTw) (g : Int) : Bool := (nds (tnh T)).any fun i => decide (thv T 3 i = g)
theorem lentB_iff {T : XTw} {g : Int} : lentB T g = true ↔ lentT T g := by
  unfold lentB lentT
  rw [List.any_eq_true]
  constructor
  · rintro ⟨i, hi, h⟩
    exact ⟨i, (nds_mem.mp hi).1, (nds_mem.mp hi).2, of_decide_eq_true h⟩
  · rintro ⟨i, i0, i1, h⟩
    exact ⟨i, nds_mem.mpr ⟨i0, i1⟩, decide_eq_true h⟩
def lWrong (P : PT) (l : LTk) : Re (PT × LTk) := rb (rBegins tp n True (pT P) l) fun l1 => rb (rHere P l1) fun h => if thv (pT P) 3 h.1 = -2 then
  rb (rMust tp n (cw 15) (ga tp n h.2)) fun l3 => rb (rHere P l3) fun g => if g.1 = h.1 ∨ lentB (pT P) g.1 = true then .inr (3, la g.2) else .inl ((hvp (pT P) 3 h.1 g.1, P.2), ga tp n g.2) else .inr (3, la h.2)
def lOpen (P : PT) (l : LTk) : Re (PT × LTk) := rb (rBegins tp n True (pT P) l) fun l1 => rb (rHere P l1) fun h => if thv (pT P) 9 h.1 = 0 then
  rb (rAft tp n (cw 16) 0 23 (ga tp n h.2)) fun a => rb (rAft tp n (cw 17) a.1 23 a.2) fun b => .inl ((scp (hvp (hvp (hvp (pT P) 4 h.1 a.1) 5 h.1 b.1) 9 h.1 1) 3 (tsc (pT P) 3 + 1), P.2), b.2) else .inr (3, la h.2)
def lStreet (P : PT) (l : LTk) : Re (PT × LTk) := rb (rBegins tp n (tsc (pT P) 4 < 10) (pT P) l) fun l1 => rb (rHouse tp n P l1) fun h => rb (rHere P h.2) fun g => if g.1 = h.1 ∨ 0 < tst (pT P) h.1 g.1 then .inr (3, la g.2) else
  rb (rAft tp n (cw 18) 1 99 (ga tp n g.2)) fun m => .inl ((scp (stp_ (stp_ (pT P) h.1 g.1 m.1) g.1 h.1 m.1) 4 (tsc (pT P) 4 + 1), P.2), m.2)
def lPerson (P : PT) (l : LTk) : Re (PT × LTk) := rb (rBegins tp n (tpm (pT P) < 4) (pT P) l) fun l1 => rb (rFresh tp n P l1) fun w => rb (rMust tp n (cw 19) w.2) fun l3 => rb (rHouse tp n P l3) fun h => rb (rMust tp n (cw 20) h.2) fun l5 => rb (rHouse tp n P l5) fun a => .inl ((scp (hvp (hvp (pT P) 7 (tpm (pT P)) h.1) 8 (tpm (pT P)) a.1) 5 (tpm (pT P) + 1), pH P, pP P ++ [w.1], pN P ++ [(w.1, 1, tpm (pT P))]), a.2)
def lSign (P : PT) (l : LTk) : Re (PT × LTk) := rb (rBegins tp n (tsc (pT P) 6 < 8) (pT P) l) fun l1 => rb (rHouse tp n P l1) fun h => rb (rWord tp n h.2) fun w => .inl ((scp (ntp (pT P) (h.1, 0, xpack w.1)) 6 (tsc (pT P) 6 + 1), P.2), w.2)
def lNoise (P : PT) (l : LTk) : Re (PT × LTk) := rb (rBegins tp n (tsc (pT P) 7 < 4) (pT P) l) fun l1 => rb (rHouse tp n P l1) fun h => rb (rNum tp n 1 9 h.2) fun r => .inl ((scp (ntp (pT P) (h.1, 1, r.1)) 7 (tsc (pT P) 7 + 1), P.2), r.2)
def lLine (P : PT) (l : LTk) : Re (PT × LTk) := if lk l ≠ 2 then .inr (1, la l) else if lw l = cw 1 then lTown tp n P l else if lw l = cw 2 then lHouse tp n P l else if lw l = cw 3 then lWrong tp n P l else if lw l = cw 4 then lOpen tp n P l else if lw l = cw 5 then lStreet tp n P l else if lw l = cw 6 then lPerson tp n P l else if lw l = cw 7 then lSign tp n P l else if lw l = cw 8 then lNoise tp n P l else .inr (1, la l)
def lAll : Nat → PT → LTk → Re (PT × LTk)
  | 0, P, l => .inl (P, l)
  | k + 1, P, l => rb (lLine tp n P l) fun q => if lk q.2 = 59 then lAll k q.1 (ga tp n q.2) else .inl q
def pt0 : PT := ((fun _ => 0, fun _ _ => 0, fun _ _ => 0, []), [], [], [])
def rTown : Re XTw := rb (lAll tp n (n.toNat + 2) pt0 (nxt tp n 0)) fun q => if lk q.2 ≠ 0 then .inr (1, la q.2) else if tnh (pT q.1) < 2 then .inr (6, la q.2) else .inl (pT q.1)
end
