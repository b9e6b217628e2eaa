/-! WALKS, 64: tokens -/
set_option maxRecDepth 100000
set_option maxHeartbeats 4000000
def sby (tp : List Int) (n k : Int) : Int := if k < n then tp.getD k.toNat 0 % 256 else -1
theorem sby_rg {tp : List Int} {n : Int} (k : Int) : -1 ≤ sby tp n k ∧ sby tp n k < 256 := by
  unfold sby
  split <;> omega
theorem sby_lt {tp : List Int} {n k : Int} (h : sby tp n k ≠ -1) : k < n := by
  unfold sby at h
  split at h
  · assumption
  · exact absurd rfl h
abbrev isSm (c : Int) : Prop := 97 ≤ c ∧ c ≤ 122
abbrev isDg (c : Int) : Prop := 48 ≤ c ∧ c ≤ 57
def runA (f : Int → Int) (p : Int → Bool) : Nat → Int → Int
  | 0, k => k
  | m + 1, k => if p (f k) = true then runA f p m (k + 1) else k
def runT (tp : List Int) (n : Int) (p : Int → Bool) (k : Int) : Int := runA (sby tp n) p (n - k).toNat k
theorem runA_spec {tp : List Int} {n : Int} {p : Int → Bool} (hp : p (-1) = false) : ∀ (m : Nat) (k : Int), m = (n - k).toNat → k ≤ runA (sby tp n) p m k ∧ (∀ j, k ≤ j → j < runA (sby tp n) p m k → p (sby tp n j) = true) ∧ p (sby tp n (runA (sby tp n) p m k)) = false ∧ (runA (sby tp n) p m k = k ∨ runA (sby tp n) p m k ≤ n)
  | 0, k, e => by
    refine ⟨Int.le_refl _, fun j h0 h1 => ?_, ?_, Or.inl rfl⟩
    · have h1 : j < k := h1
      omega
    · show p (sby tp n k) = false
      unfold sby
      rw [if_neg (by omega)]
      exact hp
  | m + 1, k, e => by
    unfold runA
    by_cases c : p (sby tp n k) = true
    · rw [if_pos c]
      obtain ⟨h1, h2, h3, h4⟩ := runA_spec (tp := tp) (n := n) hp m (k + 1) (by omega)
      refine ⟨by omega, fun j j0 j1 => ?_, h3, Or.inr ?_⟩
      · by_cases q : j = k
        · rw [q]
          exact c
        · exact h2 j (by omega) j1
      · rcases h4 with q | q
        · rw [q]
          omega
        · exact q
    · rw [if_neg c]
      exact ⟨Int.le_refl _, fun j h0 h1 => by omega, by simpa using c, Or.inl rfl⟩
theorem runT_spec {tp : List Int} {n : Int} {p : Int → Bool} (hp : p (-1) = false) (k : Int) : k ≤ runT tp n p k ∧ (∀ j, k ≤ j → j < runT tp n p k → p (sby tp n j) = true) ∧ p (sby tp n (runT tp n p k)) = false ∧ (runT tp n p k = k ∨ runT tp n p k ≤ n) := runA_spec hp _ k rfl
abbrev pBl : Int → Bool := fun c => decide (c = 32)
abbrev pSm : Int → Bool := fun c => decide (isSm c)
abbrev pDg : Int → Bool := fun c => decide (isDg c)
/-- a token: kind (0 end, 1 bad, 2 word, 3 whole, 59), where, where it ends, word, number -/
abbrev LTk : Type := Int × Int × Int × List Int × Int
def lk (l : LTk) : Int := l.1
def la (l : LTk) : Int := l.2.1
def le_ (l : LTk) : Int := l.2.2.1
def lw (l : LTk) : List Int := l.2.2.2.1
def lv (l : LTk) : Int := l.2.2.2.2
def seg (tp : List Int) (n k e : Int) : List Int := (nds (e - k)).map fun i => sby tp n (k + i)
def num1 (v c : Int) : Int := 10 * v + c - 48
def nxt (tp : List Int) (n e : Int) : LTk :=
  let k := runT tp n pBl e
  let c := sby tp n k
  if c = -1 then (0, k, k, [], 0)
  else if isSm c then (if runT tp n pSm k - k > 8 then (1, k, runT tp n pSm k, [], 0) else (2, k, runT tp n pSm k, seg tp n k (runT tp n pSm k), 0))
  else if isDg c then (if runT tp n pDg k - k > 3 then (1, k, runT tp n pDg k, [], 0) else (3, k, runT tp n pDg k, [], (seg tp n k (runT tp n pDg k)).foldl num1 0))
  else if c = 59 then (59, k, k + 1, [], 0) else (1, k, k + 1, [], 0)
theorem seg_len {tp : List Int} {n k e : Int} : (seg tp n k e).length = (e - k).toNat := by
  unfold seg
  rw [List.length_map, nds_len]
theorem seg_get {tp : List Int} {n k e : Int} {j : Nat} (h : (j : Int) < e - k) : (seg tp n k e).getD j 0 = sby tp n (k + j) := by
  have lt : j < (seg tp n k e).length := by rw [seg_len]; omega
  rw [show (seg tp n k e).getD j 0 = (seg tp n k e)[j] from (List.getElem_eq_getD 0).symm]
  refine (List.getElem_map (fun i => sby tp n (k + i))).trans ?_
  rw [nds_get]
theorem seg_succ {tp : List Int} {n k e : Int} (h : k ≤ e) : seg tp n k (e + 1) = seg tp n k e ++ [sby tp n e] := by
  unfold seg
  rw [show e + 1 - k = (e - k) + 1 by omega, nds_succ (by omega), List.map_append]
  show _ ++ [sby tp n (k + (e - k))] = _
  rw [show k + (e - k) = e by omega]
theorem seg_nil {tp : List Int} {n k : Int} : seg tp n k k = [] := by
  unfold seg
  rw [Int.sub_self]
  rfl
theorem seg_mem {tp : List Int} {n k e c : Int} (h : c ∈ seg tp n k e) : ∃ j, k ≤ j ∧ j < e ∧ c = sby tp n j := by
  unfold seg at h
  obtain ⟨i, hi, rfl⟩ := List.mem_map.mp h
  have := nds_mem.mp hi
  exact ⟨k + i, by omega, by omega, rfl⟩
/-- what holds of each token -/
def LOK (n : Int) (l : LTk) : Prop := (0 ≤ la l ∧ la l ≤ le_ l ∧ la l ≤ n ∧ le_ l ≤ n) ∧ (lk l = 0 ∨ lk l = 1 ∨ lk l = 2 ∨ lk l = 3 ∨ lk l = 59) ∧ (lk l ≠ 0 → la l < le_ l) ∧ (lk l = 2 → xword (lw l) ∧ ((lw l).length : Int) = le_ l - la l) ∧ (lk l = 3 → 0 ≤ lv l ∧ lv l ≤ 999)
theorem num_rg : ∀ (w : List Int) (v : Int), (∀ c ∈ w, isDg c) → 0 ≤ v → 0 ≤ w.foldl num1 v ∧ w.foldl num1 v < (v + 1) * 10 ^ w.length
  | [], v, _, h => ⟨h, by show v < (v + 1) * 1; omega⟩
  | c :: w, v, hc, h => by
    have h1 := hc c List.mem_cons_self
    have ih := num_rg w (10 * v + c - 48) (fun x hx => hc x (List.mem_cons_of_mem _ hx)) (by omega)
    refine ⟨ih.1, Int.lt_of_lt_of_le ih.2 ?_⟩
    have e : (v + 1) * 10 ^ (c :: w).length = 10 * (v + 1) * 10 ^ w.length := by
      rw [List.length_cons, Int.pow_succ, Int.mul_comm (10 ^ w.length) 10, ← Int.mul_assoc, Int.mul_comm (v + 1) 10]
    rw [e]
    exact Int.mul_le_mul_of_nonneg_right (by omega) (Int.pow_nonneg (by decide))
theorem nxt_ok {tp : List Int} {n e : Int} (e0 : 0 ≤ e ∧ e ≤ n) : LOK n (nxt tp n e) ∧ e ≤ la (nxt tp n e) := by
  obtain ⟨b1, b2, b3, b4⟩ := runT_spec (tp := tp) (n := n) (p := pBl) (by decide) e
  obtain ⟨s1, s2, s3, s4⟩ := runT_spec (tp := tp) (n := n) (p := pSm) (by decide) (runT tp n pBl e)
  obtain ⟨d1, d2, d3, d4⟩ := runT_spec (tp := tp) (n := n) (p := pDg) (by decide) (runT tp n pBl e)
  have rg := sby_rg (tp := tp) (n := n) (runT tp n pBl e)
  have kn : runT tp n pBl e ≤ n := by omega
  unfold nxt
  dsimp only
  generalize runT tp n pBl e = k at *
  by_cases c0 : sby tp n k = -1
  · rw [if_pos c0]
    exact ⟨⟨⟨by show 0 ≤ k; omega, Int.le_refl _, kn, kn⟩, Or.inl rfl, fun w => absurd rfl w, fun w => absurd (show (0 : Int) = 2 from w) (by decide), fun w => absurd (show (0 : Int) = 3 from w) (by decide)⟩, b1⟩
  · rw [if_neg c0]
    have kl := sby_lt c0
    by_cases c1 : isSm (sby tp n k)
    · rw [if_pos c1]
      have ne : k < runT tp n pSm k := by
        by_cases q : runT tp n pSm k = k
        · rw [q] at s3
          exact absurd c1 (by simpa using s3)
        · omega
      split
      · exact ⟨⟨⟨by show 0 ≤ k; omega, s1, kn, by show runT tp n pSm k ≤ n; omega⟩, Or.inr (Or.inl rfl), fun _ => ne, fun w => absurd (show (1 : Int) = 2 from w) (by decide), fun w => absurd (show (1 : Int) = 3 from w) (by decide)⟩, b1⟩
      · refine ⟨⟨⟨by show 0 ≤ k; omega, s1, kn, by show runT tp n pSm k ≤ n; omega⟩, Or.inr (Or.inr (Or.inl rfl)), fun _ => ne, fun _ => ⟨⟨?_, ?_, fun c hc => ?_⟩, ?_⟩, fun w => absurd (show (2 : Int) = 3 from w) (by decide)⟩, b1⟩
        · show 1 ≤ (seg tp n k (runT tp n pSm k)).length
          rw [seg_len]; omega
        · show (seg tp n k (runT tp n pSm k)).length ≤ 8
          rw [seg_len]; omega
        · obtain ⟨j, j0, j1, rfl⟩ := seg_mem (show c ∈ seg tp n k (runT tp n pSm k) from hc)
          simpa using s2 j j0 j1
        · show ((seg tp n k (runT tp n pSm k)).length : Int) = runT tp n pSm k - k
          rw [seg_len]; omega
    · rw [if_neg c1]
      by_cases c2 : isDg (sby tp n k)
      · rw [if_pos c2]
        have ne : k < runT tp n pDg k := by
          by_cases q : runT tp n pDg k = k
          · rw [q] at d3
            exact absurd c2 (by simpa using d3)
          · omega
        split
        · exact ⟨⟨⟨by show 0 ≤ k; omega, d1, kn, by show runT tp n pDg k ≤ n; omega⟩, Or.inr (Or.inl rfl), fun _ => ne, fun w => absurd (show (1 : Int) = 2 from w) (by decide), fun w => absurd (show (1 : Int) = 3 from w) (by decide)⟩, b1⟩
        · refine ⟨⟨⟨by show 0 ≤ k; omega, d1, kn, by show runT tp n pDg k ≤ n; omega⟩, Or.inr (Or.inr (Or.inr (Or.inl rfl))), fun _ => ne, fun w => absurd (show (3 : Int) = 2 from w) (by decide), fun _ => ?_⟩, b1⟩
          have r := num_rg (seg tp n k (runT tp n pDg k)) 0 (fun c hc => by
            obtain ⟨j, j0, j1, rfl⟩ := seg_mem hc
            simpa using d2 j j0 j1) (Int.le_refl _)
          rw [show ((0 : Int) + 1) * 10 ^ (seg tp n k (runT tp n pDg k)).length = 10 ^ (seg tp n k (runT tp n pDg k)).length from Int.one_mul _] at r
          have p : (10 : Nat) ^ (seg tp n k (runT tp n pDg k)).length ≤ 10 ^ 3 := Nat.pow_le_pow_right (by decide) (by rw [seg_len]; omega)
          have e1 : (10 : Int) ^ (seg tp n k (runT tp n pDg k)).length = ((10 ^ (seg tp n k (runT tp n pDg k)).length : Nat) : Int) := by rw [Int.natCast_pow]; rfl
          have e3 : (10 : Nat) ^ 3 = 1000 := rfl
          show 0 ≤ (seg tp n k (runT tp n pDg k)).foldl num1 0 ∧ (seg tp n k (runT tp n pDg k)).foldl num1 0 ≤ 999
          omega
      · rw [if_neg c2]
        split
        · exact ⟨⟨⟨by show 0 ≤ k; omega, by show k ≤ k + 1; omega, kn, by show k + 1 ≤ n; omega⟩, Or.inr (Or.inr (Or.inr (Or.inr rfl))), fun _ => by show k < k + 1; omega, fun w => absurd (show (59 : Int) = 2 from w) (by decide), fun w => absurd (show (59 : Int) = 3 from w) (by decide)⟩, b1⟩
        · exact ⟨⟨⟨by show 0 ≤ k; omega, by show k ≤ k + 1; omega, kn, by show k + 1 ≤ n; omega⟩, Or.inr (Or.inl rfl), fun _ => by show k < k + 1; omega, fun w => absurd (show (1 : Int) = 2 from w) (by decide), fun w => absurd (show (1 : Int) = 3 from w) (by decide)⟩, b1⟩
