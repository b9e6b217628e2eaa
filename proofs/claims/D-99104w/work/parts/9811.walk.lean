/-! WALKS, 50: rows of exchanges, by numbers -/
set_option maxRecDepth 100000
set_option maxHeartbeats 4000000
/-- a row of exchanges is run -/
def runE (n : Int) : List Int → (Int → Int) → Option (Int → Int)
  | [], ρ => some ρ
  | c :: cs, ρ => if exOK n ρ c then runE n cs (swp ρ (c / 7) (c % 7)) else none
/-- the number N, written with f digits to the base 49 -/
def tupN : Nat → Int → List Int
  | 0, _ => []
  | f + 1, N => N / (49 ^ f : Nat) :: tupN f (N % (49 ^ f : Nat))
theorem tupN_len : ∀ (f : Nat) (N : Int), (tupN f N).length = f
  | 0, _ => rfl
  | f + 1, N => by show (tupN f _).length + 1 = _; rw [tupN_len f]
def exr (n : Int) (f : Nat) (ρ : Int → Int) (N : Int) : Option (List Int × (Int → Int)) := (runE n (tupN f N) ρ).map fun w => (tupN f N, w)
theorem nds_add (a b : Nat) : nds ((a + b : Nat) : Int) = nds (a : Int) ++ (nds (b : Int)).map fun r => (a : Int) + r := by
  induction b with
  | zero => show nds (a : Int) = nds (a : Int) ++ []; rw [List.append_nil]
  | succ b ih =>
    rw [show ((a + (b + 1) : Nat) : Int) = ((a + b : Nat) : Int) + 1 by omega, nds_succ (by omega), ih, show ((b + 1 : Nat) : Int) = (b : Int) + 1 by omega, nds_succ (k := (b : Int)) (by omega), List.map_append, List.append_assoc]
    congr 2
theorem nds_mul (a b : Nat) : nds ((a * b : Nat) : Int) = (nds (a : Int)).flatMap fun c => (nds (b : Int)).map fun r => c * (b : Int) + r := by
  induction a with
  | zero => rw [Nat.zero_mul]; rfl
  | succ a ih =>
    rw [Nat.succ_mul, nds_add, ih, show ((a + 1 : Nat) : Int) = (a : Int) + 1 by omega, nds_succ (k := (a : Int)) (by omega), List.flatMap_append, List.flatMap_singleton]
    congr 2
theorem filterMap_flat {α β γ : Type} {F : α → List β} {g : β → Option γ} {l : List α} : (l.flatMap F).filterMap g = l.flatMap fun a => (F a).filterMap g := by
  induction l with
  | nil => rfl
  | cons a l ih => rw [List.flatMap_cons, List.filterMap_append, ih, List.flatMap_cons]
theorem flatMap_congr' {α β : Type} {F G : α → List β} {l : List α} (h : ∀ a ∈ l, F a = G a) : l.flatMap F = l.flatMap G := by
  induction l with
  | nil => rfl
  | cons a l ih => rw [List.flatMap_cons, List.flatMap_cons, h a (List.mem_cons_self ..), ih fun b hb => h b (List.mem_cons_of_mem _ hb)]
theorem filterMap_congr' {α β : Type} {F G : α → Option β} {l : List α} (h : ∀ a ∈ l, F a = G a) : l.filterMap F = l.filterMap G := by
  induction l with
  | nil => rfl
  | cons a l ih => rw [List.filterMap_cons, List.filterMap_cons, h a (List.mem_cons_self ..), ih fun b hb => h b (List.mem_cons_of_mem _ hb)]
theorem exs_num {n : Int} : ∀ (f : Nat) (ρ : Int → Int), exs n f ρ = (nds ((49 ^ f : Nat) : Int)).filterMap (exr n f ρ)
  | 0, ρ => rfl
  | f + 1, ρ => by
    rw [show (49 : Nat) ^ (f + 1) = 49 * 49 ^ f by rw [Nat.pow_succ, Nat.mul_comm], nds_mul, filterMap_flat, exs_st]
    have h49 : 0 < (49 : Nat) ^ f := Nat.pow_pos (by decide)
    refine flatMap_congr' fun c hc => ?_
    rw [List.filterMap_map]
    have e1 : ∀ r ∈ nds ((49 ^ f : Nat) : Int), (exr n (f + 1) ρ ∘ fun r => c * ((49 ^ f : Nat) : Int) + r) r = if exOK n ρ c then ((exr n f (swp ρ (c / 7) (c % 7)) r).map fun w => (c :: w.1, w.2)) else none := by
      intro r hr
      have hr := nds_mem.mp hr
      have d1 : (c * ((49 ^ f : Nat) : Int) + r) / ((49 ^ f : Nat) : Int) = c := by
        rw [Int.add_comm, Int.add_mul_ediv_right _ _ (by omega), Int.ediv_eq_zero_of_lt hr.1 hr.2, Int.zero_add]
      have d2 : (c * ((49 ^ f : Nat) : Int) + r) % ((49 ^ f : Nat) : Int) = r := by
        rw [Int.add_comm, Int.add_mul_emod_self_right, Int.emod_eq_of_lt hr.1 hr.2]
      show (runE n (tupN (f + 1) _) ρ).map _ = _
      unfold tupN
      rw [d1, d2]
      unfold runE
      by_cases ok : exOK n ρ c
      · rw [if_pos ok, if_pos ok]
        unfold exr
        rw [Option.map_map]
        rfl
      · rw [if_neg ok, if_neg ok]
        rfl
    by_cases ok : exOK n ρ c
    · rw [show exk n f ρ c = _ from if_pos ok, exs_num f, List.map_filterMap]
      refine filterMap_congr' fun r hr => ?_
      exact ((e1 r hr).trans (if_pos ok)).symm
    · rw [show exk n f ρ c = _ from if_neg ok]
      refine (List.filterMap_eq_nil_iff.mpr fun r hr => ?_).symm
      exact (e1 r hr).trans (if_neg ok)
