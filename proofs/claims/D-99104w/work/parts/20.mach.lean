/-! THE MINI-MACHINE: ints are Int in range, a reference is an Int (0 null, n + 1 the cell n), the heap is maps: constants, types, fields, elements, next reference, slots -/
set_option maxRecDepth 100000
abbrev XV : Type := Int ⊕ Int ⊕ Int
abbrev XT : Type := Bool × Nat × Option Int
abbrev XL : Type := List (Option XV)
abbrev XS : Type := List XV
abbrev XH : Type := (Nat → Int) × (Int → Option XT) × (Int → Nat → Int) × (Int → Int → Int) × Int × Int
def xcs (h : XH) : Nat → Int := h.1
def xty (h : XH) : Int → Option XT := h.2.1
def xfl (h : XH) : Int → Nat → Int := h.2.2.1
def xar (h : XH) : Int → Int → Int := h.2.2.2.1
def xsz (h : XH) : Int := h.2.2.2.2.1
def xsl (h : XH) : Int := h.2.2.2.2.2
def xputf (h : XH) (a : Int) (f : Nat) (z : Int) : XH := (h.1, h.2.1, fun a' f' => if a' = a ∧ f' = f then z else h.2.2.1 a' f', h.2.2.2)
def xputa (h : XH) (a i z : Int) : XH := (h.1, h.2.1, h.2.2.1, fun a' i' => if a' = a ∧ i' = i then z else h.2.2.2.1 a' i', h.2.2.2.2)
def xnewo (h : XH) (c n : Nat) : XH := (h.1, fun a => if a = xsz h then some (true, c, none) else h.2.1 a, fun a f => if a = xsz h then 0 else h.2.2.1 a f, h.2.2.2.1, xsz h + 1, xsl h + n)
def xnewa (h : XH) (e : Nat) (n : Int) : XH := (h.1, fun a => if a = xsz h then some (true, e, some n) else h.2.1 a, h.2.2.1, fun a i => if a = xsz h then 0 else h.2.2.2.1 a i, xsz h + 1, xsl h + n)
def xcopy (h : XH) (s sp d dp n : Int) : XH := (h.1, h.2.1, h.2.2.1, fun a i => if a = d ∧ dp ≤ i ∧ i < dp + n then h.2.2.2.1 s (sp + (i - dp)) else h.2.2.2.1 a i, h.2.2.2.2)
/-- two's complement on Int -/
def xw32 (z : Int) : Int := (Int32.ofInt z).toInt
def xw8 (z : Int) : Int := (Int8.ofInt z).toInt
def xand (a b : Int) : Int := (Int32.ofInt a &&& Int32.ofInt b).toInt
def xor_ (a b : Int) : Int := (Int32.ofInt a ||| Int32.ofInt b).toInt
def xxor (a b : Int) : Int := (Int32.ofInt a ^^^ Int32.ofInt b).toInt
def xushr (a s : Int) : Int := ((Int32.ofInt a).toUInt32 >>> ((Int32.ofInt s).toUInt32 &&& Int32.toUInt32 31)).toInt32.toInt
def xcmp (a b : Int) : Int := if b < a then 1 else if a = b then 0 else -1
def xsw : List (Int × Nat) → Nat → Int → Nat
  | [], d, _ => d
  | (k, t) :: l, d, z => if z = k then t else xsw l d z
abbrev XA0 : Type := XL → XS → XH → Option (Nat × XL × XS × XH)
abbrev XA1 : Type := XL → XS → XH → Option (Prop × Nat × XL × XS × XH)
abbrev XB : Type := XS → Option (Prop × Nat × Nat × XS)
abbrev XK : Type := Nat × Nat × List (Option Nat × Nat)
abbrev XR : Type := XS → Option (Prop × Option XV)
abbrev XI : Type := XA0 ⊕ XA1 ⊕ XB ⊕ XK ⊕ XR ⊕ Unit
/-- lists by places -/
def xnth {α : Type} (d : α) : List α → Nat → α
  | [], _ => d
  | a :: _, 0 => a
  | _ :: l, n + 1 => xnth d l n
def xget : XL → Nat → Option XV
  | [], _ => none
  | a :: _, 0 => a
  | _ :: l, n + 1 => xget l n
def xlong : Option XV → Bool
  | some (.inr (.inl _)) => true
  | _ => false
/-- a value of one word is stored at i -/
def xset : XL → Nat → XV → Option XL
  | [], _, _ => none
  | _ :: l, 0, v => some (some v :: l)
  | a :: l, n + 1, v => match Nat.beq n 0 && xlong a with
    | true => none
    | false => match xset l n v with
      | some l' => some (a :: l')
      | none => none
/-- a long is stored at i, i + 1 -/
def xset2 : XL → Nat → Int → Option XL
  | [], _, _ => none
  | _ :: [], 0, _ => none
  | _ :: _ :: l, 0, z => some (some (.inr (.inl z)) :: none :: l)
  | a :: l, n + 1, z => match Nat.beq n 0 && xlong a with
    | true => none
    | false => match xset2 l n z with
      | some l' => some (a :: l')
      | none => none
def xnones : Nat → (XL → Option XL) → Option XL
  | 0, K => K []
  | n + 1, K => xnones n (fun l => K (none :: l))
/-- a method's first locals -/
def xent : Nat → XS → (XL → Option XL) → Option XL
  | n, [], K => xnones n K
  | n + 2, .inr (.inl z) :: r, K => xent n r (fun l => K (some (.inr (.inl z)) :: none :: l))
  | _, .inr (.inl _) :: _, _ => none
  | n + 1, v :: r, K => xent n r (fun l => K (some v :: l))
  | 0, _ :: _, _ => none
def xpop : Nat → XS → XS → Option (XS × XS)
  | 0, st, acc => some (acc, st)
  | n + 1, v :: st, acc => xpop n st (v :: acc)
  | _ + 1, [], _ => none
def xc1 : XV → Bool
  | .inr (.inl _) => false
  | _ => true
/-- constants, locals, stack -/
def xaI (k : Int) (np : Nat) : XA0 := fun ls st h => some (np, ls, .inl k :: st, h)
def xaL (k : Int) (np : Nat) : XA0 := fun ls st h => some (np, ls, .inr (.inl k) :: st, h)
def xaNull (np : Nat) : XA0 := fun ls st h => some (np, ls, .inr (.inr 0) :: st, h)
def xaCst (k np : Nat) : XA0 := fun ls st h => some (np, ls, .inr (.inr (xcs h k)) :: st, h)
def xaGo (np : Nat) : XA0 := fun ls st h => some (np, ls, st, h)
def xaLdI (i np : Nat) : XA0 := fun ls st h => match xget ls i with
  | some (.inl z) => some (np, ls, .inl z :: st, h)
  | _ => none
def xaLdJ (i np : Nat) : XA0 := fun ls st h => match xget ls i with
  | some (.inr (.inl z)) => some (np, ls, .inr (.inl z) :: st, h)
  | _ => none
def xaLdA (i np : Nat) : XA0 := fun ls st h => match xget ls i with
  | some (.inr (.inr z)) => some (np, ls, .inr (.inr z) :: st, h)
  | _ => none
def xaStI (i np : Nat) : XA0 := fun ls st h => match st with
  | .inl z :: r => match xset ls i (.inl z) with
    | some l' => some (np, l', r, h)
    | none => none
  | _ => none
def xaStA (i np : Nat) : XA0 := fun ls st h => match st with
  | .inr (.inr z) :: r => match xset ls i (.inr (.inr z)) with
    | some l' => some (np, l', r, h)
    | none => none
  | _ => none
def xaStJ (i np : Nat) : XA0 := fun ls st h => match st with
  | .inr (.inl z) :: r => match xset2 ls i z with
    | some l' => some (np, l', r, h)
    | none => none
  | _ => none
def xaDup (np : Nat) : XA0 := fun ls st h => match st with
  | v :: r => match xc1 v with
    | true => some (np, ls, v :: v :: r, h)
    | false => none
  | _ => none
def xaDup2 (np : Nat) : XA0 := fun ls st h => match st with
  | v :: w :: r => match xc1 v && xc1 w with
    | true => some (np, ls, v :: w :: v :: w :: r, h)
    | false => none
  | _ => none
def xaPop (np : Nat) : XA0 := fun ls st h => match st with
  | v :: r => match xc1 v with
    | true => some (np, ls, r, h)
    | false => none
  | _ => none
def xaInc (i : Nat) (k : Int) (np : Nat) : XA1 := fun ls st h => match xget ls i with
  | some (.inl z) => match xset ls i (.inl (z + k)) with
    | some l' => some (-2147483648 ≤ z + k ∧ z + k < 2147483648, np, l', st, h)
    | none => none
  | _ => none
/-- arithmetic -/
def xaAdd (np : Nat) : XA1 := fun ls st h => match st with
  | .inl b :: .inl a :: r => some (-2147483648 ≤ a + b ∧ a + b < 2147483648, np, ls, .inl (a + b) :: r, h)
  | _ => none
def xaSub (np : Nat) : XA1 := fun ls st h => match st with
  | .inl b :: .inl a :: r => some (-2147483648 ≤ a - b ∧ a - b < 2147483648, np, ls, .inl (a - b) :: r, h)
  | _ => none
def xaMul (np : Nat) : XA1 := fun ls st h => match st with
  | .inl b :: .inl a :: r => some (-2147483648 ≤ a * b ∧ a * b < 2147483648, np, ls, .inl (a * b) :: r, h)
  | _ => none
def xaAddW (np : Nat) : XA0 := fun ls st h => match st with
  | .inl b :: .inl a :: r => some (np, ls, .inl (xw32 (a + b)) :: r, h)
  | _ => none
def xaMulW (np : Nat) : XA0 := fun ls st h => match st with
  | .inl b :: .inl a :: r => some (np, ls, .inl (xw32 (a * b)) :: r, h)
  | _ => none
def xaDiv (np : Nat) : XA1 := fun ls st h => match st with
  | .inl b :: .inl a :: r => some (¬ b = 0 ∧ (0 ≤ a ∨ 0 ≤ b), np, ls, .inl (a.tdiv b) :: r, h)
  | _ => none
def xaRem (np : Nat) : XA1 := fun ls st h => match st with
  | .inl b :: .inl a :: r => some (¬ b = 0 ∧ (0 ≤ a ∨ 0 ≤ b), np, ls, .inl (a.tmod b) :: r, h)
  | _ => none
def xaNeg (np : Nat) : XA1 := fun ls st h => match st with
  | .inl a :: r => some (-2147483648 < a, np, ls, .inl (-a) :: r, h)
  | _ => none
def xaAnd (np : Nat) : XA0 := fun ls st h => match st with
  | .inl b :: .inl a :: r => some (np, ls, .inl (xand a b) :: r, h)
  | _ => none
def xaOr (np : Nat) : XA0 := fun ls st h => match st with
  | .inl b :: .inl a :: r => some (np, ls, .inl (xor_ a b) :: r, h)
  | _ => none
def xaXor (np : Nat) : XA0 := fun ls st h => match st with
  | .inl b :: .inl a :: r => some (np, ls, .inl (xxor a b) :: r, h)
  | _ => none
def xaShl (np : Nat) : XA1 := fun ls st h => match st with
  | .inl b :: .inl a :: r => some (0 ≤ b ∧ b < 32 ∧ -2147483648 ≤ a * 2 ^ b.toNat ∧ a * 2 ^ b.toNat < 2147483648, np, ls, .inl (a * 2 ^ b.toNat) :: r, h)
  | _ => none
def xaShr (np : Nat) : XA1 := fun ls st h => match st with
  | .inl b :: .inl a :: r => some (0 ≤ b ∧ b < 32, np, ls, .inl (a / 2 ^ b.toNat) :: r, h)
  | _ => none
def xaUshr (np : Nat) : XA0 := fun ls st h => match st with
  | .inl b :: .inl a :: r => some (np, ls, .inl (xushr a b) :: r, h)
  | _ => none
def xaI2L (np : Nat) : XA0 := fun ls st h => match st with
  | .inl a :: r => some (np, ls, .inr (.inl a) :: r, h)
  | _ => none
def xaL2I (np : Nat) : XA1 := fun ls st h => match st with
  | .inr (.inl a) :: r => some (-2147483648 ≤ a ∧ a < 2147483648, np, ls, .inl a :: r, h)
  | _ => none
def xaI2B (np : Nat) : XA0 := fun ls st h => match st with
  | .inl a :: r => some (np, ls, .inl (xw8 a) :: r, h)
  | _ => none
def xaI2C (np : Nat) : XA1 := fun ls st h => match st with
  | .inl a :: r => some (0 ≤ a ∧ a < 65536, np, ls, .inl a :: r, h)
  | _ => none
def xaLAdd (np : Nat) : XA1 := fun ls st h => match st with
  | .inr (.inl b) :: .inr (.inl a) :: r => some (-9223372036854775808 ≤ a + b ∧ a + b < 9223372036854775808, np, ls, .inr (.inl (a + b)) :: r, h)
  | _ => none
def xaLSub (np : Nat) : XA1 := fun ls st h => match st with
  | .inr (.inl b) :: .inr (.inl a) :: r => some (-9223372036854775808 ≤ a - b ∧ a - b < 9223372036854775808, np, ls, .inr (.inl (a - b)) :: r, h)
  | _ => none
def xaLMul (np : Nat) : XA1 := fun ls st h => match st with
  | .inr (.inl b) :: .inr (.inl a) :: r => some (-9223372036854775808 ≤ a * b ∧ a * b < 9223372036854775808, np, ls, .inr (.inl (a * b)) :: r, h)
  | _ => none
def xaLDiv (np : Nat) : XA1 := fun ls st h => match st with
  | .inr (.inl b) :: .inr (.inl a) :: r => some (¬ b = 0 ∧ (0 ≤ a ∨ 0 ≤ b), np, ls, .inr (.inl (a.tdiv b)) :: r, h)
  | _ => none
def xaLRem (np : Nat) : XA1 := fun ls st h => match st with
  | .inr (.inl b) :: .inr (.inl a) :: r => some (¬ b = 0 ∧ (0 ≤ a ∨ 0 ≤ b), np, ls, .inr (.inl (a.tmod b)) :: r, h)
  | _ => none
def xaLNeg (np : Nat) : XA1 := fun ls st h => match st with
  | .inr (.inl a) :: r => some (-9223372036854775808 < a, np, ls, .inr (.inl (-a)) :: r, h)
  | _ => none
def xaLCmp (np : Nat) : XA0 := fun ls st h => match st with
  | .inr (.inl b) :: .inr (.inl a) :: r => some (np, ls, .inl (xcmp a b) :: r, h)
  | _ => none
def xaSw (cs : List (Int × Nat)) (d : Nat) : XA0 := fun ls st h => match st with
  | .inl a :: r => some (xsw cs d a, ls, r, h)
  | _ => none
/-! classes: 0 WrongRoom, 1 WrongRoom$Reader, 2 WrongRoom$Refused, 3 WrongRoom$Rooms, 4 WrongRoom$Ways, 5 WrongRoom$ByStreets, 6 WrongRoom$ByAll, 7 WrongRoom$Rows, 8 WrongRoom$Exchanges, 9 WrongRoomModel, 10 WrongRoom$Town, 11 WrongRoom$House, 12 WrongRoom$Person, 13 WrongRoom$Sign, 14 WrongRoom$Noise, 15 WrongRoomModel$Town, 16 java/lang/String, 17 java/util/NoSuchElementException -/
/-! fields: 0 WrongRoom.tape, 1 WrongRoom.taped, 2 WrongRoom.reader, 3 WrongRoom.town, 4 WrongRoom.trouble, 5 WrongRoom.fault, 6 WrongRoom.where, 7 WrongRoom.markMany, 8 WrongRoom.undoMany, 9 WrongRoom.rooms, 10 WrongRoom.was, 11 WrongRoom.trial, 12 WrongRoom.ways, 13 WrongRoom.byStreets, 14 WrongRoom.byAll, 15 WrongRoom.rows, 16 WrongRoom.exchanges, 17 WrongRoom.undone, 18 WrongRoom.marks, 19 WrongRoom.reached, 20 WrongRoom.firstRest, 21 WrongRoom$Reader.wrong, 22 WrongRoom$Reader.text, 23 WrongRoom$Reader.letters, 24 WrongRoom$Reader.size, 25 WrongRoom$Reader.end, 26 WrongRoom$Reader.token, 27 WrongRoom$Reader.at, 28 WrongRoom$Reader.whole, 29 WrongRoom$Reader.word, 30 WrongRoom$Reader.town, 31 WrongRoom$Reader.told, 32 java/lang/Throwable.cause, 33 java/lang/Throwable.stackTrace, 34 java/lang/Throwable.suppressedExceptions, 35 java/lang/Throwable.detailMessage, 36 java/lang/Throwable.backtrace, 37 java/lang/Throwable.depth, 38 WrongRoom$Refused.fault, 39 WrongRoom$Refused.place, 40 WrongRoom$Rooms.wrong, 41 WrongRoom$Rooms.at, 42 WrongRoom$Rooms.minutes, 43 WrongRoom$Rooms.town, 44 WrongRoom$Rooms.shut, 45 WrongRoom$Ways.row, 46 WrongRoom$Ways.best, 47 WrongRoom$Ways.town, 48 WrongRoom$Ways.rooms, 49 WrongRoom$Ways.by, 50 WrongRoom$Ways.goal, 51 WrongRoom$Ways.soonest, 52 WrongRoom$Ways.many, 53 WrongRoom$Rows.row, 54 WrongRoom$Rows.first, 55 WrongRoom$Rows.could, 56 WrongRoom$Rows.often, 57 WrongRoom$Rows.town, 58 WrongRoom$Rows.rooms, 59 WrongRoom$Rows.many, 60 WrongRoom$Exchanges.rooms, 61 WrongRoom$Exchanges.row, 62 WrongRoom$Exchanges.best, 63 WrongRoom$Exchanges.town, 64 WrongRoom$Exchanges.paired, 65 WrongRoom$Exchanges.many, 66 WrongRoomModel.thrown, 67 WrongRoomModel.trouble, 68 WrongRoomModel.where, 69 WrongRoomModel.town, 70 WrongRoomModel.read, 71 WrongRoomModel.tape, 72 WrongRoomModel.taped, 73 WrongRoomModel.size, 74 WrongRoomModel.spot, 75 WrongRoomModel.sort, 76 WrongRoomModel.place, 77 WrongRoomModel.number, 78 WrongRoomModel.fault, 79 WrongRoomModel.wrongAt, 80 WrongRoomModel.word, 81 WrongRoomModel.v, 82 WrongRoomModel.past, 83 WrongRoomModel.kept, 84 WrongRoomModel.acts, 85 WrongRoomModel.marks, 86 WrongRoomModel.x, 87 WrongRoomModel.row, 88 WrongRoomModel.best, 89 WrongRoomModel.bestSize, 90 WrongRoomModel.bestTime, 91 WrongRoomModel.timeAt, 92 WrongRoomModel.asked, 93 WrongRoomModel.of, 94 WrongRoomModel.firstRow, 95 WrongRoomModel.counts, 96 WrongRoomModel.unknown, 97 WrongRoomModel.rows, 98 WrongRoomModel.askLeft, 99 WrongRoomModel.pair, 100 WrongRoomModel.bestPair, 101 WrongRoomModel.bestPaired, 102 WrongRoomModel.bestMany, 103 WrongRoomModel.far, 104 WrongRoomModel.seedNow, 105 WrongRoom$Town.houses, 106 WrongRoom$Town.people, 107 WrongRoom$Town.notices, 108 WrongRoom$Town.streets, 109 WrongRoom$Town.door, 110 WrongRoom$Town.like, 111 WrongRoom$Town.houseMany, 112 WrongRoom$Town.hoursMany, 113 WrongRoom$Town.streetMany, 114 WrongRoom$Town.personMany, 115 WrongRoom$Town.signMany, 116 WrongRoom$Town.noiseMany, 117 WrongRoom$Named.name, 118 WrongRoom$Named.number, 119 WrongRoom$House.smell, 120 WrongRoom$House.rooms, 121 WrongRoom$House.rent, 122 WrongRoom$House.bill, 123 WrongRoom$House.from, 124 WrongRoom$House.to, 125 WrongRoom$House.wrong, 126 WrongRoom$House.hours, 127 WrongRoom$House.lent, 128 WrongRoom$Person.home, 129 WrongRoom$Person.at, 130 WrongRoom$Notice.house, 131 WrongRoom$Sign.smell, 132 WrongRoom$Noise.rooms, 133 WrongRoomModel$Town.door, 134 WrongRoomModel$Town.like, 135 WrongRoomModel$Town.houses, 136 WrongRoomModel$Town.known, 137 WrongRoomModel$Town.hours, 138 WrongRoomModel$Town.streets, 139 WrongRoomModel$Town.people, 140 WrongRoomModel$Town.signs, 141 WrongRoomModel$Town.noises, 142 WrongRoomModel$Town.names, 143 WrongRoomModel$Town.rooms, 144 WrongRoomModel$Town.rent, 145 WrongRoomModel$Town.bill, 146 WrongRoomModel$Town.wrong, 147 WrongRoomModel$Town.opens, 148 WrongRoomModel$Town.shuts, 149 WrongRoomModel$Town.smell, 150 WrongRoomModel$Town.minutes, 151 WrongRoomModel$Town.home, 152 WrongRoomModel$Town.at, 153 WrongRoomModel$Town.signOf, 154 WrongRoomModel$Town.noiseOf, 155 WrongRoomModel$Town.noise, 156 WrongRoomModel$Town.sign, 157 WrongRoomModel$Town.name, 158 WrongRoomModel$Town.nameSort, 159 WrongRoomModel$Town.numberOf, 160 java/lang/String.value, 161 java/lang/String.coder, 162 java/lang/String.hash, 163 java/lang/String.hashIsZero -/
def xcfT : List (List Nat) := [[0, 1, 2, 3, 4, 5, 6, 7, 8, 9, 10, 11, 12, 13, 14, 15, 16, 17, 18, 19, 20], [21, 22, 23, 24, 25, 26, 27, 28, 29, 30, 31], [32, 33, 34, 35, 36, 37, 38, 39], [40, 41, 42, 43, 44], [45, 46, 47, 48, 49, 50, 51, 52], [], [], [53, 54, 55, 56, 57, 58, 59], [60, 61, 62, 63, 64, 65], [66, 67, 68, 69, 70, 71, 72, 73, 74, 75, 76, 77, 78, 79, 80, 81, 82, 83, 84, 85, 86, 87, 88, 89, 90, 91, 92, 93, 94, 95, 96, 97, 98, 99, 100, 101, 102, 103, 104], [105, 106, 107, 108, 109, 110, 111, 112, 113, 114, 115, 116], [117, 118, 119, 120, 121, 122, 123, 124, 125, 126, 127], [117, 118, 128, 129], [130, 131], [130, 132], [133, 134, 135, 136, 137, 138, 139, 140, 141, 142, 143, 144, 145, 146, 147, 148, 149, 150, 151, 152, 153, 154, 155, 156, 157, 158, 159], [160, 161, 162, 163], []]
def xfkT : List Nat := [4, 0, 4, 4, 0, 0, 0, 0, 0, 4, 4, 4, 4, 4, 4, 4, 4, 4, 4, 4, 0, 4, 4, 4, 0, 0, 0, 0, 0, 4, 4, 1, 4, 4, 4, 4, 4, 0, 0, 0, 4, 4, 4, 4, 0, 4, 4, 4, 4, 4, 0, 0, 0, 4, 4, 4, 4, 4, 4, 0, 4, 4, 4, 4, 0, 0, 0, 0, 0, 4, 4, 4, 0, 0, 0, 0, 0, 0, 0, 0, 3, 4, 4, 4, 0, 0, 4, 4, 4, 0, 0, 4, 4, 4, 4, 4, 0, 0, 0, 4, 4, 0, 0, 4, 0, 4, 4, 4, 4, 0, 0, 0, 0, 0, 0, 0, 0, 4, 0, 4, 0, 0, 0, 0, 0, 0, 1, 1, 0, 0, 0, 4, 0, 0, 0, 0, 0, 0, 0, 0, 0, 0, 0, 4, 4, 4, 4, 4, 4, 4, 4, 4, 4, 4, 4, 4, 4, 4, 4, 4, 4, 2, 0, 1]
def xasgT : List (List Nat) := [[], [], [], [], [3], [11], [12], [13, 14]]
/-- a class's fields, whether a field is a class's -/
def xcf (c : Nat) : List Nat := xnth [] xcfT c
def xhas (c f : Nat) : Bool := (xcf c).any (fun g => Nat.beq g f)
/-- which objects an array of references of code e takes -/
def xasg (e c : Nat) : Bool := (xnth [] xasgT e).any (fun g => Nat.beq g c)
def xIsF (h : XH) (a : Int) (f : Nat) : Prop := ∃ (w : Bool) (c : Nat), xty h a = some (w, c, none) ∧ xhas c f = true
def xIsW (h : XH) (a : Int) (f : Nat) : Prop := ∃ c : Nat, xty h a = some (true, c, none) ∧ xhas c f = true
def xIsA (h : XH) (a : Int) (e : Nat) (i : Int) : Prop := ∃ (w : Bool) (n : Int), xty h a = some (w, e, some n) ∧ 0 ≤ i ∧ i < n
def xIsB (h : XH) (a : Int) (e : Nat) (i : Int) : Prop := ∃ n : Int, xty h a = some (true, e, some n) ∧ 0 ≤ i ∧ i < n
def xIsR (h : XH) (a : Int) (i : Int) : Prop := ∃ (w : Bool) (e : Nat) (n : Int), xty h a = some (w, e, some n) ∧ 4 ≤ e ∧ 0 ≤ i ∧ i < n
def xIsS (h : XH) (a i v : Int) : Prop := ∃ (e : Nat) (n : Int) (w : Bool) (c : Nat), xty h a = some (true, e, some n) ∧ 0 ≤ i ∧ i < n ∧ xty h v = some (w, c, none) ∧ xasg e c = true
def xlenT : Option XT → Int
  | some (_, _, some n) => n
  | _ => 0
def xinsT (L : List Nat) : Option XT → Int
  | some (_, c, none) => match L.any (fun g => Nat.beq g c) with
    | true => 1
    | false => 0
  | _ => 0
/-- fields -/
def xaGetI (f np : Nat) : XA1 := fun ls st h => match st with
  | .inr (.inr a) :: r => some (xIsF h a f, np, ls, .inl (xfl h a f) :: r, h)
  | _ => none
def xaGetJ (f np : Nat) : XA1 := fun ls st h => match st with
  | .inr (.inr a) :: r => some (xIsF h a f, np, ls, .inr (.inl (xfl h a f)) :: r, h)
  | _ => none
def xaGetA (f np : Nat) : XA1 := fun ls st h => match st with
  | .inr (.inr a) :: r => some (xIsF h a f, np, ls, .inr (.inr (xfl h a f)) :: r, h)
  | _ => none
def xaPutI (f np : Nat) : XA1 := fun ls st h => match st with
  | .inl z :: .inr (.inr a) :: r => some (xIsW h a f, np, ls, r, xputf h a f z)
  | _ => none
def xaPutZ (f np : Nat) : XA1 := fun ls st h => match st with
  | .inl z :: .inr (.inr a) :: r => some (xIsW h a f ∧ 0 ≤ z ∧ z ≤ 1, np, ls, r, xputf h a f z)
  | _ => none
def xaPutB (f np : Nat) : XA1 := fun ls st h => match st with
  | .inl z :: .inr (.inr a) :: r => some (xIsW h a f ∧ -128 ≤ z ∧ z ≤ 127, np, ls, r, xputf h a f z)
  | _ => none
def xaPutJ (f np : Nat) : XA1 := fun ls st h => match st with
  | .inr (.inl z) :: .inr (.inr a) :: r => some (xIsW h a f, np, ls, r, xputf h a f z)
  | _ => none
def xaPutA (f np : Nat) : XA1 := fun ls st h => match st with
  | .inr (.inr z) :: .inr (.inr a) :: r => some (xIsW h a f, np, ls, r, xputf h a f z)
  | _ => none
/-- arrays: 0 int, 1 byte, 2 char, 3 long, from 4 on references -/
def xaALdI (e np : Nat) : XA1 := fun ls st h => match st with
  | .inl i :: .inr (.inr a) :: r => some (xIsA h a e i, np, ls, .inl (xar h a i) :: r, h)
  | _ => none
def xaALdJ (np : Nat) : XA1 := fun ls st h => match st with
  | .inl i :: .inr (.inr a) :: r => some (xIsA h a 3 i, np, ls, .inr (.inl (xar h a i)) :: r, h)
  | _ => none
def xaALdA (np : Nat) : XA1 := fun ls st h => match st with
  | .inl i :: .inr (.inr a) :: r => some (xIsR h a i, np, ls, .inr (.inr (xar h a i)) :: r, h)
  | _ => none
def xaAStI (np : Nat) : XA1 := fun ls st h => match st with
  | .inl z :: .inl i :: .inr (.inr a) :: r => some (xIsB h a 0 i, np, ls, r, xputa h a i z)
  | _ => none
def xaAStB (np : Nat) : XA1 := fun ls st h => match st with
  | .inl z :: .inl i :: .inr (.inr a) :: r => some (xIsB h a 1 i ∧ -128 ≤ z ∧ z ≤ 127, np, ls, r, xputa h a i z)
  | _ => none
def xaAStC (np : Nat) : XA1 := fun ls st h => match st with
  | .inl z :: .inl i :: .inr (.inr a) :: r => some (xIsB h a 2 i ∧ 0 ≤ z ∧ z ≤ 65535, np, ls, r, xputa h a i z)
  | _ => none
def xaAStJ (np : Nat) : XA1 := fun ls st h => match st with
  | .inr (.inl z) :: .inl i :: .inr (.inr a) :: r => some (xIsB h a 3 i, np, ls, r, xputa h a i z)
  | _ => none
def xaAStA (np : Nat) : XA1 := fun ls st h => match st with
  | .inr (.inr v) :: .inl i :: .inr (.inr a) :: r => some (xIsS h a i v, np, ls, r, xputa h a i v)
  | _ => none
def xaALen (np : Nat) : XA1 := fun ls st h => match st with
  | .inr (.inr a) :: r => some (∃ (w : Bool) (e : Nat) (n : Int), xty h a = some (w, e, some n), np, ls, .inl (xlenT (xty h a)) :: r, h)
  | _ => none
def xaNewA (e np : Nat) : XA1 := fun ls st h => match st with
  | .inl n :: r => some (0 ≤ n ∧ n ≤ 65536, np, ls, .inr (.inr (xsz h)) :: r, xnewa h e n)
  | _ => none
def xaNewO (c n np : Nat) : XA0 := fun ls st h => some (np, ls, .inr (.inr (xsz h)) :: st, xnewo h c n)
def xaInst (yes no : List Nat) (np : Nat) : XA1 := fun ls st h => match st with
  | .inr (.inr a) :: r => some (a = 0 ∨ (∃ (w : Bool) (c : Nat), xty h a = some (w, c, none) ∧ (yes ++ no).any (fun g => Nat.beq g c) = true), np, ls, .inl (xinsT yes (xty h a)) :: r, h)
  | _ => none
def xaCast (yes : List Nat) (np : Nat) : XA1 := fun ls st h => match st with
  | .inr (.inr a) :: r => some (∃ (w : Bool) (c : Nat), xty h a = some (w, c, none) ∧ yes.any (fun g => Nat.beq g c) = true, np, ls, .inr (.inr a) :: r, h)
  | _ => none
def xaCastA (e np : Nat) : XA1 := fun ls st h => match st with
  | .inr (.inr a) :: r => some (∃ n : Int, xty h a = some (true, e, some n), np, ls, .inr (.inr a) :: r, h)
  | _ => none
def xwords (st : XS) : Nat := match st with
  | [] => 0
  | v :: r => (match xc1 v with
    | true => 1
    | false => 2) + xwords r
def xaNewE (c n np : Nat) : XA0 := fun ls st h => match Nat.ble (xwords st) 8 with
  | true => some (np, ls, .inr (.inr (xsz h)) :: st, xnewo h c n)
  | false => none
/-- java.lang.Math -/
def xaMMax (np : Nat) : XA0 := fun ls st h => match st with
  | .inl b :: .inl a :: r => match Nat.ble (xwords r) 8 with
    | true => some (np, ls, .inl (if a < b then b else a) :: r, h)
    | false => none
  | _ => none
def xaMMin (np : Nat) : XA0 := fun ls st h => match st with
  | .inl b :: .inl a :: r => match Nat.ble (xwords r) 8 with
    | true => some (np, ls, .inl (if b < a then b else a) :: r, h)
    | false => none
  | _ => none
def xaMAbs (np : Nat) : XA1 := fun ls st h => match st with
  | .inl a :: r => match Nat.ble (xwords r) 8 with
    | true => some (-2147483648 < a, np, ls, .inl (if 0 ≤ a then a else -a) :: r, h)
    | false => none
  | _ => none
def xaMAbsJ (np : Nat) : XA1 := fun ls st h => match st with
  | .inr (.inl a) :: r => match Nat.ble (xwords r) 8 with
    | true => some (-9223372036854775808 < a, np, ls, .inr (.inl (if 0 < a then a else -a)) :: r, h)
    | false => none
  | _ => none
def xaCopy (np : Nat) : XA1 := fun ls st h => match st with
  | .inl n :: .inl dp :: .inr (.inr d) :: .inl sp :: .inr (.inr s) :: r => match Nat.ble (xwords r) 8 with
    | true => some (∃ (w : Bool) (n0 n1 : Int), xty h s = some (w, 0, some n0) ∧ xty h d = some (true, 0, some n1) ∧ 0 ≤ sp ∧ 0 ≤ dp ∧ 0 ≤ n ∧ sp + n ≤ n0 ∧ dp + n ≤ n1, np, ls, r, xcopy h s sp d dp n)
    | false => none
  | _ => none
/-- Object.<init> -/
def xaObj (np : Nat) : XA1 := fun ls st h => match st with
  | .inr (.inr a) :: r => match Nat.ble (xwords r) 8 with
    | true => some (∃ (w : Bool) (c : Nat), xty h a = some (w, c, none), np, ls, r, h)
    | false => none
  | _ => none
/-- branches -/
def xbEq (t f : Nat) : XB := fun st => match st with
  | .inl a :: r => some (a = 0, t, f, r)
  | _ => none
def xbNe (t f : Nat) : XB := fun st => match st with
  | .inl a :: r => some (¬ a = 0, t, f, r)
  | _ => none
def xbLt (t f : Nat) : XB := fun st => match st with
  | .inl a :: r => some (a < 0, t, f, r)
  | _ => none
def xbGe (t f : Nat) : XB := fun st => match st with
  | .inl a :: r => some (0 ≤ a, t, f, r)
  | _ => none
def xbGt (t f : Nat) : XB := fun st => match st with
  | .inl a :: r => some (0 < a, t, f, r)
  | _ => none
def xbLe (t f : Nat) : XB := fun st => match st with
  | .inl a :: r => some (a ≤ 0, t, f, r)
  | _ => none
def xcEq (t f : Nat) : XB := fun st => match st with
  | .inl b :: .inl a :: r => some (a = b, t, f, r)
  | _ => none
def xcNe (t f : Nat) : XB := fun st => match st with
  | .inl b :: .inl a :: r => some (¬ a = b, t, f, r)
  | _ => none
def xcLt (t f : Nat) : XB := fun st => match st with
  | .inl b :: .inl a :: r => some (a < b, t, f, r)
  | _ => none
def xcGe (t f : Nat) : XB := fun st => match st with
  | .inl b :: .inl a :: r => some (b ≤ a, t, f, r)
  | _ => none
def xcGt (t f : Nat) : XB := fun st => match st with
  | .inl b :: .inl a :: r => some (b < a, t, f, r)
  | _ => none
def xcLe (t f : Nat) : XB := fun st => match st with
  | .inl b :: .inl a :: r => some (a ≤ b, t, f, r)
  | _ => none
def xbNull (t f : Nat) : XB := fun st => match st with
  | .inr (.inr a) :: r => some (a = 0, t, f, r)
  | _ => none
def xbNonN (t f : Nat) : XB := fun st => match st with
  | .inr (.inr a) :: r => some (¬ a = 0, t, f, r)
  | _ => none
def xaEq (t f : Nat) : XB := fun st => match st with
  | .inr (.inr b) :: .inr (.inr a) :: r => some (a = b, t, f, r)
  | _ => none
def xaNe (t f : Nat) : XB := fun st => match st with
  | .inr (.inr b) :: .inr (.inr a) :: r => some (¬ a = b, t, f, r)
  | _ => none
/-- ends -/
def xrI : XR := fun st => match st with
  | .inl z :: [] => some (True, some (.inl z))
  | _ => none
def xrZ : XR := fun st => match st with
  | .inl z :: [] => some (0 ≤ z ∧ z ≤ 1, some (.inl z))
  | _ => none
def xrB : XR := fun st => match st with
  | .inl z :: [] => some (-128 ≤ z ∧ z ≤ 127, some (.inl z))
  | _ => none
def xrC : XR := fun st => match st with
  | .inl z :: [] => some (0 ≤ z ∧ z ≤ 65535, some (.inl z))
  | _ => none
def xrJ : XR := fun st => match st with
  | .inr (.inl z) :: [] => some (True, some (.inr (.inl z)))
  | _ => none
def xrA : XR := fun st => match st with
  | .inr (.inr z) :: [] => some (True, some (.inr (.inr z)))
  | _ => none
def xrV : XR := fun st => match st with
  | [] => some (True, none)
  | _ => none
