set_option maxRecDepth 100000
def xfrT : List (String × String × String × Bool) := [("WrongRoom", "tape", "[B", true), ("WrongRoom", "taped", "I", false), ("WrongRoom", "reader", "LWrongRoom$Reader;", true), ("WrongRoom", "town", "LWrongRoom$Town;", false), ("WrongRoom", "trouble", "I", false), ("WrongRoom", "fault", "I", false), ("WrongRoom", "where", "I", false), ("WrongRoom", "markMany", "I", false), ("WrongRoom", "undoMany", "I", false), ("WrongRoom", "rooms", "LWrongRoom$Rooms;", true), ("WrongRoom", "was", "LWrongRoom$Rooms;", true), ("WrongRoom", "trial", "LWrongRoom$Rooms;", true), ("WrongRoom", "ways", "LWrongRoom$Ways;", true), ("WrongRoom", "byStreets", "LWrongRoom$Going;", true), ("WrongRoom", "byAll", "LWrongRoom$Going;", true), ("WrongRoom", "rows", "LWrongRoom$Rows;", true), ("WrongRoom", "exchanges", "LWrongRoom$Exchanges;", true), ("WrongRoom", "undone", "[LWrongRoom$Rooms;", true), ("WrongRoom", "marks", "[LWrongRoom$Rooms;", true), ("WrongRoom", "reached", "[I", true), ("WrongRoom", "firstRest", "I", false), ("WrongRoom$Reader", "wrong", "LWrongRoom$Refused;", true), ("WrongRoom$Reader", "text", "[B", true), ("WrongRoom$Reader", "letters", "[C", true), ("WrongRoom$Reader", "size", "I", false), ("WrongRoom$Reader", "end", "I", false), ("WrongRoom$Reader", "token", "I", false), ("WrongRoom$Reader", "at", "I", false), ("WrongRoom$Reader", "whole", "I", false), ("WrongRoom$Reader", "word", "Ljava/lang/String;", false), ("WrongRoom$Reader", "town", "LWrongRoom$Town;", false), ("WrongRoom$Reader", "told", "Z", false), ("java/lang/Throwable", "cause", "Ljava/lang/Throwable;", false), ("java/lang/Throwable", "stackTrace", "[Ljava/lang/StackTraceElement;", false), ("java/lang/Throwable", "suppressedExceptions", "Ljava/util/List;", false), ("java/lang/Throwable", "detailMessage", "Ljava/lang/String;", false), ("java/lang/Throwable", "backtrace", "Ljava/lang/Object;", false), ("java/lang/Throwable", "depth", "I", false), ("WrongRoom$Refused", "fault", "I", false), ("WrongRoom$Refused", "place", "I", false), ("WrongRoom$Rooms", "wrong", "[I", true), ("WrongRoom$Rooms", "at", "[I", true), ("WrongRoom$Rooms", "minutes", "[I", true), ("WrongRoom$Rooms", "town", "LWrongRoom$Town;", false), ("WrongRoom$Rooms", "shut", "I", false), ("WrongRoom$Ways", "row", "[I", true), ("WrongRoom$Ways", "best", "[I", true), ("WrongRoom$Ways", "town", "LWrongRoom$Town;", false), ("WrongRoom$Ways", "rooms", "LWrongRoom$Rooms;", false), ("WrongRoom$Ways", "by", "LWrongRoom$Going;", false), ("WrongRoom$Ways", "goal", "I", false), ("WrongRoom$Ways", "soonest", "I", false), ("WrongRoom$Ways", "many", "I", false), ("WrongRoom$Rows", "row", "[I", true), ("WrongRoom$Rows", "first", "[I", true), ("WrongRoom$Rows", "could", "[I", true), ("WrongRoom$Rows", "often", "[I", true), ("WrongRoom$Rows", "town", "LWrongRoom$Town;", false), ("WrongRoom$Rows", "rooms", "LWrongRoom$Rooms;", false), ("WrongRoom$Rows", "many", "I", false), ("WrongRoom$Exchanges", "rooms", "[LWrongRoom$Rooms;", true), ("WrongRoom$Exchanges", "row", "[I", true), ("WrongRoom$Exchanges", "best", "[I", true), ("WrongRoom$Exchanges", "town", "LWrongRoom$Town;", false), ("WrongRoom$Exchanges", "paired", "I", false), ("WrongRoom$Exchanges", "many", "I", false), ("WrongRoomModel", "thrown", "I", false), ("WrongRoomModel", "trouble", "I", false), ("WrongRoomModel", "where", "I", false), ("WrongRoomModel", "town", "LWrongRoomModel$Town;", false), ("WrongRoomModel", "read", "LWrongRoomModel$Town;", false), ("WrongRoomModel", "tape", "[B", true), ("WrongRoomModel", "taped", "I", false), ("WrongRoomModel", "size", "I", false), ("WrongRoomModel", "spot", "I", false), ("WrongRoomModel", "sort", "I", false), ("WrongRoomModel", "place", "I", false), ("WrongRoomModel", "number", "I", false), ("WrongRoomModel", "fault", "I", false), ("WrongRoomModel", "wrongAt", "I", false), ("WrongRoomModel", "word", "J", false), ("WrongRoomModel", "v", "[I", true), ("WrongRoomModel", "past", "[I", true), ("WrongRoomModel", "kept", "[I", true), ("WrongRoomModel", "acts", "I", false), ("WrongRoomModel", "marks", "I", false), ("WrongRoomModel", "x", "[I", true), ("WrongRoomModel", "row", "[I", true), ("WrongRoomModel", "best", "[I", true), ("WrongRoomModel", "bestSize", "I", false), ("WrongRoomModel", "bestTime", "I", false), ("WrongRoomModel", "timeAt", "[I", true), ("WrongRoomModel", "asked", "[I", true), ("WrongRoomModel", "of", "[I", true), ("WrongRoomModel", "firstRow", "[I", true), ("WrongRoomModel", "counts", "[I", true), ("WrongRoomModel", "unknown", "I", false), ("WrongRoomModel", "rows", "I", false), ("WrongRoomModel", "askLeft", "I", false), ("WrongRoomModel", "pair", "[I", true), ("WrongRoomModel", "bestPair", "[I", true), ("WrongRoomModel", "bestPaired", "I", false), ("WrongRoomModel", "bestMany", "I", false), ("WrongRoomModel", "far", "[I", true), ("WrongRoomModel", "seedNow", "I", false), ("WrongRoom$Town", "houses", "[LWrongRoom$House;", true), ("WrongRoom$Town", "people", "[LWrongRoom$Person;", true), ("WrongRoom$Town", "notices", "[LWrongRoom$Notice;", true), ("WrongRoom$Town", "streets", "[I", true), ("WrongRoom$Town", "door", "I", false), ("WrongRoom$Town", "like", "I", false), ("WrongRoom$Town", "houseMany", "I", false), ("WrongRoom$Town", "hoursMany", "I", false), ("WrongRoom$Town", "streetMany", "I", false), ("WrongRoom$Town", "personMany", "I", false), ("WrongRoom$Town", "signMany", "I", false), ("WrongRoom$Town", "noiseMany", "I", false), ("WrongRoom$Named", "name", "Ljava/lang/String;", true), ("WrongRoom$Named", "number", "I", true), ("WrongRoom$House", "smell", "Ljava/lang/String;", false), ("WrongRoom$House", "rooms", "I", false), ("WrongRoom$House", "rent", "I", false), ("WrongRoom$House", "bill", "I", false), ("WrongRoom$House", "from", "I", false), ("WrongRoom$House", "to", "I", false), ("WrongRoom$House", "wrong", "I", false), ("WrongRoom$House", "hours", "Z", false), ("WrongRoom$House", "lent", "Z", false), ("WrongRoom$Person", "home", "I", false), ("WrongRoom$Person", "at", "I", false), ("WrongRoom$Notice", "house", "I", true), ("WrongRoom$Sign", "smell", "Ljava/lang/String;", true), ("WrongRoom$Noise", "rooms", "I", true), ("WrongRoomModel$Town", "door", "I", false), ("WrongRoomModel$Town", "like", "I", false), ("WrongRoomModel$Town", "houses", "I", false), ("WrongRoomModel$Town", "known", "I", false), ("WrongRoomModel$Town", "hours", "I", false), ("WrongRoomModel$Town", "streets", "I", false), ("WrongRoomModel$Town", "people", "I", false), ("WrongRoomModel$Town", "signs", "I", false), ("WrongRoomModel$Town", "noises", "I", false), ("WrongRoomModel$Town", "names", "I", false), ("WrongRoomModel$Town", "rooms", "[I", true), ("WrongRoomModel$Town", "rent", "[I", true), ("WrongRoomModel$Town", "bill", "[I", true), ("WrongRoomModel$Town", "wrong", "[I", true), ("WrongRoomModel$Town", "opens", "[I", true), ("WrongRoomModel$Town", "shuts", "[I", true), ("WrongRoomModel$Town", "smell", "[J", true), ("WrongRoomModel$Town", "minutes", "[I", true), ("WrongRoomModel$Town", "home", "[I", true), ("WrongRoomModel$Town", "at", "[I", true), ("WrongRoomModel$Town", "signOf", "[I", true), ("WrongRoomModel$Town", "noiseOf", "[I", true), ("WrongRoomModel$Town", "noise", "[I", true), ("WrongRoomModel$Town", "sign", "[J", true), ("WrongRoomModel$Town", "name", "[J", true), ("WrongRoomModel$Town", "nameSort", "[I", true), ("WrongRoomModel$Town", "numberOf", "[I", true), ("java/lang/String", "value", "[B", true), ("java/lang/String", "coder", "B", true), ("java/lang/String", "hash", "I", false), ("java/lang/String", "hashIsZero", "Z", false)]
def xlayT : List (List Nat) := [[421, 423, 425, 427, 429, 431, 433, 435, 437, 439, 441, 443, 445, 447, 449, 451, 453, 455, 457, 459, 461], [240, 242, 244, 246, 248, 250, 252, 254, 256, 258, 260], [166, 168, 170, 172, 174, 224, 216, 218], [281, 283, 285, 287, 289], [307, 309, 311, 313, 315, 317, 319, 321], [], [], [355, 357, 359, 361, 363, 365, 367], [387, 389, 391, 393, 395, 397], [1442, 1444, 1446, 1448, 1450, 1452, 1454, 1456, 1458, 1460, 1462, 1464, 1466, 1468, 1470, 1472, 1474, 1476, 1478, 1480, 1482, 1484, 1486, 1488, 1490, 1492, 1494, 1496, 1498, 1500, 1502, 1504, 1506, 1508, 1510, 1512, 1514, 1516, 1518], [544, 546, 548, 550, 552, 554, 556, 558, 560, 562, 564, 566], [840, 842, 822, 824, 826, 828, 830, 832, 834, 836, 838], [899, 900, 895, 897], [923, 921], [947, 945], [1591, 1593, 1595, 1597, 1599, 1601, 1603, 1605, 1607, 1609, 1611, 1613, 1615, 1617, 1619, 1621, 1623, 1625, 1627, 1629, 1631, 1633, 1635, 1637, 1639, 1641, 1643], [650, 652, 654, 656], []]
/-! THE MINI-MACHINE IS SOUND, 5: fields -/
set_option maxRecDepth 100000
set_option maxHeartbeats 4000000
/-- what the tables say of a field's name in a class's table -/
def xfd (c k : Nat) : String × String × String × Bool := match xcl[c]? with
  | some q => q.2.1 k
  | none => ("", "", "", false)
/-- a row for each field: where it is declared, its name, its descriptor, final -/
def xfr (f : Nat) : String × String × String × Bool := xnth ("", "", "", false) xfrT f
/-- the tables of the classes and mine agree -/
def xtabOK : Bool := (List.range 18).all fun c => match xcl[c]? with
  | some q => decide (q.2.2 = (xcf c).length) && (List.range (xcf c).length).all fun k => decide (q.2.1 k = xfr (xnth 0 (xcf c) k))
  | none => false
theorem xtab_ok : xtabOK = true := by decide +kernel
theorem xnth_get {α : Type} (d : α) : ∀ (l : List α) (k : Nat) (a : α), l[k]? = some a → xnth d l k = a := by
  intro l
  induction l with
  | nil => intro k a h; simp at h
  | cons b l ih =>
    intro k a h
    cases k with
    | zero => exact Option.some.inj h
    | succ k => exact ih k a h
theorem xtab {c : Nat} (hc : c < 18) : ∃ q : vw_C, xcl[c]? = some q ∧ q.2.2 = (xcf c).length ∧ ∀ k f : Nat, (xcf c)[k]? = some f → q.2.1 k = xfr f := by
  have h1 := List.all_eq_true.mp xtab_ok c (List.mem_range.mpr hc)
  split at h1
  · next q hq =>
    simp only [Bool.and_eq_true, decide_eq_true_eq] at h1
    refine ⟨q, hq, h1.1, fun k f hk => ?_⟩
    have h2 := List.all_eq_true.mp h1.2 k (List.mem_range.mpr (List.getElem?_eq_some_iff.mp hk).1)
    simp only [decide_eq_true_eq] at h2
    rw [h2, xnth_get 0 _ k f hk]
  · cases h1
theorem xhas_get {c f : Nat} (h : xhas c f = true) : ∃ k : Nat, (xcf c)[k]? = some f := by
  obtain ⟨g, h1, h2⟩ := List.any_eq_true.mp h
  have e : g = f := Nat.eq_of_beq_eq_true h2
  subst e
  exact List.getElem?_of_mem h1
/-- every class's field words ride in lw_all -/
def xlayOK : Bool := (List.range 18).all fun c => match xcl[c]? with
  | some q => (List.range q.2.2).all fun k => (xnth [] xlayT c).length == q.2.2 && (match lw_tbl[xnth 0 (xnth [] xlayT c) k]? with
    | some w => decide (w = u_lay q.1 q.2.1 k) && goodWord w
    | none => false)
  | none => false
theorem xlay_ok : xlayOK = true := by decide +kernel
theorem xlays {c : Nat} {q : vw_C} (hq : xcl[c]? = some q) : ∀ w ∈ u_ws q.1 q.2.1 q.2.2, w ∈ lw_all := by
  intro w hw
  obtain ⟨k, hk, rfl⟩ := List.mem_map.mp hw
  have hc : c < 18 := (List.getElem?_eq_some_iff.mp hq).1
  have h1 := List.all_eq_true.mp xlay_ok c (List.mem_range.mpr hc)
  rw [hq] at h1
  have h2 := List.all_eq_true.mp h1 k hk
  simp only [Bool.and_eq_true] at h2
  obtain ⟨-, h2⟩ := h2
  split at h2
  · next w' hw' =>
    simp only [Bool.and_eq_true, decide_eq_true_eq] at h2
    rw [← h2.1]
    exact List.mem_filter.mpr ⟨List.mem_of_getElem? hw', h2.2⟩
  · cases h2
theorem xkn {s0 s : State} {A0 : Array Value} {D : va_G} {ta : Nat → ClassId} {l : Launch} (G : XG s0 A0 D ta l) (hW : s0.WarmedH s.vm) {c : Nat} {q : vw_C} (hq : xcl[c]? = some q) : u_Kn s q.1 q.2.1 q.2.2 (D.1 c) (D.2 c) := u_Kn_moved hW.alike (G.2.1 c q hq)
/-- where the link of a field leads, and whether what the class has of that name is that field -/
def xlink (own : String) (index : Nat) (f : Nat) (A : Array Value) (s : State) : Prop := ∃ (ref : String), ((Cond.fieldLink own index ref (xfr f).2.1 (xfr f).2.2.1).before A s = true ∨ ∃ host : String, (Cond.fieldLinkNest own index ref (xfr f).2.1 (xfr f).2.2.1 host).before A s = true) ∧
  ∀ x, s.fieldFound? (xfr f).1 (xfr f).2.1 (xfr f).2.2.1 = some x → s.fieldFound? ref (xfr f).2.1 (xfr f).2.2.1 = some x
def LinkOK (s0 : State) (A0 : Array Value) (own : String) (index f : Nat) : Prop := ∀ (s : State) (A : Array Value), (∀ w ∈ lw_tbl, w.before A0 s0 = true) → s0.WarmedH s.vm → (∀ w ∈ lw_all, w.before A s = true) → xlink own index f A s
theorem lk_f {s0 : State} {A0 : Array Value} {own : String} {index f : Nat} (q : Cond.fieldLink own index (xfr f).1 (xfr f).2.1 (xfr f).2.2.1 ∈ lw_all) : LinkOK s0 A0 own index f := fun s A h0 hW hts => ⟨_, Or.inl (hts _ q), fun x hx => hx⟩
theorem lk_s {s0 : State} {A0 : Array Value} {own ref : String} {index f : Nat} (q : Cond.fieldLink own index ref (xfr f).2.1 (xfr f).2.2.1 ∈ lw_all) (q2 : Cond.sameField ref (xfr f).1 (xfr f).2.1 (xfr f).2.2.1 ∈ lw_all) : LinkOK s0 A0 own index f := fun s A h0 hW hts => ⟨_, Or.inl (hts _ q), fun x hx => u_same (hts _ q2) x hx⟩
theorem lk_n {s0 : State} {A0 : Array Value} {own host : String} {index f : Nat} (q : Cond.fieldLinkNest own index (xfr f).1 (xfr f).2.1 (xfr f).2.2.1 host ∈ lw_tbl) : LinkOK s0 A0 own index f := fun s A h0 hW hts => ⟨_, Or.inr ⟨host, va_Nw.use rfl (va_Nw.warmF hW (va_Nw.of rfl (h0 _ q)))⟩, fun x hx => hx⟩
theorem xget_W {s0 : State} {A0 : Array Value} {D : va_G} {ta : Nat → ClassId} {l : Launch} {M pc : Nat} {p : Program} {e : Env} {R : Room} {s : State} {m : MethodId} {args : Array Value} {below : List Frame} {meth : Method} {c : Code} {H : Heap} {locs : List Loc} {cells slots : Nat} {Q : State → Prop} {lsM : Array Slot} {rest : List Value} {h : XH} {a : Int} {f index : Nat}
    (G : XG s0 A0 D ta l) (F : XF s0 M p s m args meth c) (L : LinkOK s0 A0 (xname M).cls index f) (hR : XRel s0 D ta h H) (hf : xIsF h a f) (d : decode (xbytes M) pc = .ok (.getfield index, 3))
    (k : xkok (xfk f) (xfl h a f) → W p l e R s m args below meth c H locs cells slots Q (F0 m (pc + 3) lsM (xkv (xfk f) (xfl h a f) :: rest))) : W p l e R s m args below meth c H locs cells slots Q (F0 m pc lsM (xrv a :: rest)) := by
  obtain ⟨w, cc, ht, hh⟩ := hf
  obtain ⟨b, cell, e1, e2, -, y1, y2, y3, y4, y5, y6⟩ := hR.2.2.2.1 a _ ht
  obtain ⟨j, hj⟩ := xhas_get hh
  obtain ⟨z1, z2⟩ := y6 j f hj
  obtain ⟨q, q1, q2, q3⟩ := xtab y5
  have hjN : j < q.2.2 := by rw [q2]; exact (List.getElem?_eq_some_iff.mp hj).1
  have hW := F.2.2.2.2.2.2.2.2.1
  have hts := F.2.2.2.2.2.2.2.1
  obtain ⟨hS, hfc, kC, hkC, hkind⟩ := xkn G hW q1
  obtain ⟨cf, kf, fi, fd, hi, hsl⟩ := hS j hjN
  have hst := (u_facts hfc hkC (u_lays hts (xlays q1) hjN) hi).1
  rw [q3 j f hj] at hi
  obtain ⟨ref, hl, hsame⟩ := L s args G.1 hW hts
  rw [xrv_pos e1]
  rcases hl with hl | ⟨host, hl⟩
  · exact W.getf F.1 F.2.1 F.2.2.2.2.2.1 hl (hsame _ hi) hst e2 y1 (by rw [hsl]; exact z1) rfl rfl d (k z2)
  · exact va_Wgetf F.1 F.2.1 F.2.2.2.2.2.1 hl (hsame _ hi) hst e2 y1 (by rw [hsl]; exact z1) rfl rfl d (k z2)
