/-! THE MODEL's WORLD: one object with 83 fields, 33 int arrays, the row of its nine words -/
/-- its state: the int fields, the contents of the int arrays (both by the number of the field) -/
abbrev MSt : Type := (Nat → Int32) × (Nat → Nat → Int32)
/-- what a field is: 0 an int, 1 an int array, 2 the words, 3 a boolean -/
def mkd : List Nat := [2, 0, 1, 0, 1, 0, 0, 0, 0, 0, 0, 0, 0, 0, 0, 3, 1, 1, 1, 1, 0, 1, 1, 1, 1, 1, 1, 0, 1, 0, 1, 1, 1, 1, 1, 1, 1, 1, 1, 0, 1, 1, 1, 0, 1, 1, 1, 1, 0, 1, 1, 0, 0, 0, 0, 0, 3, 0, 1, 0, 0, 0, 0, 0, 0, 0, 0, 0, 0, 0, 0, 0, 0, 0, 1, 0, 0, 0, 0, 0, 0, 0, 0]
def mK (k : Nat) : Nat := mkd.getD k 9
/-- how long an array is -/
def mld : List Nat := [9, 0, 4000, 0, 4000, 0, 0, 0, 0, 0, 0, 0, 0, 0, 0, 0, 96, 8, 8, 64, 0, 1200, 100, 100, 100, 100, 100, 0, 20, 0, 140000, 140000, 140000, 140000, 140000, 140000, 140000, 140000, 140000, 0, 140000, 140000, 50, 0, 80000, 80000, 80000, 80000, 0, 21000, 21000, 0, 0, 0, 0, 0, 0, 0, 4000, 0, 0, 0, 0, 0, 0, 0, 0, 0, 0, 0, 0, 0, 0, 0, 3000, 0, 0, 0, 0, 0, 0, 0, 0]
def mL (k : Nat) : Nat := mld.getD k 0
def inB (i : Int32) (n : Nat) : Bool := !(decide (i < 0)) && decide (i.toNatClampNeg < n)
theorem inB_in {i : Int32} {n : Nat} (h : inB i n = true) : vp_in i n := by
  unfold inB at h
  simp only [Bool.and_eq_true, Bool.not_eq_true', decide_eq_false_iff_not, decide_eq_true_eq] at h
  intro q
  rcases q with q | q
  · exact h.1 q
  · omega
def mget (k : Nat) (i : Int32) (st : MSt) : Option Int32 := if inB i (mL k) then some (st.2 k i.toNatClampNeg) else none
def mset (k : Nat) (i x : Int32) (st : MSt) : Option MSt := if inB i (mL k) then some (st.1, va_up st.2 k (upd (st.2 k) i.toNatClampNeg x)) else none
def mput (k : Nat) (x : Int32) (st : MSt) : MSt := (upd st.1 k x, st.2)
def mputz (k : Nat) (x : Int32) (st : MSt) : Option MSt := if x = 0 ∨ x = 1 then some (upd st.1 k x, st.2) else none
def mval (ad : Nat → Nat) (st : MSt) (k : Nat) : Value := if mK k = 1 ∨ mK k = 2 then .ref (ad k) else .int (st.1 k)
/-- a text lies in the cells: a String at a, Latin-1, of the bytes t -/
def Old (H0 H : Heap) : Prop := H0.size ≤ H.size ∧ ∀ q : Nat, q < H0.size → H[q]? = H0[q]?
/-- the model's cells: the constants of its place -/
abbrev MPl : Type := Heap × ClassId × (Nat → Nat) × ClassId × ClassId × Nat × (Nat → Nat) × (Nat → Nat)
abbrev MPl.h0 (P : MPl) : Heap := P.1
abbrev MPl.cM (P : MPl) : ClassId := P.2.1
abbrev MPl.iM (P : MPl) : Nat → Nat := P.2.2.1
abbrev MPl.cI (P : MPl) : ClassId := P.2.2.2.1
abbrev MPl.cW (P : MPl) : ClassId := P.2.2.2.2.1
abbrev MPl.mo (P : MPl) : Nat := P.2.2.2.2.2.1
abbrev MPl.ad (P : MPl) : Nat → Nat := P.2.2.2.2.2.2.1
abbrev MPl.wa (P : MPl) : Nat → Nat := P.2.2.2.2.2.2.2
def RepM (P : MPl) (st : MSt) (H : Heap) : Prop :=
  Old P.h0 H ∧ t_OB P.mo P.cM 83 P.iM H (mval P.ad st) ∧ (∀ k, mK k = 1 → H[P.ad k]? = some (arrV P.cI (mL k) (fun j => .int (st.2 k j)))) ∧ H[P.ad 0]? = some (arrV P.cW 9 (fun j => .ref (P.wa j)))
/-- the cells that the model writes -/
def freeM (P : MPl) (q : Nat) : Prop := q = P.mo ∨ ∃ k, mK k = 1 ∧ q = P.ad k
/-- they are apart, and none is old -/
def MPl.ok (P : MPl) : Prop := P.h0.size ≤ P.mo ∧ (∀ k, mK k = 1 ∨ mK k = 2 → P.h0.size ≤ P.ad k ∧ P.ad k ≠ P.mo) ∧ ∀ k j, (mK k = 1 ∨ mK k = 2) → (mK j = 1 ∨ mK j = 2) → P.ad k = P.ad j → k = j
/-- what the tables say, at the law's start s0 -/
def MTab (P : MPl) (s0 : State) : Prop := (∀ w ∈ lw_tbl, va_Nw w s0) ∧ u_Kn s0 RX5 TX5 83 P.cM P.iM ∧ ArrOfT s0 P.cI .int
