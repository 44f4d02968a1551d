/-! THE SPEC: reading. A text: its bytes, its size. A token: its sort (0 name, 1 kept word, 2 sign, 3 long, 4 bad, 5 end), place, sign, what comes next -/
abbrev TX : Type := (Nat → Nat) × Nat
abbrev TK : Type := Nat × Nat × Nat × Nat
abbrev TK.ki (t : TK) : Nat := t.1
abbrev TK.pl (t : TK) : Nat := t.2.1
abbrev TK.sg (t : TK) : Nat := t.2.2.1
abbrev TK.nx (t : TK) : Nat := t.2.2.2
def tbyte (t : TX) (k : Nat) : Nat := if k < t.2 then t.1 k else 0
def isLet (c : Nat) : Bool := (decide (97 ≤ c) && decide (c ≤ 122)) || (decide (65 ≤ c) && decide (c ≤ 90))
def isMor (c : Nat) : Bool := isLet c || (decide (48 ≤ c) && decide (c ≤ 57)) || c == 39
/-- the first place from k on where p does not hold -/
def sRun (t : TX) (p : Nat → Bool) : Nat → Nat → Nat
  | 0, k => k
  | n + 1, k => if k < t.2 ∧ p (tbyte t k) = true then sRun t p n (k + 1) else k
def sSkip (t : TX) : Nat → Nat → Bool × Nat
  | 0, k => (false, k)
  | n + 1, k => if k < t.2 then
      if tbyte t k = 10 ∨ tbyte t k = 32 then sSkip t n (k + 1)
      else if tbyte t k = 123 then
        let e := sRun t (fun c => c != 125) t.2 (k + 1)
        if e = t.2 then (true, k) else sSkip t n (e + 1)
      else (false, k)
    else (false, k)
/-- the bytes of the name at k: at most twelve -/
def tname (t : TX) (k : Nat) : List Nat := (List.range (min 12 (sRun t isMor t.2 k - k))).map (fun i => tbyte t (k + i))
/-- the kept words -/
def kept : List (List Nat) := [[115, 111, 114, 116], [97, 120, 105, 111, 109], [114, 117, 108, 101], [99, 104, 101, 99, 107], [110, 111, 114, 109], [115, 97, 109, 101], [104, 101, 97, 100], [108, 101, 116], [105, 110]]
def sGo (t : TX) (nx : Nat) : TK :=
  let q := sSkip t (t.2 + 1) nx
  let p := q.2
  let c := tbyte t p
  if q.1 then (4, p, 0, p) else if t.2 ≤ p then (5, p, 0, p)
  else if isLet c then
    let e := sRun t isMor t.2 p
    (if 12 < e - p then 3 else if kept.contains (tname t p) then 1 else 0, p, 0, e)
  else
    let arrow := c == 45 && tbyte t (p + 1) == 62
    let is' := c == 58 && tbyte t (p + 1) == 61
    (if arrow || [92, 33, 58, 46, 59, 61, 40, 41].contains c then 2 else 4, p, if arrow then 256 else if is' then 257 else c, p + if arrow || is' then 2 else 1)
abbrev RR (α : Type) : Type := Except (Nat × Int) (α × TK)
def rBind {α β : Type} (r : RR α) (f : α → TK → RR β) : RR β := match r with
  | .ok (a, k) => f a k
  | .error e => .error e
def rWrong {α : Type} (k : TK) : RR α := .error (if k.ki = 3 then 2 else 1, k.pl)
def isSg (k : TK) (s : Nat) : Bool := k.ki == 2 && k.sg == s
def isWd (t : TX) (k : TK) (w : Nat) : Bool := k.ki == 1 && kept[w]? == some (tname t k.pl)
def rNeed (t : TX) (s : Nat) (k : TK) : RR Nat := if isSg k s then .ok (k.pl, sGo t k.nx) else rWrong k
/-- a name: its place -/
def rName (t : TX) (k : TK) : RR Nat := if k.ki = 0 then .ok (k.pl, sGo t k.nx) else rWrong k
/-- the place of a binder's name (none: an arrow's), the nearest first -/
def rFind (t : TX) (w : List Nat) : List (Option Nat) → Nat → Option Nat
  | [], _ => none
  | some p :: r, i => if tname t p = w then some i else rFind t w r (i + 1)
  | none :: r, i => rFind t w r (i + 1)
def rVar (t : TX) (bs : List (Option Nat)) (p : Nat) : V := match rFind t (tname t p) bs 0 with
  | some i => .tag p (.tag i .line)
  | none => .tag p (.tag p .nil)
def refrom (f : Nat) : V → V
  | .tag _ x => .tag f x
  | v => v
def rAtom (t : TX) (tm : List (Option Nat) → TK → RR V) (bs : List (Option Nat)) (k : TK) : RR V :=
  if isSg k 40 then rBind (tm bs (sGo t k.nx)) fun v k1 => rBind (rNeed t 41 k1) fun _ k2 => .ok (refrom k.pl v, k2)
  else rBind (rName t k) fun p k1 => .ok (rVar t bs p, k1)
def rParts (t : TX) (tm : List (Option Nat) → TK → RR V) (bs : List (Option Nat)) : Nat → TK → RR V
  | 0, k => .ok (.nil, k)
  | n + 1, k => if k.ki = 0 ∨ isSg k 40 = true then rBind (rAtom t tm bs k) fun p k1 => rBind (rParts t tm bs n k1) fun ps k2 => .ok (.append p ps, k2) else .ok (.nil, k)
def rUse (t : TX) (tm : List (Option Nat) → TK → RR V) (bs : List (Option Nat)) (k : TK) : RR V :=
  rBind (rAtom t tm bs k) fun f k1 => rBind (rParts t tm bs t.2 k1) fun ps k2 => match ps with
    | .append _ _ => .ok (.tag k.pl (.tag k.pl (.group (.group (.append f ps) .fill) .fill)), k2)
    | _ => .ok (f, k2)
/-- a term; n: how many more may stand around one another -/
def rTerm (t : TX) : Nat → List (Option Nat) → TK → RR V
  | 0, _, k => if k.ki = 5 then rWrong k else .error (2, k.pl)
  | n + 1, bs, k =>
    if isSg k 92 || isSg k 33 then
      rBind (rName t (sGo t k.nx)) fun x k1 => rBind (rNeed t 58 k1) fun _ k2 => rBind (rTerm t n bs k2) fun d k3 => rBind (rNeed t 46 k3) fun _ k4 =>
        rBind (rTerm t n (some x :: bs) k4) fun b k5 => .ok (.tag k.pl (.tag k.pl (if k.sg = 92 then .append d b else .group (.append d b) .fill)), k5)
    else if isWd t k 7 then
      rBind (rName t (sGo t k.nx)) fun x k1 => rBind (rNeed t 257 k1) fun _ k2 => rBind (rTerm t n bs k2) fun v k3 =>
        if isWd t k3 8 then rBind (rTerm t n (some x :: bs) (sGo t k3.nx)) fun b k5 => .ok (.tag k.pl (.tag k.pl (.group (.append v b) .allOrNone)), k5) else rWrong k3
    else rBind (rUse t (rTerm t n) bs k) fun v k1 => if isSg k1 256 then rBind (rTerm t n (none :: bs) (sGo t k1.nx)) fun b k2 => .ok (.tag k.pl (.tag k1.pl (.group (.append v b) .fill)), k2) else .ok (v, k1)
/-- a statement: its kind (0 sort, 1 axiom, 2 rule, 3 tell, 4 check, 5 norm, 6 head, 7 same), place, the places of its names, type, term -/
abbrev ST : Type := Nat × Nat × List Nat × Option V × Option V
def rTell (t : TX) (k : TK) : RR ST := rBind (rName t k) fun x k1 =>
  if isSg k1 58 then rBind (rTerm t 40 [] (sGo t k1.nx)) fun ty k2 =>
    if isSg k2 257 then rBind (rTerm t 40 [] (sGo t k2.nx)) fun v k3 => .ok ((3, k.pl, [x], some ty, some v), k3) else .ok ((3, k.pl, [x], some ty, none), k2)
  else rBind (rNeed t 257 k1) fun _ k2 => rBind (rTerm t 40 [] k2) fun v k3 => .ok ((3, k.pl, [x], none, some v), k3)
def rStat (t : TX) (k : TK) : RR ST :=
  if k.ki = 0 then rTell t k
  else if isWd t k 0 then rBind (rName t (sGo t k.nx)) fun x k1 => .ok ((0, k.pl, [x], none, none), k1)
  else if isWd t k 1 then rBind (rName t (sGo t k.nx)) fun x k1 => rBind (rNeed t 58 k1) fun _ k2 => rBind (rName t k2) fun y k3 => .ok ((1, k.pl, [x, y], none, none), k3)
  else if isWd t k 2 then rBind (rName t (sGo t k.nx)) fun x k1 => rBind (rName t k1) fun y k2 => rBind (rName t k2) fun z k3 => .ok ((2, k.pl, [x, y, z], none, none), k3)
  else if isWd t k 3 then rBind (rTerm t 40 [] (sGo t k.nx)) fun v k1 => if isSg k1 58 then rBind (rTerm t 40 [] (sGo t k1.nx)) fun ty k2 => .ok ((4, k.pl, [], some ty, some v), k2) else .ok ((4, k.pl, [], none, some v), k1)
  else if isWd t k 4 then rBind (rTerm t 40 [] (sGo t k.nx)) fun v k1 => .ok ((5, k.pl, [], none, some v), k1)
  else if isWd t k 6 then rBind (rTerm t 40 [] (sGo t k.nx)) fun v k1 => .ok ((6, k.pl, [], none, some v), k1)
  else if isWd t k 5 then rBind (rTerm t 40 [] (sGo t k.nx)) fun v k1 => rBind (rNeed t 61 k1) fun _ k2 => rBind (rTerm t 40 [] k2) fun ty k3 => .ok ((7, k.pl, [], some ty, some v), k3)
  else rWrong k
def rAll (t : TX) : Nat → TK → Except (Nat × Int) (List ST)
  | 0, _ => .ok []
  | n + 1, k => if k.ki = 5 then .ok [] else match rStat t k with
    | .error e => .error e
    | .ok (s, k1) => match rNeed t 59 k1 with
      | .error e => .error e
      | .ok (_, k2) => match rAll t n k2 with
        | .error e => .error e
        | .ok l => .ok (s :: l)
def sRead (t : TX) : Except (Nat × Int) (List ST) := rAll t (t.2 + 1) (sGo t 0)
