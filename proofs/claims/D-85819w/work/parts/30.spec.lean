/-! THE SPEC: the house as total functions over trees; trees are core's Std.Format, read as NOTES.md says -/
abbrev V : Type := Std.Format
/-- counters: work, life, spent by sort, outs, the bytes told, new names -/
abbrev KS : Type := Nat × Nat × (Nat → Nat) × Nat × (Nat → Nat) × Nat
abbrev KS.work (K : KS) : Nat := K.1
abbrev KS.life (K : KS) : Nat := K.2.1
abbrev KS.sp (K : KS) : Nat → Nat := K.2.2.1
abbrev KS.outs (K : KS) : Nat := K.2.2.2.1
abbrev KS.out (K : KS) : Nat → Nat := K.2.2.2.2.1
abbrev KS.fr (K : KS) : Nat := K.2.2.2.2.2
/-- what is known all through a statement: the limit; values and names of the context; names of the sorts -/
abbrev SX : Type := Nat × (Nat → Option V) × (Nat → List Nat) × (Nat → List Nat)
abbrev SX.lim (X : SX) : Nat := X.1
abbrev SX.val (X : SX) : Nat → Option V := X.2.1
abbrev SX.nm (X : SX) : Nat → List Nat := X.2.2.1
abbrev SX.sn (X : SX) : Nat → List Nat := X.2.2.2
abbrev SR (α : Type) : Type := KS × Except Nat α
def sBind {α β : Type} (r : SR α) (f : α → KS → SR β) : SR β := match r with
  | (K, .ok a) => f a K
  | (K, .error e) => (K, .error e)
def sSpend (X : SX) (c : Nat) (K : KS) : SR Unit :=
  if K.work = X.lim then (K, .error 12) else if K.life = 60000 then (K, .error 14)
  else ((K.work + 1, K.life + 1, (fun j => if j = c then K.sp c + 1 else K.sp j), K.2.2.2), .ok ())
def sSpendN (X : SX) (c : Nat) : Nat → KS → SR Unit
  | 0, K => (K, .ok ())
  | n + 1, K => sBind (sSpend X c K) (fun _ K => sSpendN X c n K)
/-- lists and environments -/
def vget : V → Nat → V
  | .append v _, 0 => v
  | .append _ r, i + 1 => vget r i
  | _, _ => .line
def vdrop : Nat → V → V
  | 0, r => r
  | m + 1, .append _ r => vdrop m r
  | _ + 1, _ => .nil
def vlen : V → Nat
  | .append _ r => vlen r + 1
  | _ => 0
abbrev vClo (t r : V) : V := .tag 3 (.append t r)
abbrev vLoc (i : Nat) : V := .tag i (.align false)
def vmapC (r : V) : V → List V
  | .append p ps => vClo p r :: vmapC r ps
  | _ => []
def vlist : List V → V
  | [] => .nil
  | x :: xs => .append x (vlist xs)
/-- what only moves the term further out or in -/
def sUnw : V → V → V × V
  | .group (.tag m t) .allOrNone, r => sUnw t (vdrop m r)
  | .group t .fill, r => sUnw t (.append .line r)
  | t, r => (t, r)
/-- the head: a closure (unwrapped), or a name that is put for nothing; what it is applied to -/
def sHead (X : SX) : Nat → V → V → List V → KS → SR (V × List V)
  | 0, t, r, as, K => (K, .ok (vClo t r, as))
  | n + 1, t0, r0, as, K => match sUnw t0 r0 with
    | (.tag k .line, r) => match vget r k with
      | .tag i (.align false) => (K, .ok (vLoc i, as))
      | .tag 3 (.append t' r') => sBind (sSpend X 4 K) (fun _ K => sHead X n t' r' as K)
      | v => (K, .ok (v, as))
    | (.tag k .nil, r) => match X.val k with
      | none => (K, .ok (vClo (.tag k .nil) r, as))
      | some t' => sBind (sSpend X 1 K) (fun _ K => sHead X n t' .nil as K)
    | (.tag 0 (.append d b), r) => match as with
      | [] => (K, .ok (vClo (.tag 0 (.append d b)) r, []))
      | a :: as' => sBind (sSpend X 0 K) (fun _ K => sHead X n b (.append a r) as' K)
    | (.tag 1 (.append v b), r) => sBind (sSpend X 2 K) (fun _ K => sHead X n b (.append (vClo v r) r) as K)
    | (.tag 2 (.append f ps), r) => sBind (sSpendN X 3 (vlen ps) K) (fun _ K => sHead X n f r (vmapC r ps ++ as) K)
    | (t, r) => (K, .ok (vClo t r, as))
/-- the head of a value -/
def sHd (X : SX) (v : V) (K : KS) : SR (V × List V) := match v with
  | .tag 3 (.append t r) => sHead X 60001 t r [] K
  | v => (K, .ok (v, []))
/-- the two parts of a head that binds, its sort of binder (none: it binds nothing) -/
def sBinds (v : V) : Option (Bool × Nat × V × V × V) := match v with
  | .tag 3 (.append (.tag 0 (.append d b)) r) => some (true, 0, d, b, r)
  | .tag 3 (.append (.tag p (.group (.append d c) .fill)) r) => some (false, p, d, c, r)
  | _ => none
def sFront (x y : V) : Bool := match x, y with
  | .tag i (.align false), .tag j (.align false) => i == j
  | .tag 3 (.append (.tag k .nil) _), .tag 3 (.append (.tag l .nil) _) => k == l
  | .tag 3 (.append (.tag k (.align true)) _), .tag 3 (.append (.tag l (.align true)) _) => k == l
  | _, _ => false
def sAll (f : V → V → KS → SR Bool) : List V → List V → KS → SR Bool
  | x :: xs, y :: ys, K => sBind (f x y K) (fun b K => if b then sAll f xs ys K else (K, .ok false))
  | _, _, K => (K, .ok true)
def sSame (X : SX) : Nat → V → V → KS → SR Bool
  | 0, _, _, K => (K, .error 13)
  | d + 1, a, b, K => sBind (sSpend X 5 K) fun _ K => sBind (sHd X a K) fun x K => sBind (sHd X b K) fun y K =>
    match sBinds x.1, sBinds y.1 with
    | some (l, _, dx, bx, rx), some (m, _, dy, by', ry) => if l = m then sBind (sSame X d (vClo dx rx) (vClo dy ry) K) fun r K =>
        if r then
          let v := vLoc (1000 + K.fr)
          sSame X d (vClo bx (.append v rx)) (vClo by' (.append v ry)) (K.1, K.2.1, K.2.2.1, K.2.2.2.1, K.2.2.2.2.1, K.fr + 1)
        else (K, .ok false)
      else (K, .ok false)
    | none, none => if sFront x.1 y.1 && x.2.length == y.2.length then sAll (sSame X d) x.2 y.2 K else (K, .ok false)
    | _, _ => (K, .ok false)
def sMap (f : V → KS → SR V) : List V → KS → SR V
  | [], K => (K, .ok .nil)
  | x :: xs, K => sBind (f x K) fun t K => sBind (sMap f xs K) fun ts K => (K, .ok (.append t ts))
def sNorm (X : SX) : Nat → Nat → V → KS → SR V
  | 0, _, _, K => (K, .error 13)
  | d + 1, dep, c, K => sBind (sSpend X 5 K) fun _ K => sBind (sHd X c K) fun x K =>
    match sBinds x.1 with
    | some (l, p, dx, bx, r) => sBind (sNorm X d dep (vClo dx r) K) fun t K => sBind (sNorm X d (dep + 1) (vClo bx (.append (vLoc dep) r)) K) fun u K =>
        (K, .ok (if l then .tag 0 (.append t u) else .tag p (.group (.append t u) .fill)))
    | none =>
      let f : V := match x.1 with
        | .tag i (.align false) => .tag (dep - 1 - i) .line
        | .tag 3 (.append t _) => t
        | t => t
      if x.2.isEmpty then (K, .ok f) else sBind (sMap (fun c K => sNorm X d dep c K) x.2 K) fun ps K => (K, .ok (.tag 2 (.append f ps)))
def sPut (c : Nat) (K : KS) : KS := (K.1, K.2.1, K.2.2.1, K.outs + 1, (fun j => if j = K.outs then c else K.out j), K.fr)
def sPuts : List Nat → KS → KS
  | [], K => K
  | c :: cs, K => sPuts cs (sPut c K)
def sNum : Nat → Nat → KS → KS
  | 0, _, K => K
  | n + 1, v, K => sPut (48 + v % 10) (if 9 < v then sNum n (v / 10) K else K)
def sName (X : SX) (v : V) (K : KS) : KS := match v with
  | .tag i (.align false) => sNum 12 i (sPut 95 K)
  | .tag 3 (.append (.tag k .nil) _) => sPuts (X.nm k) K
  | .tag 3 (.append (.tag s (.align true)) _) => sPuts (X.sn s) K
  | _ => K
def sEach (f : V → KS → SR Unit) : List V → KS → SR Unit
  | [], K => (K, .ok ())
  | x :: xs, K => sBind (f x (sPut 32 K)) fun _ K => sEach f xs K
/-- told, with n binders around; parts, binds: in ( ) if it has parts, if it binds -/
def sTell (X : SX) : Nat → V → Nat → Bool → Bool → KS → SR Unit
  | 0, _, _, _, _, K => (K, .error 13)
  | d + 1, c, n, parts, binds, K => sBind (sSpend X 5 K) fun _ K => sBind (sHd X c K) fun x K =>
    match sBinds x.1 with
    | some (l, _, dx, bx, r) =>
      let K := if binds then sPut 40 K else K
      let K := sPut 58 (sNum 12 n (sPut 95 (sPut (if l then 92 else 33) K)))
      sBind (sTell X d (vClo dx r) n false true K) fun _ K =>
        sBind (sTell X d (vClo bx (.append (vLoc n) r)) (n + 1) false false (sPut 46 K)) fun _ K => (if binds then sPut 41 K else K, .ok ())
    | none =>
      let br := parts && !x.2.isEmpty
      let K := if br then sPut 40 K else K
      sBind (sEach (fun c K => sTell X d c n true true K) x.2 (sName X x.1 K)) fun _ K => (if br then sPut 41 K else K, .ok ())
